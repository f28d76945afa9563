set_option maxRecDepth 100000
def f_X14_byTurns_b178 (K112 : Nat → Int32 → Int32 → Int32 → Int32 → Int32 → Int32 → ST → Option (Int32 × ST)) (r0 : Nat) (x1 : Int32) (x2 : Int32) (x3 : Int32) (x4 : Int32) (x5 : Int32) (x6 : Int32) (x7 : Int32) (s : ST) : Option (Int32 × ST) :=
  gd (r0 < s.1 ∧ (kd s r0).1 = 14) <|
  ob (f_X14_goesNext r0 x7 s) fun _ s181 =>
  bnd (x6 + 1 : Int32) fun v184 =>
  K112 r0 x1 x2 x3 x4 x5 v184 s181
def f_X14_byTurns_b147 (K112 : Nat → Int32 → Int32 → Int32 → Int32 → Int32 → Int32 → ST → Option (Int32 × ST)) : Nat → Nat → Int32 → Int32 → Int32 → Int32 → Int32 → Int32 → Int32 → ST → Option (Int32 × ST)
  | 0, _, _, _, _, _, _, _, _, _ => none
  | n + 1, r0, x1, x2, x3, x4, x5, x6, x7, s =>
  bnd (p_has x4 x5) fun v151 =>
  if v151 = 0 then (bnd (((x5 + 1) - (x5 + 1) / 8 * 8) : Int32) fun v164 =>
  f_X14_byTurns_b147 K112 n r0 x1 x2 x3 x4 v164 x6 x7 s) else bnd ((x7 ||| (1 <<< (x5 &&& 31))) : Int32) fun v176 =>
  f_X14_byTurns_b178 K112 r0 x1 x2 x3 x4 x5 x6 v176 s
def f_X14_byTurns_b112 : Nat → Nat → Int32 → Int32 → Int32 → Int32 → Int32 → Int32 → ST → Option (Int32 × ST)
  | 0, _, _, _, _, _, _, _, _ => none
  | n + 1, r0, x1, x2, x3, x4, x5, x6, s =>
  if x2 ≤ x6 then (gd (r0 < s.1 ∧ (kd s r0).1 = 14) <|
  bnd (pI s r0 1 0) fun s192 =>
  ob (f_X14_servedBy r0 x1 s192) fun v198 s198 =>
  gd (r0 < s198.1 ∧ (kd s198 r0).1 = 14) <|
  ob (f_X14_enters r0 (((v198 - x3) : Int32).toInt64) s198) fun _ s204 =>
  gd (r0 < s204.1 ∧ (kd s204 r0).1 = 14) <|
  ob (f_X14_servedBy r0 x1 s204) fun v209 s209 =>
  some (v209, s209)) else gd (r0 < s.1 ∧ (kd s r0).1 = 14) <|
  (gr s r0 11).bind fun q120 =>
  ob (f_X14_willing r0 q120 s) fun v123 s123 =>
  bnd ((v123 &&& (x4 ^^^ (-1))) : Int32) fun v131 =>
  if x4 = 0 then (f_X14_byTurns_b178 (f_X14_byTurns_b112 n) r0 x1 x2 x3 x4 x5 x6 v131 s123) else bnd (((x5 + 1) - (x5 + 1) / 8 * 8) : Int32) fun v145 =>
  f_X14_byTurns_b147 (f_X14_byTurns_b112 n) fuel r0 x1 x2 x3 x4 v145 x6 v131 s123
def f_X14_byTurns_b93 (K48 : Nat → Int32 → Int32 → Int32 → Int32 → Int32 → ST → Option (Int32 × ST)) (r0 : Nat) (x1 : Int32) (x2 : Int32) (x3 : Int32) (x5 : Int32) (t0 : Int32) (t1 : Int32) (s : ST) : Option (Int32 × ST) :=
  bnd ((t1 ||| t0) : Int32) fun v94 =>
  bnd (x5 + 1 : Int32) fun v96 =>
  K48 r0 x1 x2 x3 v94 v96 s
def f_X14_byTurns_b92 (K48 : Nat → Int32 → Int32 → Int32 → Int32 → Int32 → ST → Option (Int32 × ST)) (r0 : Nat) (x1 : Int32) (x2 : Int32) (x3 : Int32) (x5 : Int32) (t0 : Int32) (s : ST) : Option (Int32 × ST) :=
  f_X14_byTurns_b93 K48 r0 x1 x2 x3 x5 0 t0 s
def f_X14_byTurns_b48 : Nat → Nat → Int32 → Int32 → Int32 → Int32 → Int32 → ST → Option (Int32 × ST)
  | 0, _, _, _, _, _, _, _ => none
  | n + 1, r0, x1, x2, x3, x4, x5, s =>
  gd (r0 < s.1 ∧ (kd s r0).1 = 14) <|
  if (gi s r0 3) ≤ x5 then (ob (f_X14_starts r0 s) fun _ s103 =>
  f_X14_byTurns_b112 fuel r0 x1 x2 x3 x4 (-1) 0 s103) else (gr s r0 4).bind fun q60 =>
  gd (q60 < s.1 ∧ (kd s q60).1 = 100 ∧ ¬ ((x5 : Int32) < 0 ∨ (kd s q60).2 ≤ (x5 : Int32).toNatClampNeg)) <|
  if (gi s q60 (x5 : Int32).toNatClampNeg) = x1 then ((gr s r0 10).bind fun q71 =>
  gd (q71 < s.1 ∧ (kd s q71).1 = 100 ∧ ¬ ((16 : Int32) < 0 ∨ (kd s q71).2 ≤ (16 : Int32).toNatClampNeg)) <|
  bnd (p_has (gi s q71 (16 : Int32).toNatClampNeg) x5) fun v79 =>
  if v79 = 0 then (f_X14_byTurns_b92 (f_X14_byTurns_b48 n) r0 x1 x2 x3 x5 x4 s) else f_X14_byTurns_b93 (f_X14_byTurns_b48 n) r0 x1 x2 x3 x5 (1 <<< (x5 &&& 31)) x4 s) else f_X14_byTurns_b92 (f_X14_byTurns_b48 n) r0 x1 x2 x3 x5 x4 s
def f_X14_byTurns (o : Nat) (x1 : Int32) (x2 : Int32) (s : ST) : Option (Int32 × ST) :=
  gd (o < s.1 ∧ (kd s o).1 = 14) <|
  bnd (pI s o 0 0) fun s2 =>
  bnd (p_in ((x1 : Int32).toInt64) 0 3) fun v11 =>
  if v11 = 0 then (some ((-1), s2)) else ob (f_X14_areWeeks x2 s2) fun v18 s18 =>
  if v18 = 0 then (some ((-1), s18)) else gd (o < s18.1 ∧ (kd s18 o).1 = 14) <|
  ob (f_X14_starts o s18) fun _ s27 =>
  gd (o < s27.1 ∧ (kd s27 o).1 = 14) <|
  ob (f_X14_goesBy o x2 0 s27) fun _ s33 =>
  gd (o < s33.1 ∧ (kd s33 o).1 = 14) <|
  ob (f_X14_servedBy o x1 s33) fun v38 s38 =>
  f_X14_byTurns_b48 fuel o x1 x2 v38 0 0 s38
set_option maxHeartbeats 4000000 in
theorem ct_X14_byTurns (l : Launch) (G : GM) (a : Nat → Nat) (o : Nat) (x1 : Int32) (x2 : Int32) (s : ST) (rv : Int32) (sf : ST) (hf : f_X14_byTurns o x1 x2 s = some (rv, sf)) : MD l G yX14_byTurns (ws_ yX14_byTurns cX14_byTurns 8 (some .int)) 6 [.ref (a o), .int x1, .int x2] a s (some (.int rv)) sf := by
  refine md_of (d := 6) (lv := [(0, .ref (a o)), (1, .int x1), (2, .int x2)]) (Or.inl (by decide)) (Nat.le_of_ble_eq_true rfl) rfl ?_
  intro p e s0 m args below meth c ls A P hP hC hr hnm hW hl
  have hx := hC.1
  have hb := hC.2.1
  have hts := hC.2.2.2.2.1
  have B178 : ∀ (K112 : Nat → Int32 → Int32 → Int32 → Int32 → Int32 → Int32 → ST → Option (Int32 × ST)) (hK112 : ∀ (r0 : Nat) (x1 : Int32) (x2 : Int32) (x3 : Int32) (x4 : Int32) (x5 : Int32) (x6 : Int32) (s : ST), K112 r0 x1 x2 x3 x4 x5 x6 s = some (rv, sf) → ∀ (H : Heap) (locs : List Loc) (ls : Array Slot), lv_has ls 8 [(0, .ref (a r0)), (1, .int x1), (2, .int x2), (3, .int x3), (4, .int x4), (5, .int x5), (6, .int x6)] → AW G a A s s0.heap H locs → WB p l e (rmD 6) s0 m args below meth c H locs G A P 112 ls []), ∀ (r0 : Nat) (x1 : Int32) (x2 : Int32) (x3 : Int32) (x4 : Int32) (x5 : Int32) (x6 : Int32) (x7 : Int32) (s : ST), f_X14_byTurns_b178 K112 r0 x1 x2 x3 x4 x5 x6 x7 s = some (rv, sf) → ∀ (H : Heap) (locs : List Loc) (ls : Array Slot), lv_has ls 8 [(0, .ref (a r0)), (1, .int x1), (2, .int x2), (3, .int x3), (4, .int x4), (5, .int x5), (6, .int x6), (7, .int x7)] → AW G a A s s0.heap H locs → WB p l e (rmD 6) s0 m args below meth c H locs G A P 178 ls [] := by
    intro K112 hK112 r0 x1 x2 x3 x4 x5 x6 x7 s hf H locs ls hl hW
    unfold f_X14_byTurns_b178 at hf
    refine lv_aload_n hx hb dX14_byTurns_178 rfl (lv_at hl 0 rfl) ?_
    refine lv_iload hx hb dX14_byTurns_179 (lv_at hl 7 rfl) ?_
    obtain ⟨g181, hf⟩ := gd_some hf
    obtain ⟨_, s181, h181, hf⟩ := ob_some hf
    refine aw_dV0 (r := r0) (As := [.int x7]) (rest := []) (ct_X14_goesNext l G a r0 x7 s () s181 h181) hC hW hl.1 vy_X14_goesNext (Or.inl q1760) g181 rfl rfl rfl rfl (Nat.le_of_ble_eq_true rfl) ⟨Nat.le_of_ble_eq_true rfl, Nat.le_of_ble_eq_true rfl⟩ ⟨Nat.le_of_ble_eq_true rfl, Nat.le_of_ble_eq_true rfl⟩ dX14_byTurns_181 (fun H locs hW => ?_)
    obtain ⟨v184, ev184, hf⟩ := bnd_some hf
    refine lv_iinc (v := v184) (lv' := [(6, .int v184), (0, .ref (a r0)), (1, .int x1), (2, .int x2), (3, .int x3), (4, .int x4), (5, .int x5), (7, .int x7)]) hx hb dX14_byTurns_184 hl (k := 6) rfl (by rw [ev184]; rfl) (by decide) rfl (fun ls hl => ?_)
    refine lv_goto (tgt := 112) hx hb dX14_byTurns_187 (by decide) ?_
    exact hK112 r0 x1 x2 x3 x4 x5 v184 s181 hf _ _ _ (lv_sub hl [1, 2, 3, 4, 5, 6, 0] rfl) hW
  have B147 : ∀ (K112 : Nat → Int32 → Int32 → Int32 → Int32 → Int32 → Int32 → ST → Option (Int32 × ST)) (hK112 : ∀ (r0 : Nat) (x1 : Int32) (x2 : Int32) (x3 : Int32) (x4 : Int32) (x5 : Int32) (x6 : Int32) (s : ST), K112 r0 x1 x2 x3 x4 x5 x6 s = some (rv, sf) → ∀ (H : Heap) (locs : List Loc) (ls : Array Slot), lv_has ls 8 [(0, .ref (a r0)), (1, .int x1), (2, .int x2), (3, .int x3), (4, .int x4), (5, .int x5), (6, .int x6)] → AW G a A s s0.heap H locs → WB p l e (rmD 6) s0 m args below meth c H locs G A P 112 ls []), ∀ (n : Nat), ∀ (r0 : Nat) (x1 : Int32) (x2 : Int32) (x3 : Int32) (x4 : Int32) (x5 : Int32) (x6 : Int32) (x7 : Int32) (s : ST), f_X14_byTurns_b147 K112 n r0 x1 x2 x3 x4 x5 x6 x7 s = some (rv, sf) → ∀ (H : Heap) (locs : List Loc) (ls : Array Slot), lv_has ls 8 [(0, .ref (a r0)), (1, .int x1), (2, .int x2), (3, .int x3), (4, .int x4), (5, .int x5), (6, .int x6), (7, .int x7)] → AW G a A s s0.heap H locs → WB p l e (rmD 6) s0 m args below meth c H locs G A P 147 ls [] := by
    intro K112 hK112
    intro n
    induction n with
    | zero => intro r0 x1 x2 x3 x4 x5 x6 x7 s hf; cases hf
    | succ n ih =>
      intro r0 x1 x2 x3 x4 x5 x6 x7 s hf H locs ls hl hW
      rw [f_X14_byTurns_b147] at hf
      refine lv_iload hx hb dX14_byTurns_147 (lv_at hl 4 rfl) ?_
      refine lv_iload hx hb dX14_byTurns_149 (lv_at hl 5 rfl) ?_
      obtain ⟨v151, ev151, hf⟩ := bnd_some hf
      refine aw_dS1 (As := [.int x4, .int x5]) (rest := []) (pc_X14_has l G a x4 x5 s) hC hW hl.1 sy_X14_has (Or.inl q1626) rfl rfl (Nat.le_of_ble_eq_true rfl) ⟨Nat.le_of_ble_eq_true rfl, Nat.le_of_ble_eq_true rfl⟩ ⟨Nat.le_of_ble_eq_true rfl, Nat.le_of_ble_eq_true rfl⟩ dX14_byTurns_151 (fun H locs hW => ?_)
      refine top_i ev151 ?_
      refine lv_if_ne (tgt := 169) hx hb dX14_byTurns_154 (by decide) (fun c154 => ?_) (fun c154 => ?_)
      · have hf := ifn c154 hf
        refine lv_iload hx hb dX14_byTurns_169 (lv_at hl 7 rfl) ?_
        refine lv_iconst (v := 1) hx hb dX14_byTurns_171 (by decide) ?_
        refine lv_iload hx hb dX14_byTurns_172 (lv_at hl 5 rfl) ?_
        refine lv_ishl hx hb dX14_byTurns_174 ?_
        refine lv_ior hx hb dX14_byTurns_175 ?_
        obtain ⟨v176, ev176, hf⟩ := bnd_some hf
        refine top_i ev176 ?_
        refine lv_istore (lv' := [(7, .int v176), (0, .ref (a r0)), (1, .int x1), (2, .int x2), (3, .int x3), (4, .int x4), (5, .int x5), (6, .int x6)]) hx hb dX14_byTurns_176 hl (by decide) rfl (fun ls hl => ?_)
        exact B178 K112 hK112 r0 x1 x2 x3 x4 x5 x6 v176 s hf _ _ _ (lv_sub hl [1, 2, 3, 4, 5, 6, 7, 0] rfl) hW
      · have hf := ifp c154 hf
        refine lv_iload hx hb dX14_byTurns_157 (lv_at hl 5 rfl) ?_
        refine lv_iconst (v := 1) hx hb dX14_byTurns_159 (by decide) ?_
        refine lv_iadd hx hb dX14_byTurns_160 ?_
        refine lv_bipush (v := 8) hx hb dX14_byTurns_161 (by decide) ?_
        refine lv_irem hx hb dX14_byTurns_163 (by decide) ?_
        obtain ⟨v164, ev164, hf⟩ := bnd_some hf
        refine top_i ev164 ?_
        refine lv_istore (lv' := [(5, .int v164), (0, .ref (a r0)), (1, .int x1), (2, .int x2), (3, .int x3), (4, .int x4), (6, .int x6), (7, .int x7)]) hx hb dX14_byTurns_164 hl (by decide) rfl (fun ls hl => ?_)
        refine lv_goto (tgt := 147) hx hb dX14_byTurns_166 (by decide) ?_
        exact ih r0 x1 x2 x3 x4 v164 x6 x7 s hf _ _ _ (lv_sub hl [1, 2, 3, 4, 5, 0, 6, 7] rfl) hW
  have B112 : ∀ (n : Nat), ∀ (r0 : Nat) (x1 : Int32) (x2 : Int32) (x3 : Int32) (x4 : Int32) (x5 : Int32) (x6 : Int32) (s : ST), f_X14_byTurns_b112 n r0 x1 x2 x3 x4 x5 x6 s = some (rv, sf) → ∀ (H : Heap) (locs : List Loc) (ls : Array Slot), lv_has ls 8 [(0, .ref (a r0)), (1, .int x1), (2, .int x2), (3, .int x3), (4, .int x4), (5, .int x5), (6, .int x6)] → AW G a A s s0.heap H locs → WB p l e (rmD 6) s0 m args below meth c H locs G A P 112 ls [] := by
    intro n
    induction n with
    | zero => intro r0 x1 x2 x3 x4 x5 x6 s hf; cases hf
    | succ n ih =>
      intro r0 x1 x2 x3 x4 x5 x6 s hf H locs ls hl hW
      rw [f_X14_byTurns_b112] at hf
      refine lv_iload hx hb dX14_byTurns_112 (lv_at hl 6 rfl) ?_
      refine lv_iload_n hx hb dX14_byTurns_114 rfl (lv_at hl 2 rfl) ?_
      refine lv_icmp_ge (tgt := 190) hx hb dX14_byTurns_115 (by decide) (fun c115 => ?_) (fun c115 => ?_)
      · have hf := ifp c115 hf
        refine lv_aload_n hx hb dX14_byTurns_190 rfl (lv_at hl 0 rfl) ?_
        refine lv_iconst (v := 0) hx hb dX14_byTurns_191 (by decide) ?_
        obtain ⟨g192, hf⟩ := gd_some hf
        obtain ⟨s192, e192, hf⟩ := bnd_some hf
        refine aw_pI e192 hC hW g192 fl_X14_15 (Or.inl fn_13_1) rfl rfl rfl dX14_byTurns_192 (fun H locs hW => ?_)
        have g192 := ko_pI e192 g192
        refine lv_aload_n hx hb dX14_byTurns_195 rfl (lv_at hl 0 rfl) ?_
        refine lv_aload_n hx hb dX14_byTurns_196 rfl (lv_at hl 0 rfl) ?_
        refine lv_iload_n hx hb dX14_byTurns_197 rfl (lv_at hl 1 rfl) ?_
        obtain ⟨v198, s198, h198, hf⟩ := ob_some hf
        refine aw_dV1 (r := r0) (As := [.int x1]) (rest := [.ref (a r0)]) (ct_X14_servedBy l G a r0 x1 s192 v198 s198 h198) hC hW hl.1 vy_X14_servedBy (Or.inl q1801) g192 rfl rfl rfl rfl (Nat.le_of_ble_eq_true rfl) ⟨Nat.le_of_ble_eq_true rfl, Nat.le_of_ble_eq_true rfl⟩ ⟨Nat.le_of_ble_eq_true rfl, Nat.le_of_ble_eq_true rfl⟩ dX14_byTurns_198 (fun H locs hW => ?_)
        refine lv_iload_n hx hb dX14_byTurns_201 rfl (lv_at hl 3 rfl) ?_
        refine lv_isub hx hb dX14_byTurns_202 ?_
        refine lv_i2l (v := ((v198 - x3) : Int32).toInt64) hx hb dX14_byTurns_203 rfl ?_
        obtain ⟨g204, hf⟩ := gd_some hf
        obtain ⟨_, s204, h204, hf⟩ := ob_some hf
        refine aw_dV0 (r := r0) (As := [.long (((v198 - x3) : Int32).toInt64)]) (rest := []) (ct_X14_enters l G a r0 (((v198 - x3) : Int32).toInt64) s198 () s204 h204) hC hW hl.1 vy_X14_enters (Or.inl q1689) g204 rfl rfl rfl rfl (Nat.le_of_ble_eq_true rfl) ⟨Nat.le_of_ble_eq_true rfl, Nat.le_of_ble_eq_true rfl⟩ ⟨Nat.le_of_ble_eq_true rfl, Nat.le_of_ble_eq_true rfl⟩ dX14_byTurns_204 (fun H locs hW => ?_)
        refine lv_aload_n hx hb dX14_byTurns_207 rfl (lv_at hl 0 rfl) ?_
        refine lv_iload_n hx hb dX14_byTurns_208 rfl (lv_at hl 1 rfl) ?_
        obtain ⟨g209, hf⟩ := gd_some hf
        obtain ⟨v209, s209, h209, hf⟩ := ob_some hf
        refine aw_dV1 (r := r0) (As := [.int x1]) (rest := []) (ct_X14_servedBy l G a r0 x1 s204 v209 s209 h209) hC hW hl.1 vy_X14_servedBy (Or.inl q1801) g209 rfl rfl rfl rfl (Nat.le_of_ble_eq_true rfl) ⟨Nat.le_of_ble_eq_true rfl, Nat.le_of_ble_eq_true rfl⟩ ⟨Nat.le_of_ble_eq_true rfl, Nat.le_of_ble_eq_true rfl⟩ dX14_byTurns_209 (fun H locs hW => ?_)
        obtain ⟨e1, e2⟩ := so_inj hf
        exact aw_iret hC hW hr rfl (p_eq hP (congrArg (fun z => some (Value.int z)) e1) e2) (Nat.le_of_ble_eq_true rfl) (Nat.le_of_ble_eq_true rfl) dX14_byTurns_212
      · have hf := ifn c115 hf
        refine lv_aload_n hx hb dX14_byTurns_118 rfl (lv_at hl 0 rfl) ?_
        refine lv_aload_n hx hb dX14_byTurns_119 rfl (lv_at hl 0 rfl) ?_
        obtain ⟨g120, hf⟩ := gd_some hf
        obtain ⟨q120, hq120, hf⟩ := bi_some hf
        refine aw_gR hC hW g120 fl_X14_47 rfl hq120 dX14_byTurns_120 ?_
        obtain ⟨v123, s123, h123, hf⟩ := ob_some hf
        refine aw_dV1 (r := r0) (As := [.ref (a q120)]) (rest := []) (ct_X14_willing l G a r0 q120 s v123 s123 h123) hC hW hl.1 vy_X14_willing (Or.inl q1698) g120 rfl rfl rfl rfl (Nat.le_of_ble_eq_true rfl) ⟨Nat.le_of_ble_eq_true rfl, Nat.le_of_ble_eq_true rfl⟩ ⟨Nat.le_of_ble_eq_true rfl, Nat.le_of_ble_eq_true rfl⟩ dX14_byTurns_123 (fun H locs hW => ?_)
        refine lv_iload hx hb dX14_byTurns_126 (lv_at hl 4 rfl) ?_
        refine lv_iconst (v := (-1)) hx hb dX14_byTurns_128 (by decide) ?_
        refine lv_ixor hx hb dX14_byTurns_129 ?_
        refine lv_iand hx hb dX14_byTurns_130 ?_
        obtain ⟨v131, ev131, hf⟩ := bnd_some hf
        refine top_i ev131 ?_
        refine lv_istore (lv' := [(7, .int v131), (0, .ref (a r0)), (1, .int x1), (2, .int x2), (3, .int x3), (4, .int x4), (5, .int x5), (6, .int x6)]) hx hb dX14_byTurns_131 hl (by decide) rfl (fun ls hl => ?_)
        refine lv_iload hx hb dX14_byTurns_133 (lv_at hl 5 rfl) ?_
        refine lv_if_eq (tgt := 178) hx hb dX14_byTurns_135 (by decide) (fun c135 => ?_) (fun c135 => ?_)
        · have hf := ifp c135 hf
          exact B178 (f_X14_byTurns_b112 n) ih r0 x1 x2 x3 x4 x5 x6 v131 s123 hf _ _ _ (lv_sub hl [1, 2, 3, 4, 5, 6, 7, 0] rfl) hW
        · have hf := ifn c135 hf
          refine lv_iload hx hb dX14_byTurns_138 (lv_at hl 6 rfl) ?_
          refine lv_iconst (v := 1) hx hb dX14_byTurns_140 (by decide) ?_
          refine lv_iadd hx hb dX14_byTurns_141 ?_
          refine lv_bipush (v := 8) hx hb dX14_byTurns_142 (by decide) ?_
          refine lv_irem hx hb dX14_byTurns_144 (by decide) ?_
          obtain ⟨v145, ev145, hf⟩ := bnd_some hf
          refine top_i ev145 ?_
          refine lv_istore (lv' := [(5, .int v145), (7, .int v131), (0, .ref (a r0)), (1, .int x1), (2, .int x2), (3, .int x3), (4, .int x4), (6, .int x6)]) hx hb dX14_byTurns_145 hl (by decide) rfl (fun ls hl => ?_)
          exact B147 (f_X14_byTurns_b112 n) ih fuel r0 x1 x2 x3 x4 v145 x6 v131 s123 hf _ _ _ (lv_sub hl [2, 3, 4, 5, 6, 0, 7, 1] rfl) hW
  have B93 : ∀ (K48 : Nat → Int32 → Int32 → Int32 → Int32 → Int32 → ST → Option (Int32 × ST)) (hK48 : ∀ (r0 : Nat) (x1 : Int32) (x2 : Int32) (x3 : Int32) (x4 : Int32) (x5 : Int32) (s : ST), K48 r0 x1 x2 x3 x4 x5 s = some (rv, sf) → ∀ (H : Heap) (locs : List Loc) (ls : Array Slot), lv_has ls 8 [(0, .ref (a r0)), (1, .int x1), (2, .int x2), (3, .int x3), (4, .int x4), (5, .int x5)] → AW G a A s s0.heap H locs → WB p l e (rmD 6) s0 m args below meth c H locs G A P 48 ls []), ∀ (r0 : Nat) (x1 : Int32) (x2 : Int32) (x3 : Int32) (x5 : Int32) (t0 : Int32) (t1 : Int32) (s : ST), f_X14_byTurns_b93 K48 r0 x1 x2 x3 x5 t0 t1 s = some (rv, sf) → ∀ (H : Heap) (locs : List Loc) (ls : Array Slot), lv_has ls 8 [(0, .ref (a r0)), (1, .int x1), (2, .int x2), (3, .int x3), (5, .int x5)] → AW G a A s s0.heap H locs → WB p l e (rmD 6) s0 m args below meth c H locs G A P 93 ls [.int t0, .int t1] := by
    intro K48 hK48 r0 x1 x2 x3 x5 t0 t1 s hf H locs ls hl hW
    unfold f_X14_byTurns_b93 at hf
    refine lv_ior hx hb dX14_byTurns_93 ?_
    obtain ⟨v94, ev94, hf⟩ := bnd_some hf
    refine top_i ev94 ?_
    refine lv_istore (lv' := [(4, .int v94), (0, .ref (a r0)), (1, .int x1), (2, .int x2), (3, .int x3), (5, .int x5)]) hx hb dX14_byTurns_94 hl (by decide) rfl (fun ls hl => ?_)
    obtain ⟨v96, ev96, hf⟩ := bnd_some hf
    refine lv_iinc (v := v96) (lv' := [(5, .int v96), (4, .int v94), (0, .ref (a r0)), (1, .int x1), (2, .int x2), (3, .int x3)]) hx hb dX14_byTurns_96 hl (k := 5) rfl (by rw [ev96]; rfl) (by decide) rfl (fun ls hl => ?_)
    refine lv_goto (tgt := 48) hx hb dX14_byTurns_99 (by decide) ?_
    exact hK48 r0 x1 x2 x3 v94 v96 s hf _ _ _ (lv_sub hl [2, 3, 4, 5, 1, 0] rfl) hW
  have B92 : ∀ (K48 : Nat → Int32 → Int32 → Int32 → Int32 → Int32 → ST → Option (Int32 × ST)) (hK48 : ∀ (r0 : Nat) (x1 : Int32) (x2 : Int32) (x3 : Int32) (x4 : Int32) (x5 : Int32) (s : ST), K48 r0 x1 x2 x3 x4 x5 s = some (rv, sf) → ∀ (H : Heap) (locs : List Loc) (ls : Array Slot), lv_has ls 8 [(0, .ref (a r0)), (1, .int x1), (2, .int x2), (3, .int x3), (4, .int x4), (5, .int x5)] → AW G a A s s0.heap H locs → WB p l e (rmD 6) s0 m args below meth c H locs G A P 48 ls []), ∀ (r0 : Nat) (x1 : Int32) (x2 : Int32) (x3 : Int32) (x5 : Int32) (t0 : Int32) (s : ST), f_X14_byTurns_b92 K48 r0 x1 x2 x3 x5 t0 s = some (rv, sf) → ∀ (H : Heap) (locs : List Loc) (ls : Array Slot), lv_has ls 8 [(0, .ref (a r0)), (1, .int x1), (2, .int x2), (3, .int x3), (5, .int x5)] → AW G a A s s0.heap H locs → WB p l e (rmD 6) s0 m args below meth c H locs G A P 92 ls [.int t0] := by
    intro K48 hK48 r0 x1 x2 x3 x5 t0 s hf H locs ls hl hW
    unfold f_X14_byTurns_b92 at hf
    refine lv_iconst (v := 0) hx hb dX14_byTurns_92 (by decide) ?_
    exact B93 K48 hK48 r0 x1 x2 x3 x5 0 t0 s hf _ _ _ (lv_sub hl [0, 1, 2, 3, 4] rfl) hW
  have B48 : ∀ (n : Nat), ∀ (r0 : Nat) (x1 : Int32) (x2 : Int32) (x3 : Int32) (x4 : Int32) (x5 : Int32) (s : ST), f_X14_byTurns_b48 n r0 x1 x2 x3 x4 x5 s = some (rv, sf) → ∀ (H : Heap) (locs : List Loc) (ls : Array Slot), lv_has ls 8 [(0, .ref (a r0)), (1, .int x1), (2, .int x2), (3, .int x3), (4, .int x4), (5, .int x5)] → AW G a A s s0.heap H locs → WB p l e (rmD 6) s0 m args below meth c H locs G A P 48 ls [] := by
    intro n
    induction n with
    | zero => intro r0 x1 x2 x3 x4 x5 s hf; cases hf
    | succ n ih =>
      intro r0 x1 x2 x3 x4 x5 s hf H locs ls hl hW
      rw [f_X14_byTurns_b48] at hf
      refine lv_iload hx hb dX14_byTurns_48 (lv_at hl 5 rfl) ?_
      refine lv_aload_n hx hb dX14_byTurns_50 rfl (lv_at hl 0 rfl) ?_
      obtain ⟨g51, hf⟩ := gd_some hf
      refine aw_gI hC hW g51 fl_X14_117 rfl dX14_byTurns_51 ?_
      refine lv_icmp_ge (tgt := 102) hx hb dX14_byTurns_54 (by decide) (fun c54 => ?_) (fun c54 => ?_)
      · have hf := ifp c54 hf
        refine lv_aload_n hx hb dX14_byTurns_102 rfl (lv_at hl 0 rfl) ?_
        obtain ⟨_, s103, h103, hf⟩ := ob_some hf
        refine aw_dV0 (r := r0) (As := []) (rest := []) (ct_X14_starts l G a r0 s () s103 h103) hC hW hl.1 vy_X14_starts (Or.inl q1749) g51 rfl rfl rfl rfl (Nat.le_of_ble_eq_true rfl) ⟨Nat.le_of_ble_eq_true rfl, Nat.le_of_ble_eq_true rfl⟩ ⟨Nat.le_of_ble_eq_true rfl, Nat.le_of_ble_eq_true rfl⟩ dX14_byTurns_103 (fun H locs hW => ?_)
        refine lv_iconst (v := (-1)) hx hb dX14_byTurns_106 (by decide) ?_
        refine lv_istore (lv' := [(5, .int (-1)), (0, .ref (a r0)), (1, .int x1), (2, .int x2), (3, .int x3), (4, .int x4)]) hx hb dX14_byTurns_107 hl (by decide) rfl (fun ls hl => ?_)
        refine lv_iconst (v := 0) hx hb dX14_byTurns_109 (by decide) ?_
        refine lv_istore (lv' := [(6, .int 0), (5, .int (-1)), (0, .ref (a r0)), (1, .int x1), (2, .int x2), (3, .int x3), (4, .int x4)]) hx hb dX14_byTurns_110 hl (by decide) rfl (fun ls hl => ?_)
        exact B112 fuel r0 x1 x2 x3 x4 (-1) 0 s103 hf _ _ _ (lv_sub hl [2, 3, 4, 5, 6, 1, 0] rfl) hW
      · have hf := ifn c54 hf
        refine lv_iload hx hb dX14_byTurns_57 (lv_at hl 4 rfl) ?_
        refine lv_aload_n hx hb dX14_byTurns_59 rfl (lv_at hl 0 rfl) ?_
        obtain ⟨q60, hq60, hf⟩ := bi_some hf
        refine aw_gR hC hW g51 fl_X14_28 rfl hq60 dX14_byTurns_60 ?_
        refine lv_iload hx hb dX14_byTurns_63 (lv_at hl 5 rfl) ?_
        obtain ⟨g65, hf⟩ := gd_some hf
        refine aw_iald hC hW g65 dX14_byTurns_65 ?_
        refine lv_iload_n hx hb dX14_byTurns_66 rfl (lv_at hl 1 rfl) ?_
        refine lv_icmp_ne (tgt := 92) hx hb dX14_byTurns_67 (by decide) (fun c67 => ?_) (fun c67 => ?_)
        · have hf := ifn c67 hf
          exact B92 (f_X14_byTurns_b48 n) ih r0 x1 x2 x3 x5 x4 s hf _ _ _ (lv_sub hl [0, 1, 2, 3, 5] rfl) hW
        · have hf := ifp c67 hf
          refine lv_aload_n hx hb dX14_byTurns_70 rfl (lv_at hl 0 rfl) ?_
          obtain ⟨q71, hq71, hf⟩ := bi_some hf
          refine aw_gR hC hW g51 fl_X14_44 rfl hq71 dX14_byTurns_71 ?_
          refine lv_bipush (v := 16) hx hb dX14_byTurns_74 (by decide) ?_
          obtain ⟨g76, hf⟩ := gd_some hf
          refine aw_iald hC hW g76 dX14_byTurns_76 ?_
          refine lv_iload hx hb dX14_byTurns_77 (lv_at hl 5 rfl) ?_
          obtain ⟨v79, ev79, hf⟩ := bnd_some hf
          refine aw_dS1 (As := [.int (gi s q71 (16 : Int32).toNatClampNeg), .int x5]) (rest := [.int x4]) (pc_X14_has l G a (gi s q71 (16 : Int32).toNatClampNeg) x5 s) hC hW hl.1 sy_X14_has (Or.inl q1626) rfl rfl (Nat.le_of_ble_eq_true rfl) ⟨Nat.le_of_ble_eq_true rfl, Nat.le_of_ble_eq_true rfl⟩ ⟨Nat.le_of_ble_eq_true rfl, Nat.le_of_ble_eq_true rfl⟩ dX14_byTurns_79 (fun H locs hW => ?_)
          refine top_i ev79 ?_
          refine lv_if_eq (tgt := 92) hx hb dX14_byTurns_82 (by decide) (fun c82 => ?_) (fun c82 => ?_)
          · have hf := ifp c82 hf
            exact B92 (f_X14_byTurns_b48 n) ih r0 x1 x2 x3 x5 x4 s hf _ _ _ (lv_sub hl [0, 1, 2, 3, 5] rfl) hW
          · have hf := ifn c82 hf
            refine lv_iconst (v := 1) hx hb dX14_byTurns_85 (by decide) ?_
            refine lv_iload hx hb dX14_byTurns_86 (lv_at hl 5 rfl) ?_
            refine lv_ishl hx hb dX14_byTurns_88 ?_
            refine lv_goto (tgt := 93) hx hb dX14_byTurns_89 (by decide) ?_
            exact B93 (f_X14_byTurns_b48 n) ih r0 x1 x2 x3 x5 (1 <<< (x5 &&& 31)) x4 s hf _ _ _ (lv_sub hl [0, 1, 2, 3, 5] rfl) hW
  unfold f_X14_byTurns at hf
  refine lv_aload_n hx hb dX14_byTurns_0 rfl (lv_at hl 0 rfl) ?_
  refine lv_iconst (v := 0) hx hb dX14_byTurns_1 (by decide) ?_
  obtain ⟨g2, hf⟩ := gd_some hf
  obtain ⟨s2, e2, hf⟩ := bnd_some hf
  refine aw_pI e2 hC hW g2 fl_X14_3 (Or.inl fn_13_0) rfl rfl rfl dX14_byTurns_2 (fun H locs hW => ?_)
  have g2 := ko_pI e2 g2
  refine lv_iload_n hx hb dX14_byTurns_5 rfl (lv_at hl 1 rfl) ?_
  refine lv_i2l (v := (x1 : Int32).toInt64) hx hb dX14_byTurns_6 rfl ?_
  refine lv_lconst (v := 0) hx hb dX14_byTurns_7 (by decide) ?_
  refine lv_ldc2 (v := 3) hx hb hC.2.2.2.1 (hts _ q1658) dX14_byTurns_8 ?_
  obtain ⟨v11, ev11, hf⟩ := bnd_some hf
  refine aw_dS1 (As := [.long ((x1 : Int32).toInt64), .long 0, .long 3]) (rest := []) (pc_X14_in l G a ((x1 : Int32).toInt64) 0 3 s2) hC hW hl.1 sy_X14_in (Or.inl q1514) rfl rfl (Nat.le_of_ble_eq_true rfl) ⟨Nat.le_of_ble_eq_true rfl, Nat.le_of_ble_eq_true rfl⟩ ⟨Nat.le_of_ble_eq_true rfl, Nat.le_of_ble_eq_true rfl⟩ dX14_byTurns_11 (fun H locs hW => ?_)
  refine top_i ev11 ?_
  refine lv_if_eq (tgt := 24) hx hb dX14_byTurns_14 (by decide) (fun c14 => ?_) (fun c14 => ?_)
  · have hf := ifp c14 hf
    refine lv_iconst (v := (-1)) hx hb dX14_byTurns_24 (by decide) ?_
    obtain ⟨e1, e2⟩ := so_inj hf
    exact aw_iret hC hW hr rfl (p_eq hP (congrArg (fun z => some (Value.int z)) e1) e2) (Nat.le_of_ble_eq_true rfl) (Nat.le_of_ble_eq_true rfl) dX14_byTurns_25
  · have hf := ifn c14 hf
    refine lv_iload_n hx hb dX14_byTurns_17 rfl (lv_at hl 2 rfl) ?_
    obtain ⟨v18, s18, h18, hf⟩ := ob_some hf
    refine aw_dS1 (As := [.int x2]) (rest := []) (ct_X14_areWeeks l G a x2 s2 v18 s18 h18) hC hW hl.1 sy_X14_areWeeks (Or.inl q1746) rfl rfl (Nat.le_of_ble_eq_true rfl) ⟨Nat.le_of_ble_eq_true rfl, Nat.le_of_ble_eq_true rfl⟩ ⟨Nat.le_of_ble_eq_true rfl, Nat.le_of_ble_eq_true rfl⟩ dX14_byTurns_18 (fun H locs hW => ?_)
    refine lv_if_ne (tgt := 26) hx hb dX14_byTurns_21 (by decide) (fun c21 => ?_) (fun c21 => ?_)
    · have hf := ifn c21 hf
      refine lv_aload_n hx hb dX14_byTurns_26 rfl (lv_at hl 0 rfl) ?_
      obtain ⟨g27, hf⟩ := gd_some hf
      obtain ⟨_, s27, h27, hf⟩ := ob_some hf
      refine aw_dV0 (r := o) (As := []) (rest := []) (ct_X14_starts l G a o s18 () s27 h27) hC hW hl.1 vy_X14_starts (Or.inl q1749) g27 rfl rfl rfl rfl (Nat.le_of_ble_eq_true rfl) ⟨Nat.le_of_ble_eq_true rfl, Nat.le_of_ble_eq_true rfl⟩ ⟨Nat.le_of_ble_eq_true rfl, Nat.le_of_ble_eq_true rfl⟩ dX14_byTurns_27 (fun H locs hW => ?_)
      refine lv_aload_n hx hb dX14_byTurns_30 rfl (lv_at hl 0 rfl) ?_
      refine lv_iload_n hx hb dX14_byTurns_31 rfl (lv_at hl 2 rfl) ?_
      refine lv_iconst (v := 0) hx hb dX14_byTurns_32 (by decide) ?_
      obtain ⟨g33, hf⟩ := gd_some hf
      obtain ⟨_, s33, h33, hf⟩ := ob_some hf
      refine aw_dV0 (r := o) (As := [.int x2, .int 0]) (rest := []) (ct_X14_goesBy l G a o x2 0 s27 () s33 h33) hC hW hl.1 vy_X14_goesBy (Or.inl q1756) g33 rfl rfl rfl rfl (Nat.le_of_ble_eq_true rfl) ⟨Nat.le_of_ble_eq_true rfl, Nat.le_of_ble_eq_true rfl⟩ ⟨Nat.le_of_ble_eq_true rfl, Nat.le_of_ble_eq_true rfl⟩ dX14_byTurns_33 (fun H locs hW => ?_)
      refine lv_aload_n hx hb dX14_byTurns_36 rfl (lv_at hl 0 rfl) ?_
      refine lv_iload_n hx hb dX14_byTurns_37 rfl (lv_at hl 1 rfl) ?_
      obtain ⟨g38, hf⟩ := gd_some hf
      obtain ⟨v38, s38, h38, hf⟩ := ob_some hf
      refine aw_dV1 (r := o) (As := [.int x1]) (rest := []) (ct_X14_servedBy l G a o x1 s33 v38 s38 h38) hC hW hl.1 vy_X14_servedBy (Or.inl q1801) g38 rfl rfl rfl rfl (Nat.le_of_ble_eq_true rfl) ⟨Nat.le_of_ble_eq_true rfl, Nat.le_of_ble_eq_true rfl⟩ ⟨Nat.le_of_ble_eq_true rfl, Nat.le_of_ble_eq_true rfl⟩ dX14_byTurns_38 (fun H locs hW => ?_)
      refine lv_istore_n (lv' := [(3, .int v38), (0, .ref (a o)), (1, .int x1), (2, .int x2)]) hx hb dX14_byTurns_41 rfl hl (by decide) rfl (fun ls hl => ?_)
      refine lv_iconst (v := 0) hx hb dX14_byTurns_42 (by decide) ?_
      refine lv_istore (lv' := [(4, .int 0), (3, .int v38), (0, .ref (a o)), (1, .int x1), (2, .int x2)]) hx hb dX14_byTurns_43 hl (by decide) rfl (fun ls hl => ?_)
      refine lv_iconst (v := 0) hx hb dX14_byTurns_45 (by decide) ?_
      refine lv_istore (lv' := [(5, .int 0), (4, .int 0), (3, .int v38), (0, .ref (a o)), (1, .int x1), (2, .int x2)]) hx hb dX14_byTurns_46 hl (by decide) rfl (fun ls hl => ?_)
      exact B48 fuel o x1 x2 v38 0 0 s38 hf _ _ _ (lv_sub hl [3, 4, 5, 2, 1, 0] rfl) hW
    · have hf := ifp c21 hf
      refine lv_iconst (v := (-1)) hx hb dX14_byTurns_24 (by decide) ?_
      obtain ⟨e1, e2⟩ := so_inj hf
      exact aw_iret hC hW hr rfl (p_eq hP (congrArg (fun z => some (Value.int z)) e1) e2) (Nat.le_of_ble_eq_true rfl) (Nat.le_of_ble_eq_true rfl) dX14_byTurns_25
def f_X14_canBe_b49 (K5 : Nat → Int32 → Int32 → Int32 → Int32 → ST → Option (Int32 × ST)) (r0 : Nat) (x1 : Int32) (x2 : Int32) (x4 : Int32) (t0 : Int32) (s : ST) : Option (Int32 × ST) :=
  bnd (x4 + 1 : Int32) fun v50 =>
  K5 r0 x1 x2 t0 v50 s
def f_X14_canBe_b48 (K5 : Nat → Int32 → Int32 → Int32 → Int32 → ST → Option (Int32 × ST)) (r0 : Nat) (x1 : Int32) (x2 : Int32) (x4 : Int32) (s : ST) : Option (Int32 × ST) :=
  f_X14_canBe_b49 K5 r0 x1 x2 x4 0 s
def f_X14_canBe_b44 (K5 : Nat → Int32 → Int32 → Int32 → Int32 → ST → Option (Int32 × ST)) (r0 : Nat) (x1 : Int32) (x2 : Int32) (x4 : Int32) (s : ST) : Option (Int32 × ST) :=
  f_X14_canBe_b49 K5 r0 x1 x2 x4 1 s
def f_X14_canBe_b5 : Nat → Nat → Int32 → Int32 → Int32 → Int32 → ST → Option (Int32 × ST)
  | 0, _, _, _, _, _, _ => none
  | n + 1, r0, x1, x2, x3, x4, s =>
  gd (r0 < s.1 ∧ (kd s r0).1 = 14) <|
  if (gi s r0 34) ≤ x4 then (gd (x3 = 0 ∨ x3 = 1) <|
  some (x3, s)) else if x3 = 0 then (f_X14_canBe_b48 (f_X14_canBe_b5 n) r0 x1 x2 x4 s) else (gr s r0 35).bind fun q19 =>
  gd (q19 < s.1 ∧ (kd s q19).1 = 100 ∧ ¬ ((x4 : Int32) < 0 ∨ (kd s q19).2 ≤ (x4 : Int32).toNatClampNeg)) <|
  if (gi s q19 (x4 : Int32).toNatClampNeg) = x1 then ((gr s r0 36).bind fun q30 =>
  gd (q30 < s.1 ∧ (kd s q30).1 = 100 ∧ ¬ ((x4 : Int32) < 0 ∨ (kd s q30).2 ≤ (x4 : Int32).toNatClampNeg)) <|
  ob (f_X14_shows r0 x2 s) fun v38 s38 =>
  if (gi s q30 (x4 : Int32).toNatClampNeg) = v38 then (f_X14_canBe_b44 (f_X14_canBe_b5 n) r0 x1 x2 x4 s38) else f_X14_canBe_b48 (f_X14_canBe_b5 n) r0 x1 x2 x4 s38) else f_X14_canBe_b44 (f_X14_canBe_b5 n) r0 x1 x2 x4 s
def f_X14_canBe (o : Nat) (x1 : Int32) (x2 : Int32) (s : ST) : Option (Int32 × ST) :=
  f_X14_canBe_b5 fuel o x1 x2 1 0 s
set_option maxHeartbeats 4000000 in
theorem ct_X14_canBe (l : Launch) (G : GM) (a : Nat → Nat) (o : Nat) (x1 : Int32) (x2 : Int32) (s : ST) (rv : Int32) (sf : ST) (hf : f_X14_canBe o x1 x2 s = some (rv, sf)) : MD l G yX14_canBe (ws_ yX14_canBe cX14_canBe 5 (some .boolean)) 2 [.ref (a o), .int x1, .int x2] a s (some (.int rv)) sf := by
  refine md_of (d := 2) (lv := [(0, .ref (a o)), (1, .int x1), (2, .int x2)]) (Or.inl (by decide)) (Nat.le_of_ble_eq_true rfl) rfl ?_
  intro p e s0 m args below meth c ls A P hP hC hr hnm hW hl
  have hx := hC.1
  have hb := hC.2.1
  have hts := hC.2.2.2.2.1
  have B49 : ∀ (K5 : Nat → Int32 → Int32 → Int32 → Int32 → ST → Option (Int32 × ST)) (hK5 : ∀ (r0 : Nat) (x1 : Int32) (x2 : Int32) (x3 : Int32) (x4 : Int32) (s : ST), K5 r0 x1 x2 x3 x4 s = some (rv, sf) → ∀ (H : Heap) (locs : List Loc) (ls : Array Slot), lv_has ls 5 [(0, .ref (a r0)), (1, .int x1), (2, .int x2), (3, .int x3), (4, .int x4)] → AW G a A s s0.heap H locs → WB p l e (rmD 2) s0 m args below meth c H locs G A P 5 ls []), ∀ (r0 : Nat) (x1 : Int32) (x2 : Int32) (x4 : Int32) (t0 : Int32) (s : ST), f_X14_canBe_b49 K5 r0 x1 x2 x4 t0 s = some (rv, sf) → ∀ (H : Heap) (locs : List Loc) (ls : Array Slot), lv_has ls 5 [(0, .ref (a r0)), (1, .int x1), (2, .int x2), (4, .int x4)] → AW G a A s s0.heap H locs → WB p l e (rmD 2) s0 m args below meth c H locs G A P 49 ls [.int t0] := by
    intro K5 hK5 r0 x1 x2 x4 t0 s hf H locs ls hl hW
    unfold f_X14_canBe_b49 at hf
    refine lv_istore_n (lv' := [(3, .int t0), (0, .ref (a r0)), (1, .int x1), (2, .int x2), (4, .int x4)]) hx hb dX14_canBe_49 rfl hl (by decide) rfl (fun ls hl => ?_)
    obtain ⟨v50, ev50, hf⟩ := bnd_some hf
    refine lv_iinc (v := v50) (lv' := [(4, .int v50), (3, .int t0), (0, .ref (a r0)), (1, .int x1), (2, .int x2)]) hx hb dX14_canBe_50 hl (k := 4) rfl (by rw [ev50]; rfl) (by decide) rfl (fun ls hl => ?_)
    refine lv_goto (tgt := 5) hx hb dX14_canBe_53 (by decide) ?_
    exact hK5 r0 x1 x2 t0 v50 s hf _ _ _ (lv_sub hl [2, 3, 4, 1, 0] rfl) hW
  have B48 : ∀ (K5 : Nat → Int32 → Int32 → Int32 → Int32 → ST → Option (Int32 × ST)) (hK5 : ∀ (r0 : Nat) (x1 : Int32) (x2 : Int32) (x3 : Int32) (x4 : Int32) (s : ST), K5 r0 x1 x2 x3 x4 s = some (rv, sf) → ∀ (H : Heap) (locs : List Loc) (ls : Array Slot), lv_has ls 5 [(0, .ref (a r0)), (1, .int x1), (2, .int x2), (3, .int x3), (4, .int x4)] → AW G a A s s0.heap H locs → WB p l e (rmD 2) s0 m args below meth c H locs G A P 5 ls []), ∀ (r0 : Nat) (x1 : Int32) (x2 : Int32) (x4 : Int32) (s : ST), f_X14_canBe_b48 K5 r0 x1 x2 x4 s = some (rv, sf) → ∀ (H : Heap) (locs : List Loc) (ls : Array Slot), lv_has ls 5 [(0, .ref (a r0)), (1, .int x1), (2, .int x2), (4, .int x4)] → AW G a A s s0.heap H locs → WB p l e (rmD 2) s0 m args below meth c H locs G A P 48 ls [] := by
    intro K5 hK5 r0 x1 x2 x4 s hf H locs ls hl hW
    unfold f_X14_canBe_b48 at hf
    refine lv_iconst (v := 0) hx hb dX14_canBe_48 (by decide) ?_
    exact B49 K5 hK5 r0 x1 x2 x4 0 s hf _ _ _ (lv_sub hl [0, 1, 2, 3] rfl) hW
  have B44 : ∀ (K5 : Nat → Int32 → Int32 → Int32 → Int32 → ST → Option (Int32 × ST)) (hK5 : ∀ (r0 : Nat) (x1 : Int32) (x2 : Int32) (x3 : Int32) (x4 : Int32) (s : ST), K5 r0 x1 x2 x3 x4 s = some (rv, sf) → ∀ (H : Heap) (locs : List Loc) (ls : Array Slot), lv_has ls 5 [(0, .ref (a r0)), (1, .int x1), (2, .int x2), (3, .int x3), (4, .int x4)] → AW G a A s s0.heap H locs → WB p l e (rmD 2) s0 m args below meth c H locs G A P 5 ls []), ∀ (r0 : Nat) (x1 : Int32) (x2 : Int32) (x4 : Int32) (s : ST), f_X14_canBe_b44 K5 r0 x1 x2 x4 s = some (rv, sf) → ∀ (H : Heap) (locs : List Loc) (ls : Array Slot), lv_has ls 5 [(0, .ref (a r0)), (1, .int x1), (2, .int x2), (4, .int x4)] → AW G a A s s0.heap H locs → WB p l e (rmD 2) s0 m args below meth c H locs G A P 44 ls [] := by
    intro K5 hK5 r0 x1 x2 x4 s hf H locs ls hl hW
    unfold f_X14_canBe_b44 at hf
    refine lv_iconst (v := 1) hx hb dX14_canBe_44 (by decide) ?_
    refine lv_goto (tgt := 49) hx hb dX14_canBe_45 (by decide) ?_
    exact B49 K5 hK5 r0 x1 x2 x4 1 s hf _ _ _ (lv_sub hl [0, 1, 2, 3] rfl) hW
  have B5 : ∀ (n : Nat), ∀ (r0 : Nat) (x1 : Int32) (x2 : Int32) (x3 : Int32) (x4 : Int32) (s : ST), f_X14_canBe_b5 n r0 x1 x2 x3 x4 s = some (rv, sf) → ∀ (H : Heap) (locs : List Loc) (ls : Array Slot), lv_has ls 5 [(0, .ref (a r0)), (1, .int x1), (2, .int x2), (3, .int x3), (4, .int x4)] → AW G a A s s0.heap H locs → WB p l e (rmD 2) s0 m args below meth c H locs G A P 5 ls [] := by
    intro n
    induction n with
    | zero => intro r0 x1 x2 x3 x4 s hf; cases hf
    | succ n ih =>
      intro r0 x1 x2 x3 x4 s hf H locs ls hl hW
      rw [f_X14_canBe_b5] at hf
      refine lv_iload hx hb dX14_canBe_5 (lv_at hl 4 rfl) ?_
      refine lv_aload_n hx hb dX14_canBe_7 rfl (lv_at hl 0 rfl) ?_
      obtain ⟨g8, hf⟩ := gd_some hf
      refine aw_gI hC hW g8 fl_X14_351 rfl dX14_canBe_8 ?_
      refine lv_icmp_ge (tgt := 56) hx hb dX14_canBe_11 (by decide) (fun c11 => ?_) (fun c11 => ?_)
      · have hf := ifp c11 hf
        refine lv_iload_n hx hb dX14_canBe_56 rfl (lv_at hl 3 rfl) ?_
        obtain ⟨gz57, hf⟩ := gd_some hf
        obtain ⟨e1, e2⟩ := so_inj hf
        exact aw_iret hC hW hr (nb01 gz57) (p_eq hP (congrArg (fun z => some (Value.int z)) e1) e2) (Nat.le_of_ble_eq_true rfl) (Nat.le_of_ble_eq_true rfl) dX14_canBe_57
      · have hf := ifn c11 hf
        refine lv_iload_n hx hb dX14_canBe_14 rfl (lv_at hl 3 rfl) ?_
        refine lv_if_eq (tgt := 48) hx hb dX14_canBe_15 (by decide) (fun c15 => ?_) (fun c15 => ?_)
        · have hf := ifp c15 hf
          exact B48 (f_X14_canBe_b5 n) ih r0 x1 x2 x4 s hf _ _ _ (lv_sub hl [0, 1, 2, 4] rfl) hW
        · have hf := ifn c15 hf
          refine lv_aload_n hx hb dX14_canBe_18 rfl (lv_at hl 0 rfl) ?_
          obtain ⟨q19, hq19, hf⟩ := bi_some hf
          refine aw_gR hC hW g8 fl_X14_86 rfl hq19 dX14_canBe_19 ?_
          refine lv_iload hx hb dX14_canBe_22 (lv_at hl 4 rfl) ?_
          obtain ⟨g24, hf⟩ := gd_some hf
          refine aw_iald hC hW g24 dX14_canBe_24 ?_
          refine lv_iload_n hx hb dX14_canBe_25 rfl (lv_at hl 1 rfl) ?_
          refine lv_icmp_ne (tgt := 44) hx hb dX14_canBe_26 (by decide) (fun c26 => ?_) (fun c26 => ?_)
          · have hf := ifn c26 hf
            exact B44 (f_X14_canBe_b5 n) ih r0 x1 x2 x4 s hf _ _ _ (lv_sub hl [0, 1, 2, 4] rfl) hW
          · have hf := ifp c26 hf
            refine lv_aload_n hx hb dX14_canBe_29 rfl (lv_at hl 0 rfl) ?_
            obtain ⟨q30, hq30, hf⟩ := bi_some hf
            refine aw_gR hC hW g8 fl_X14_89 rfl hq30 dX14_canBe_30 ?_
            refine lv_iload hx hb dX14_canBe_33 (lv_at hl 4 rfl) ?_
            obtain ⟨g35, hf⟩ := gd_some hf
            refine aw_iald hC hW g35 dX14_canBe_35 ?_
            refine lv_aload_n hx hb dX14_canBe_36 rfl (lv_at hl 0 rfl) ?_
            refine lv_iload_n hx hb dX14_canBe_37 rfl (lv_at hl 2 rfl) ?_
            obtain ⟨v38, s38, h38, hf⟩ := ob_some hf
            refine aw_dV1 (r := r0) (As := [.int x2]) (rest := [.int (gi s q30 (x4 : Int32).toNatClampNeg)]) (ct_X14_shows l G a r0 x2 s v38 s38 h38) hC hW hl.1 vy_X14_shows (Or.inl q1629) g8 rfl rfl rfl rfl (Nat.le_of_ble_eq_true rfl) ⟨Nat.le_of_ble_eq_true rfl, Nat.le_of_ble_eq_true rfl⟩ ⟨Nat.le_of_ble_eq_true rfl, Nat.le_of_ble_eq_true rfl⟩ dX14_canBe_38 (fun H locs hW => ?_)
            refine lv_icmp_ne (tgt := 48) hx hb dX14_canBe_41 (by decide) (fun c41 => ?_) (fun c41 => ?_)
            · have hf := ifn c41 hf
              exact B48 (f_X14_canBe_b5 n) ih r0 x1 x2 x4 s38 hf _ _ _ (lv_sub hl [0, 1, 2, 4] rfl) hW
            · have hf := ifp c41 hf
              exact B44 (f_X14_canBe_b5 n) ih r0 x1 x2 x4 s38 hf _ _ _ (lv_sub hl [0, 1, 2, 4] rfl) hW
  unfold f_X14_canBe at hf
  refine lv_iconst (v := 1) hx hb dX14_canBe_0 (by decide) ?_
  refine lv_istore_n (lv' := [(3, .int 1), (0, .ref (a o)), (1, .int x1), (2, .int x2)]) hx hb dX14_canBe_1 rfl hl (by decide) rfl (fun ls hl => ?_)
  refine lv_iconst (v := 0) hx hb dX14_canBe_2 (by decide) ?_
  refine lv_istore (lv' := [(4, .int 0), (3, .int 1), (0, .ref (a o)), (1, .int x1), (2, .int x2)]) hx hb dX14_canBe_3 hl (by decide) rfl (fun ls hl => ?_)
  exact B5 fuel o x1 x2 1 0 s hf _ _ _ (lv_sub hl [2, 3, 4, 1, 0] rfl) hW
def f_X14_refuse (o : Nat) (s : ST) : Option (Int32 × ST) :=
  gd (o < s.1 ∧ (kd s o).1 = 14) <|
  bnd (pI s o 0 1) fun s2 =>
  some (0, s2)
set_option maxHeartbeats 4000000 in
theorem ct_X14_refuse (l : Launch) (G : GM) (a : Nat → Nat) (o : Nat) (s : ST) (rv : Int32) (sf : ST) (hf : f_X14_refuse o s = some (rv, sf)) : MD l G yX14_refuse (ws_ yX14_refuse cX14_refuse 1 (some .int)) 0 [.ref (a o)] a s (some (.int rv)) sf := by
  refine md_of (d := 0) (lv := [(0, .ref (a o))]) (Or.inl (by decide)) (Nat.le_of_ble_eq_true rfl) rfl ?_
  intro p e s0 m args below meth c ls A P hP hC hr hnm hW hl
  have hx := hC.1
  have hb := hC.2.1
  have hts := hC.2.2.2.2.1
  unfold f_X14_refuse at hf
  refine lv_aload_n hx hb dX14_refuse_0 rfl (lv_at hl 0 rfl) ?_
  refine lv_iconst (v := 1) hx hb dX14_refuse_1 (by decide) ?_
  obtain ⟨g2, hf⟩ := gd_some hf
  obtain ⟨s2, e2, hf⟩ := bnd_some hf
  refine aw_pI e2 hC hW g2 fl_X14_3 (Or.inl fn_13_0) rfl rfl rfl dX14_refuse_2 (fun H locs hW => ?_)
  have g2 := ko_pI e2 g2
  refine lv_iconst (v := 0) hx hb dX14_refuse_5 (by decide) ?_
  obtain ⟨e1, e2⟩ := so_inj hf
  exact aw_iret hC hW hr rfl (p_eq hP (congrArg (fun z => some (Value.int z)) e1) e2) (Nat.le_of_ble_eq_true rfl) (Nat.le_of_ble_eq_true rfl) dX14_refuse_6
def f_X14_change_b31 (r0 : Nat) (s : ST) : Option (Int32 × ST) :=
  gd (r0 < s.1 ∧ (kd s r0).1 = 14) <|
  ob (f_X14_refuse r0 s) fun v32 s32 =>
  some (v32, s32)
def f_X14_change (o : Nat) (x1 : Int32) (x2 : Int32) (s : ST) : Option (Int32 × ST) :=
  gd (o < s.1 ∧ (kd s o).1 = 14) <|
  bnd (pI s o 0 0) fun s2 =>
  ob (f_X14_isPerson o x1 s2) fun v7 s7 =>
  if v7 = 0 then (f_X14_change_b31 o s7) else gd (o < s7.1 ∧ (kd s7 o).1 = 14) <|
  (gr s7 o 7).bind fun q17 =>
  gd (q17 < s7.1 ∧ (kd s7 q17).1 = 100 ∧ ¬ ((x1 : Int32) < 0 ∨ (kd s7 q17).2 ≤ (x1 : Int32).toNatClampNeg)) <|
  bnd (p_in ((x2 : Int32).toInt64) 0 ((((gi s7 q17 (x1 : Int32).toNatClampNeg) - 1) : Int32).toInt64)) fun v25 =>
  if v25 = 0 then (f_X14_change_b31 o s7) else (gr s7 o 6).bind fun q37 =>
  gd (q37 < s7.1 ∧ (kd s7 q37).1 = 100 ∧ ¬ ((((6 * x1) + x2) : Int32) < 0 ∨ (kd s7 q37).2 ≤ (((6 * x1) + x2) : Int32).toNatClampNeg)) <|
  some ((gi s7 q37 (((6 * x1) + x2) : Int32).toNatClampNeg), s7)
set_option maxHeartbeats 4000000 in
theorem ct_X14_change (l : Launch) (G : GM) (a : Nat → Nat) (o : Nat) (x1 : Int32) (x2 : Int32) (s : ST) (rv : Int32) (sf : ST) (hf : f_X14_change o x1 x2 s = some (rv, sf)) : MD l G yX14_change (ws_ yX14_change cX14_change 3 (some .int)) 2 [.ref (a o), .int x1, .int x2] a s (some (.int rv)) sf := by
  refine md_of (d := 2) (lv := [(0, .ref (a o)), (1, .int x1), (2, .int x2)]) (Or.inl (by decide)) (Nat.le_of_ble_eq_true rfl) rfl ?_
  intro p e s0 m args below meth c ls A P hP hC hr hnm hW hl
  have hx := hC.1
  have hb := hC.2.1
  have hts := hC.2.2.2.2.1
  have B31 : ∀ (r0 : Nat) (s : ST), f_X14_change_b31 r0 s = some (rv, sf) → ∀ (H : Heap) (locs : List Loc) (ls : Array Slot), lv_has ls 3 [(0, .ref (a r0))] → AW G a A s s0.heap H locs → WB p l e (rmD 2) s0 m args below meth c H locs G A P 31 ls [] := by
    intro r0 s hf H locs ls hl hW
    unfold f_X14_change_b31 at hf
    refine lv_aload_n hx hb dX14_change_31 rfl (lv_at hl 0 rfl) ?_
    obtain ⟨g32, hf⟩ := gd_some hf
    obtain ⟨v32, s32, h32, hf⟩ := ob_some hf
    refine aw_dV1 (r := r0) (As := []) (rest := []) (ct_X14_refuse l G a r0 s v32 s32 h32) hC hW hl.1 vy_X14_refuse (Or.inl q1622) g32 rfl rfl rfl rfl (Nat.le_of_ble_eq_true rfl) ⟨Nat.le_of_ble_eq_true rfl, Nat.le_of_ble_eq_true rfl⟩ ⟨Nat.le_of_ble_eq_true rfl, Nat.le_of_ble_eq_true rfl⟩ dX14_change_32 (fun H locs hW => ?_)
    obtain ⟨e1, e2⟩ := so_inj hf
    exact aw_iret hC hW hr rfl (p_eq hP (congrArg (fun z => some (Value.int z)) e1) e2) (Nat.le_of_ble_eq_true rfl) (Nat.le_of_ble_eq_true rfl) dX14_change_35
  unfold f_X14_change at hf
  refine lv_aload_n hx hb dX14_change_0 rfl (lv_at hl 0 rfl) ?_
  refine lv_iconst (v := 0) hx hb dX14_change_1 (by decide) ?_
  obtain ⟨g2, hf⟩ := gd_some hf
  obtain ⟨s2, e2, hf⟩ := bnd_some hf
  refine aw_pI e2 hC hW g2 fl_X14_3 (Or.inl fn_13_0) rfl rfl rfl dX14_change_2 (fun H locs hW => ?_)
  have g2 := ko_pI e2 g2
  refine lv_aload_n hx hb dX14_change_5 rfl (lv_at hl 0 rfl) ?_
  refine lv_iload_n hx hb dX14_change_6 rfl (lv_at hl 1 rfl) ?_
  obtain ⟨v7, s7, h7, hf⟩ := ob_some hf
  refine aw_dV1 (r := o) (As := [.int x1]) (rest := []) (ct_X14_isPerson l G a o x1 s2 v7 s7 h7) hC hW hl.1 vy_X14_isPerson (Or.inl q1594) g2 rfl rfl rfl rfl (Nat.le_of_ble_eq_true rfl) ⟨Nat.le_of_ble_eq_true rfl, Nat.le_of_ble_eq_true rfl⟩ ⟨Nat.le_of_ble_eq_true rfl, Nat.le_of_ble_eq_true rfl⟩ dX14_change_7 (fun H locs hW => ?_)
  refine lv_if_eq (tgt := 31) hx hb dX14_change_10 (by decide) (fun c10 => ?_) (fun c10 => ?_)
  · have hf := ifp c10 hf
    exact B31 o s7 hf _ _ _ (lv_sub hl [0] rfl) hW
  · have hf := ifn c10 hf
    refine lv_iload_n hx hb dX14_change_13 rfl (lv_at hl 2 rfl) ?_
    refine lv_i2l (v := (x2 : Int32).toInt64) hx hb dX14_change_14 rfl ?_
    refine lv_lconst (v := 0) hx hb dX14_change_15 (by decide) ?_
    refine lv_aload_n hx hb dX14_change_16 rfl (lv_at hl 0 rfl) ?_
    obtain ⟨g17, hf⟩ := gd_some hf
    obtain ⟨q17, hq17, hf⟩ := bi_some hf
    refine aw_gR hC hW g17 fl_X14_38 rfl hq17 dX14_change_17 ?_
    refine lv_iload_n hx hb dX14_change_20 rfl (lv_at hl 1 rfl) ?_
    obtain ⟨g21, hf⟩ := gd_some hf
    refine aw_iald hC hW g21 dX14_change_21 ?_
    refine lv_iconst (v := 1) hx hb dX14_change_22 (by decide) ?_
    refine lv_isub hx hb dX14_change_23 ?_
    refine lv_i2l (v := (((gi s7 q17 (x1 : Int32).toNatClampNeg) - 1) : Int32).toInt64) hx hb dX14_change_24 rfl ?_
    obtain ⟨v25, ev25, hf⟩ := bnd_some hf
    refine aw_dS1 (As := [.long ((x2 : Int32).toInt64), .long 0, .long ((((gi s7 q17 (x1 : Int32).toNatClampNeg) - 1) : Int32).toInt64)]) (rest := []) (pc_X14_in l G a ((x2 : Int32).toInt64) 0 ((((gi s7 q17 (x1 : Int32).toNatClampNeg) - 1) : Int32).toInt64) s7) hC hW hl.1 sy_X14_in (Or.inl q1514) rfl rfl (Nat.le_of_ble_eq_true rfl) ⟨Nat.le_of_ble_eq_true rfl, Nat.le_of_ble_eq_true rfl⟩ ⟨Nat.le_of_ble_eq_true rfl, Nat.le_of_ble_eq_true rfl⟩ dX14_change_25 (fun H locs hW => ?_)
    refine top_i ev25 ?_
    refine lv_if_ne (tgt := 36) hx hb dX14_change_28 (by decide) (fun c28 => ?_) (fun c28 => ?_)
    · have hf := ifn c28 hf
      refine lv_aload_n hx hb dX14_change_36 rfl (lv_at hl 0 rfl) ?_
      obtain ⟨q37, hq37, hf⟩ := bi_some hf
      refine aw_gR hC hW g17 fl_X14_35 rfl hq37 dX14_change_37 ?_
      refine lv_bipush (v := 6) hx hb dX14_change_40 (by decide) ?_
      refine lv_iload_n hx hb dX14_change_42 rfl (lv_at hl 1 rfl) ?_
      refine lv_imul hx hb dX14_change_43 ?_
      refine lv_iload_n hx hb dX14_change_44 rfl (lv_at hl 2 rfl) ?_
      refine lv_iadd hx hb dX14_change_45 ?_
      obtain ⟨g46, hf⟩ := gd_some hf
      refine aw_iald hC hW g46 dX14_change_46 ?_
      obtain ⟨e1, e2⟩ := so_inj hf
      exact aw_iret hC hW hr rfl (p_eq hP (congrArg (fun z => some (Value.int z)) e1) e2) (Nat.le_of_ble_eq_true rfl) (Nat.le_of_ble_eq_true rfl) dX14_change_47
    · have hf := ifp c28 hf
      exact B31 o s7 hf _ _ _ (lv_sub hl [0] rfl) hW
def f_X14_cheapest_b87 (K14 : Nat → Int32 → Int32 → Int32 → ST → Option (Int32 × ST)) (r0 : Nat) (x1 : Int32) (x2 : Int32) (x3 : Int32) (s : ST) : Option (Int32 × ST) :=
  bnd (x3 + 1 : Int32) fun v87 =>
  K14 r0 x1 x2 v87 s
def f_X14_cheapest_b81 (K36 : Nat → Int32 → Int32 → Int32 → Int32 → ST → Option (Int32 × ST)) (r0 : Nat) (x1 : Int32) (x2 : Int32) (x3 : Int32) (x4 : Int32) (s : ST) : Option (Int32 × ST) :=
  bnd (x4 + 1 : Int32) fun v81 =>
  K36 r0 x1 x2 x3 v81 s
def f_X14_cheapest_b36 (K14 : Nat → Int32 → Int32 → Int32 → ST → Option (Int32 × ST)) : Nat → Nat → Int32 → Int32 → Int32 → Int32 → ST → Option (Int32 × ST)
  | 0, _, _, _, _, _, _ => none
  | n + 1, r0, x1, x2, x3, x4, s =>
  if x2 ≤ x4 then (f_X14_cheapest_b87 K14 r0 x1 x2 x3 s) else gd (r0 < s.1 ∧ (kd s r0).1 = 14) <|
  ob (f_X14_startsWith r0 x3 x4 s) fun _ s46 =>
  gd (r0 < s46.1 ∧ (kd s46 r0).1 = 14) <|
  (gr s46 r0 11).bind fun q52 =>
  ob (f_X14_willing r0 q52 s46) fun v55 s55 =>
  gd (r0 < s55.1 ∧ (kd s55 r0).1 = 14) <|
  ob (f_X14_goesNext r0 (v55 ||| (1 <<< (x3 &&& 31))) s55) fun _ s62 =>
  gd (r0 < s62.1 ∧ (kd s62 r0).1 = 14) <|
  (gr s62 r0 11).bind fun q66 =>
  gd (q66 < s62.1 ∧ (kd s62 q66).1 = 100 ∧ ¬ ((17 : Int32) < 0 ∨ (kd s62 q66).2 ≤ (17 : Int32).toNatClampNeg)) <|
  if (gi s62 q66 (17 : Int32).toNatClampNeg) = x3 then (f_X14_cheapest_b81 (f_X14_cheapest_b36 K14 n) r0 x3 x4 x3 x4 s62) else f_X14_cheapest_b81 (f_X14_cheapest_b36 K14 n) r0 x1 x2 x3 x4 s62
def f_X14_cheapest_b14 : Nat → Nat → Int32 → Int32 → Int32 → ST → Option (Int32 × ST)
  | 0, _, _, _, _, _ => none
  | n + 1, r0, x1, x2, x3, s =>
  gd (r0 < s.1 ∧ (kd s r0).1 = 14) <|
  if (gi s r0 3) ≤ x3 then (if 0 ≤ x1 then (bnd (pI s r0 1 0) fun s102 =>
  ob (f_X14_enters r0 ((x2 : Int32).toInt64) s102) fun _ s108 =>
  some (x1, s108)) else some ((-2), s)) else ob (f_X14_isAlive r0 x3 s) fun v24 s24 =>
  if v24 = 0 then (f_X14_cheapest_b87 (f_X14_cheapest_b14 n) r0 x1 x2 x3 s24) else f_X14_cheapest_b36 (f_X14_cheapest_b14 n) fuel r0 x1 x2 x3 0 s24
def f_X14_cheapest (o : Nat) (s : ST) : Option (Int32 × ST) :=
  gd (o < s.1 ∧ (kd s o).1 = 14) <|
  bnd (pI s o 0 0) fun s2 =>
  f_X14_cheapest_b14 fuel o (-2) 1000 0 s2
set_option maxHeartbeats 4000000 in
theorem ct_X14_cheapest (l : Launch) (G : GM) (a : Nat → Nat) (o : Nat) (s : ST) (rv : Int32) (sf : ST) (hf : f_X14_cheapest o s = some (rv, sf)) : MD l G yX14_cheapest (ws_ yX14_cheapest cX14_cheapest 5 (some .int)) 5 [.ref (a o)] a s (some (.int rv)) sf := by
  refine md_of (d := 5) (lv := [(0, .ref (a o))]) (Or.inl (by decide)) (Nat.le_of_ble_eq_true rfl) rfl ?_
  intro p e s0 m args below meth c ls A P hP hC hr hnm hW hl
  have hx := hC.1
  have hb := hC.2.1
  have hts := hC.2.2.2.2.1
  have B87 : ∀ (K14 : Nat → Int32 → Int32 → Int32 → ST → Option (Int32 × ST)) (hK14 : ∀ (r0 : Nat) (x1 : Int32) (x2 : Int32) (x3 : Int32) (s : ST), K14 r0 x1 x2 x3 s = some (rv, sf) → ∀ (H : Heap) (locs : List Loc) (ls : Array Slot), lv_has ls 5 [(0, .ref (a r0)), (1, .int x1), (2, .int x2), (3, .int x3)] → AW G a A s s0.heap H locs → WB p l e (rmD 5) s0 m args below meth c H locs G A P 14 ls []), ∀ (r0 : Nat) (x1 : Int32) (x2 : Int32) (x3 : Int32) (s : ST), f_X14_cheapest_b87 K14 r0 x1 x2 x3 s = some (rv, sf) → ∀ (H : Heap) (locs : List Loc) (ls : Array Slot), lv_has ls 5 [(0, .ref (a r0)), (1, .int x1), (2, .int x2), (3, .int x3)] → AW G a A s s0.heap H locs → WB p l e (rmD 5) s0 m args below meth c H locs G A P 87 ls [] := by
    intro K14 hK14 r0 x1 x2 x3 s hf H locs ls hl hW
    unfold f_X14_cheapest_b87 at hf
    obtain ⟨v87, ev87, hf⟩ := bnd_some hf
    refine lv_iinc (v := v87) (lv' := [(3, .int v87), (0, .ref (a r0)), (1, .int x1), (2, .int x2)]) hx hb dX14_cheapest_87 hl (k := 3) rfl (by rw [ev87]; rfl) (by decide) rfl (fun ls hl => ?_)
    refine lv_goto (tgt := 14) hx hb dX14_cheapest_90 (by decide) ?_
    exact hK14 r0 x1 x2 v87 s hf _ _ _ (lv_sub hl [1, 2, 3, 0] rfl) hW
  have B81 : ∀ (K36 : Nat → Int32 → Int32 → Int32 → Int32 → ST → Option (Int32 × ST)) (hK36 : ∀ (r0 : Nat) (x1 : Int32) (x2 : Int32) (x3 : Int32) (x4 : Int32) (s : ST), K36 r0 x1 x2 x3 x4 s = some (rv, sf) → ∀ (H : Heap) (locs : List Loc) (ls : Array Slot), lv_has ls 5 [(0, .ref (a r0)), (1, .int x1), (2, .int x2), (3, .int x3), (4, .int x4)] → AW G a A s s0.heap H locs → WB p l e (rmD 5) s0 m args below meth c H locs G A P 36 ls []), ∀ (r0 : Nat) (x1 : Int32) (x2 : Int32) (x3 : Int32) (x4 : Int32) (s : ST), f_X14_cheapest_b81 K36 r0 x1 x2 x3 x4 s = some (rv, sf) → ∀ (H : Heap) (locs : List Loc) (ls : Array Slot), lv_has ls 5 [(0, .ref (a r0)), (1, .int x1), (2, .int x2), (3, .int x3), (4, .int x4)] → AW G a A s s0.heap H locs → WB p l e (rmD 5) s0 m args below meth c H locs G A P 81 ls [] := by
    intro K36 hK36 r0 x1 x2 x3 x4 s hf H locs ls hl hW
    unfold f_X14_cheapest_b81 at hf
    obtain ⟨v81, ev81, hf⟩ := bnd_some hf
    refine lv_iinc (v := v81) (lv' := [(4, .int v81), (0, .ref (a r0)), (1, .int x1), (2, .int x2), (3, .int x3)]) hx hb dX14_cheapest_81 hl (k := 4) rfl (by rw [ev81]; rfl) (by decide) rfl (fun ls hl => ?_)
    refine lv_goto (tgt := 36) hx hb dX14_cheapest_84 (by decide) ?_
    exact hK36 r0 x1 x2 x3 v81 s hf _ _ _ (lv_sub hl [1, 2, 3, 4, 0] rfl) hW
  have B36 : ∀ (K14 : Nat → Int32 → Int32 → Int32 → ST → Option (Int32 × ST)) (hK14 : ∀ (r0 : Nat) (x1 : Int32) (x2 : Int32) (x3 : Int32) (s : ST), K14 r0 x1 x2 x3 s = some (rv, sf) → ∀ (H : Heap) (locs : List Loc) (ls : Array Slot), lv_has ls 5 [(0, .ref (a r0)), (1, .int x1), (2, .int x2), (3, .int x3)] → AW G a A s s0.heap H locs → WB p l e (rmD 5) s0 m args below meth c H locs G A P 14 ls []), ∀ (n : Nat), ∀ (r0 : Nat) (x1 : Int32) (x2 : Int32) (x3 : Int32) (x4 : Int32) (s : ST), f_X14_cheapest_b36 K14 n r0 x1 x2 x3 x4 s = some (rv, sf) → ∀ (H : Heap) (locs : List Loc) (ls : Array Slot), lv_has ls 5 [(0, .ref (a r0)), (1, .int x1), (2, .int x2), (3, .int x3), (4, .int x4)] → AW G a A s s0.heap H locs → WB p l e (rmD 5) s0 m args below meth c H locs G A P 36 ls [] := by
    intro K14 hK14
    intro n
    induction n with
    | zero => intro r0 x1 x2 x3 x4 s hf; cases hf
    | succ n ih =>
      intro r0 x1 x2 x3 x4 s hf H locs ls hl hW
      rw [f_X14_cheapest_b36] at hf
      refine lv_iload hx hb dX14_cheapest_36 (lv_at hl 4 rfl) ?_
      refine lv_iload_n hx hb dX14_cheapest_38 rfl (lv_at hl 2 rfl) ?_
      refine lv_icmp_ge (tgt := 87) hx hb dX14_cheapest_39 (by decide) (fun c39 => ?_) (fun c39 => ?_)
      · have hf := ifp c39 hf
        exact B87 K14 hK14 r0 x1 x2 x3 s hf _ _ _ (lv_sub hl [0, 1, 2, 3] rfl) hW
      · have hf := ifn c39 hf
        refine lv_aload_n hx hb dX14_cheapest_42 rfl (lv_at hl 0 rfl) ?_
        refine lv_iload_n hx hb dX14_cheapest_43 rfl (lv_at hl 3 rfl) ?_
        refine lv_iload hx hb dX14_cheapest_44 (lv_at hl 4 rfl) ?_
        obtain ⟨g46, hf⟩ := gd_some hf
        obtain ⟨_, s46, h46, hf⟩ := ob_some hf
        refine aw_dV0 (r := r0) (As := [.int x3, .int x4]) (rest := []) (ct_X14_startsWith l G a r0 x3 x4 s () s46 h46) hC hW hl.1 vy_X14_startsWith (Or.inl q1821) g46 rfl rfl rfl rfl (Nat.le_of_ble_eq_true rfl) ⟨Nat.le_of_ble_eq_true rfl, Nat.le_of_ble_eq_true rfl⟩ ⟨Nat.le_of_ble_eq_true rfl, Nat.le_of_ble_eq_true rfl⟩ dX14_cheapest_46 (fun H locs hW => ?_)
        refine lv_aload_n hx hb dX14_cheapest_49 rfl (lv_at hl 0 rfl) ?_
        refine lv_aload_n hx hb dX14_cheapest_50 rfl (lv_at hl 0 rfl) ?_
        refine lv_aload_n hx hb dX14_cheapest_51 rfl (lv_at hl 0 rfl) ?_
        obtain ⟨g52, hf⟩ := gd_some hf
        obtain ⟨q52, hq52, hf⟩ := bi_some hf
        refine aw_gR hC hW g52 fl_X14_47 rfl hq52 dX14_cheapest_52 ?_
        obtain ⟨v55, s55, h55, hf⟩ := ob_some hf
        refine aw_dV1 (r := r0) (As := [.ref (a q52)]) (rest := [.ref (a r0)]) (ct_X14_willing l G a r0 q52 s46 v55 s55 h55) hC hW hl.1 vy_X14_willing (Or.inl q1698) g52 rfl rfl rfl rfl (Nat.le_of_ble_eq_true rfl) ⟨Nat.le_of_ble_eq_true rfl, Nat.le_of_ble_eq_true rfl⟩ ⟨Nat.le_of_ble_eq_true rfl, Nat.le_of_ble_eq_true rfl⟩ dX14_cheapest_55 (fun H locs hW => ?_)
        refine lv_iconst (v := 1) hx hb dX14_cheapest_58 (by decide) ?_
        refine lv_iload_n hx hb dX14_cheapest_59 rfl (lv_at hl 3 rfl) ?_
        refine lv_ishl hx hb dX14_cheapest_60 ?_
        refine lv_ior hx hb dX14_cheapest_61 ?_
        obtain ⟨g62, hf⟩ := gd_some hf
        obtain ⟨_, s62, h62, hf⟩ := ob_some hf
        refine aw_dV0 (r := r0) (As := [.int (v55 ||| (1 <<< (x3 &&& 31)))]) (rest := []) (ct_X14_goesNext l G a r0 (v55 ||| (1 <<< (x3 &&& 31))) s55 () s62 h62) hC hW hl.1 vy_X14_goesNext (Or.inl q1760) g62 rfl rfl rfl rfl (Nat.le_of_ble_eq_true rfl) ⟨Nat.le_of_ble_eq_true rfl, Nat.le_of_ble_eq_true rfl⟩ ⟨Nat.le_of_ble_eq_true rfl, Nat.le_of_ble_eq_true rfl⟩ dX14_cheapest_62 (fun H locs hW => ?_)
        refine lv_aload_n hx hb dX14_cheapest_65 rfl (lv_at hl 0 rfl) ?_
        obtain ⟨g66, hf⟩ := gd_some hf
        obtain ⟨q66, hq66, hf⟩ := bi_some hf
        refine aw_gR hC hW g66 fl_X14_47 rfl hq66 dX14_cheapest_66 ?_
        refine lv_bipush (v := 17) hx hb dX14_cheapest_69 (by decide) ?_
        obtain ⟨g71, hf⟩ := gd_some hf
        refine aw_iald hC hW g71 dX14_cheapest_71 ?_
        refine lv_iload_n hx hb dX14_cheapest_72 rfl (lv_at hl 3 rfl) ?_
        refine lv_icmp_ne (tgt := 81) hx hb dX14_cheapest_73 (by decide) (fun c73 => ?_) (fun c73 => ?_)
        · have hf := ifn c73 hf
          exact B81 (f_X14_cheapest_b36 K14 n) ih r0 x1 x2 x3 x4 s62 hf _ _ _ (lv_sub hl [0, 1, 2, 3, 4] rfl) hW
        · have hf := ifp c73 hf
          refine lv_iload_n hx hb dX14_cheapest_76 rfl (lv_at hl 3 rfl) ?_
          refine lv_istore_n (lv' := [(1, .int x3), (0, .ref (a r0)), (2, .int x2), (3, .int x3), (4, .int x4)]) hx hb dX14_cheapest_77 rfl hl (by decide) rfl (fun ls hl => ?_)
          refine lv_iload hx hb dX14_cheapest_78 (lv_at hl 4 rfl) ?_
          refine lv_istore_n (lv' := [(2, .int x4), (1, .int x3), (0, .ref (a r0)), (3, .int x3), (4, .int x4)]) hx hb dX14_cheapest_80 rfl hl (by decide) rfl (fun ls hl => ?_)
          exact B81 (f_X14_cheapest_b36 K14 n) ih r0 x3 x4 x3 x4 s62 hf _ _ _ (lv_sub hl [2, 1, 0, 3, 4] rfl) hW
  have B14 : ∀ (n : Nat), ∀ (r0 : Nat) (x1 : Int32) (x2 : Int32) (x3 : Int32) (s : ST), f_X14_cheapest_b14 n r0 x1 x2 x3 s = some (rv, sf) → ∀ (H : Heap) (locs : List Loc) (ls : Array Slot), lv_has ls 5 [(0, .ref (a r0)), (1, .int x1), (2, .int x2), (3, .int x3)] → AW G a A s s0.heap H locs → WB p l e (rmD 5) s0 m args below meth c H locs G A P 14 ls [] := by
    intro n
    induction n with
    | zero => intro r0 x1 x2 x3 s hf; cases hf
    | succ n ih =>
      intro r0 x1 x2 x3 s hf H locs ls hl hW
      rw [f_X14_cheapest_b14] at hf
      refine lv_iload_n hx hb dX14_cheapest_14 rfl (lv_at hl 3 rfl) ?_
      refine lv_aload_n hx hb dX14_cheapest_15 rfl (lv_at hl 0 rfl) ?_
      obtain ⟨g16, hf⟩ := gd_some hf
      refine aw_gI hC hW g16 fl_X14_117 rfl dX14_cheapest_16 ?_
      refine lv_icmp_ge (tgt := 93) hx hb dX14_cheapest_19 (by decide) (fun c19 => ?_) (fun c19 => ?_)
      · have hf := ifp c19 hf
        refine lv_iload_n hx hb dX14_cheapest_93 rfl (lv_at hl 1 rfl) ?_
        refine lv_if_ge (tgt := 100) hx hb dX14_cheapest_94 (by decide) (fun c94 => ?_) (fun c94 => ?_)
        · have hf := ifp c94 hf
          refine lv_aload_n hx hb dX14_cheapest_100 rfl (lv_at hl 0 rfl) ?_
          refine lv_iconst (v := 0) hx hb dX14_cheapest_101 (by decide) ?_
          obtain ⟨s102, e102, hf⟩ := bnd_some hf
          refine aw_pI e102 hC hW g16 fl_X14_15 (Or.inl fn_13_1) rfl rfl rfl dX14_cheapest_102 (fun H locs hW => ?_)
          have g16 := ko_pI e102 g16
          refine lv_aload_n hx hb dX14_cheapest_105 rfl (lv_at hl 0 rfl) ?_
          refine lv_iload_n hx hb dX14_cheapest_106 rfl (lv_at hl 2 rfl) ?_
          refine lv_i2l (v := (x2 : Int32).toInt64) hx hb dX14_cheapest_107 rfl ?_
          obtain ⟨_, s108, h108, hf⟩ := ob_some hf
          refine aw_dV0 (r := r0) (As := [.long ((x2 : Int32).toInt64)]) (rest := []) (ct_X14_enters l G a r0 ((x2 : Int32).toInt64) s102 () s108 h108) hC hW hl.1 vy_X14_enters (Or.inl q1689) g16 rfl rfl rfl rfl (Nat.le_of_ble_eq_true rfl) ⟨Nat.le_of_ble_eq_true rfl, Nat.le_of_ble_eq_true rfl⟩ ⟨Nat.le_of_ble_eq_true rfl, Nat.le_of_ble_eq_true rfl⟩ dX14_cheapest_108 (fun H locs hW => ?_)
          refine lv_iload_n hx hb dX14_cheapest_111 rfl (lv_at hl 1 rfl) ?_
          obtain ⟨e1, e2⟩ := so_inj hf
          exact aw_iret hC hW hr rfl (p_eq hP (congrArg (fun z => some (Value.int z)) e1) e2) (Nat.le_of_ble_eq_true rfl) (Nat.le_of_ble_eq_true rfl) dX14_cheapest_112
        · have hf := ifn c94 hf
          refine lv_bipush (v := (-2)) hx hb dX14_cheapest_97 (by decide) ?_
          obtain ⟨e1, e2⟩ := so_inj hf
          exact aw_iret hC hW hr rfl (p_eq hP (congrArg (fun z => some (Value.int z)) e1) e2) (Nat.le_of_ble_eq_true rfl) (Nat.le_of_ble_eq_true rfl) dX14_cheapest_99
      · have hf := ifn c19 hf
        refine lv_aload_n hx hb dX14_cheapest_22 rfl (lv_at hl 0 rfl) ?_
        refine lv_iload_n hx hb dX14_cheapest_23 rfl (lv_at hl 3 rfl) ?_
        obtain ⟨v24, s24, h24, hf⟩ := ob_some hf
        refine aw_dV1 (r := r0) (As := [.int x3]) (rest := []) (ct_X14_isAlive l G a r0 x3 s v24 s24 h24) hC hW hl.1 vy_X14_isAlive (Or.inl q1722) g16 rfl rfl rfl rfl (Nat.le_of_ble_eq_true rfl) ⟨Nat.le_of_ble_eq_true rfl, Nat.le_of_ble_eq_true rfl⟩ ⟨Nat.le_of_ble_eq_true rfl, Nat.le_of_ble_eq_true rfl⟩ dX14_cheapest_24 (fun H locs hW => ?_)
        refine lv_if_ne (tgt := 33) hx hb dX14_cheapest_27 (by decide) (fun c27 => ?_) (fun c27 => ?_)
        · have hf := ifn c27 hf
          refine lv_iconst (v := 0) hx hb dX14_cheapest_33 (by decide) ?_
          refine lv_istore (lv' := [(4, .int 0), (0, .ref (a r0)), (1, .int x1), (2, .int x2), (3, .int x3)]) hx hb dX14_cheapest_34 hl (by decide) rfl (fun ls hl => ?_)
          exact B36 (f_X14_cheapest_b14 n) ih fuel r0 x1 x2 x3 0 s24 hf _ _ _ (lv_sub hl [1, 2, 3, 4, 0] rfl) hW
        · have hf := ifp c27 hf
          refine lv_goto (tgt := 87) hx hb dX14_cheapest_30 (by decide) ?_
          exact B87 (f_X14_cheapest_b14 n) ih r0 x1 x2 x3 s24 hf _ _ _ (lv_sub hl [0, 1, 2, 3] rfl) hW
  unfold f_X14_cheapest at hf
  refine lv_aload_n hx hb dX14_cheapest_0 rfl (lv_at hl 0 rfl) ?_
  refine lv_iconst (v := 0) hx hb dX14_cheapest_1 (by decide) ?_
  obtain ⟨g2, hf⟩ := gd_some hf
  obtain ⟨s2, e2, hf⟩ := bnd_some hf
  refine aw_pI e2 hC hW g2 fl_X14_3 (Or.inl fn_13_0) rfl rfl rfl dX14_cheapest_2 (fun H locs hW => ?_)
  have g2 := ko_pI e2 g2
  refine lv_bipush (v := (-2)) hx hb dX14_cheapest_5 (by decide) ?_
  refine lv_istore_n (lv' := [(1, .int (-2)), (0, .ref (a o))]) hx hb dX14_cheapest_7 rfl hl (by decide) rfl (fun ls hl => ?_)
  refine lv_sipush (v := 1000) hx hb dX14_cheapest_8 (by decide) ?_
  refine lv_istore_n (lv' := [(2, .int 1000), (1, .int (-2)), (0, .ref (a o))]) hx hb dX14_cheapest_11 rfl hl (by decide) rfl (fun ls hl => ?_)
  refine lv_iconst (v := 0) hx hb dX14_cheapest_12 (by decide) ?_
  refine lv_istore_n (lv' := [(3, .int 0), (2, .int 1000), (1, .int (-2)), (0, .ref (a o))]) hx hb dX14_cheapest_13 rfl hl (by decide) rfl (fun ls hl => ?_)
  exact B14 fuel o (-2) 1000 0 s2 hf _ _ _ (lv_sub hl [3, 2, 1, 0] rfl) hW
def f_X14_wrong_b34 (K4 : Nat → Int32 → Int32 → ST → Option (Int32 × ST)) (r0 : Nat) (x2 : Int32) (t0 : Int32) (t1 : Int32) (s : ST) : Option (Int32 × ST) :=
  bnd ((t1 ||| t0) : Int32) fun v35 =>
  bnd (x2 + 1 : Int32) fun v36 =>
  K4 r0 v35 v36 s
def f_X14_wrong_b4 : Nat → Nat → Int32 → Int32 → ST → Option (Int32 × ST)
  | 0, _, _, _, _ => none
  | n + 1, r0, x1, x2, s =>
  gd (r0 < s.1 ∧ (kd s r0).1 = 14) <|
  if (gi s r0 3) ≤ x2 then (some (x1, s)) else (gr s r0 10).bind fun q16 =>
  gd (q16 < s.1 ∧ (kd s q16).1 = 100 ∧ ¬ ((x2 : Int32) < 0 ∨ (kd s q16).2 ≤ (x2 : Int32).toNatClampNeg)) <|
  ob (f_X14_canBe r0 x2 (gi s q16 (x2 : Int32).toNatClampNeg) s) fun v21 s21 =>
  if v21 = 0 then (f_X14_wrong_b34 (f_X14_wrong_b4 n) r0 x2 (1 <<< (x2 &&& 31)) x1 s21) else f_X14_wrong_b34 (f_X14_wrong_b4 n) r0 x2 0 x1 s21
def f_X14_wrong (o : Nat) (s : ST) : Option (Int32 × ST) :=
  f_X14_wrong_b4 fuel o 0 0 s
set_option maxHeartbeats 4000000 in
theorem ct_X14_wrong (l : Launch) (G : GM) (a : Nat → Nat) (o : Nat) (s : ST) (rv : Int32) (sf : ST) (hf : f_X14_wrong o s = some (rv, sf)) : MD l G yX14_wrong (ws_ yX14_wrong cX14_wrong 3 (some .int)) 3 [.ref (a o)] a s (some (.int rv)) sf := by
  refine md_of (d := 3) (lv := [(0, .ref (a o))]) (Or.inl (by decide)) (Nat.le_of_ble_eq_true rfl) rfl ?_
  intro p e s0 m args below meth c ls A P hP hC hr hnm hW hl
  have hx := hC.1
  have hb := hC.2.1
  have hts := hC.2.2.2.2.1
  have B34 : ∀ (K4 : Nat → Int32 → Int32 → ST → Option (Int32 × ST)) (hK4 : ∀ (r0 : Nat) (x1 : Int32) (x2 : Int32) (s : ST), K4 r0 x1 x2 s = some (rv, sf) → ∀ (H : Heap) (locs : List Loc) (ls : Array Slot), lv_has ls 3 [(0, .ref (a r0)), (1, .int x1), (2, .int x2)] → AW G a A s s0.heap H locs → WB p l e (rmD 3) s0 m args below meth c H locs G A P 4 ls []), ∀ (r0 : Nat) (x2 : Int32) (t0 : Int32) (t1 : Int32) (s : ST), f_X14_wrong_b34 K4 r0 x2 t0 t1 s = some (rv, sf) → ∀ (H : Heap) (locs : List Loc) (ls : Array Slot), lv_has ls 3 [(0, .ref (a r0)), (2, .int x2)] → AW G a A s s0.heap H locs → WB p l e (rmD 3) s0 m args below meth c H locs G A P 34 ls [.int t0, .int t1] := by
    intro K4 hK4 r0 x2 t0 t1 s hf H locs ls hl hW
    unfold f_X14_wrong_b34 at hf
    refine lv_ior hx hb dX14_wrong_34 ?_
    obtain ⟨v35, ev35, hf⟩ := bnd_some hf
    refine top_i ev35 ?_
    refine lv_istore_n (lv' := [(1, .int v35), (0, .ref (a r0)), (2, .int x2)]) hx hb dX14_wrong_35 rfl hl (by decide) rfl (fun ls hl => ?_)
    obtain ⟨v36, ev36, hf⟩ := bnd_some hf
    refine lv_iinc (v := v36) (lv' := [(2, .int v36), (1, .int v35), (0, .ref (a r0))]) hx hb dX14_wrong_36 hl (k := 2) rfl (by rw [ev36]; rfl) (by decide) rfl (fun ls hl => ?_)
    refine lv_goto (tgt := 4) hx hb dX14_wrong_39 (by decide) ?_
    exact hK4 r0 v35 v36 s hf _ _ _ (lv_sub hl [2, 1, 0] rfl) hW
  have B4 : ∀ (n : Nat), ∀ (r0 : Nat) (x1 : Int32) (x2 : Int32) (s : ST), f_X14_wrong_b4 n r0 x1 x2 s = some (rv, sf) → ∀ (H : Heap) (locs : List Loc) (ls : Array Slot), lv_has ls 3 [(0, .ref (a r0)), (1, .int x1), (2, .int x2)] → AW G a A s s0.heap H locs → WB p l e (rmD 3) s0 m args below meth c H locs G A P 4 ls [] := by
    intro n
    induction n with
    | zero => intro r0 x1 x2 s hf; cases hf
    | succ n ih =>
      intro r0 x1 x2 s hf H locs ls hl hW
      rw [f_X14_wrong_b4] at hf
      refine lv_iload_n hx hb dX14_wrong_4 rfl (lv_at hl 2 rfl) ?_
      refine lv_aload_n hx hb dX14_wrong_5 rfl (lv_at hl 0 rfl) ?_
      obtain ⟨g6, hf⟩ := gd_some hf
      refine aw_gI hC hW g6 fl_X14_117 rfl dX14_wrong_6 ?_
      refine lv_icmp_ge (tgt := 42) hx hb dX14_wrong_9 (by decide) (fun c9 => ?_) (fun c9 => ?_)
      · have hf := ifp c9 hf
        refine lv_iload_n hx hb dX14_wrong_42 rfl (lv_at hl 1 rfl) ?_
        obtain ⟨e1, e2⟩ := so_inj hf
        exact aw_iret hC hW hr rfl (p_eq hP (congrArg (fun z => some (Value.int z)) e1) e2) (Nat.le_of_ble_eq_true rfl) (Nat.le_of_ble_eq_true rfl) dX14_wrong_43
      · have hf := ifn c9 hf
        refine lv_iload_n hx hb dX14_wrong_12 rfl (lv_at hl 1 rfl) ?_
        refine lv_aload_n hx hb dX14_wrong_13 rfl (lv_at hl 0 rfl) ?_
        refine lv_iload_n hx hb dX14_wrong_14 rfl (lv_at hl 2 rfl) ?_
        refine lv_aload_n hx hb dX14_wrong_15 rfl (lv_at hl 0 rfl) ?_
        obtain ⟨q16, hq16, hf⟩ := bi_some hf
        refine aw_gR hC hW g6 fl_X14_44 rfl hq16 dX14_wrong_16 ?_
        refine lv_iload_n hx hb dX14_wrong_19 rfl (lv_at hl 2 rfl) ?_
        obtain ⟨g20, hf⟩ := gd_some hf
        refine aw_iald hC hW g20 dX14_wrong_20 ?_
        obtain ⟨v21, s21, h21, hf⟩ := ob_some hf
        refine aw_dV1 (r := r0) (As := [.int x2, .int (gi s q16 (x2 : Int32).toNatClampNeg)]) (rest := [.int x1]) (ct_X14_canBe l G a r0 x2 (gi s q16 (x2 : Int32).toNatClampNeg) s v21 s21 h21) hC hW hl.1 vy_X14_canBe (Or.inl q1854) g6 rfl rfl rfl rfl (Nat.le_of_ble_eq_true rfl) ⟨Nat.le_of_ble_eq_true rfl, Nat.le_of_ble_eq_true rfl⟩ ⟨Nat.le_of_ble_eq_true rfl, Nat.le_of_ble_eq_true rfl⟩ dX14_wrong_21 (fun H locs hW => ?_)
        refine lv_if_eq (tgt := 31) hx hb dX14_wrong_24 (by decide) (fun c24 => ?_) (fun c24 => ?_)
        · have hf := ifp c24 hf
          refine lv_iconst (v := 1) hx hb dX14_wrong_31 (by decide) ?_
          refine lv_iload_n hx hb dX14_wrong_32 rfl (lv_at hl 2 rfl) ?_
          refine lv_ishl hx hb dX14_wrong_33 ?_
          exact B34 (f_X14_wrong_b4 n) ih r0 x2 (1 <<< (x2 &&& 31)) x1 s21 hf _ _ _ (lv_sub hl [0, 2] rfl) hW
        · have hf := ifn c24 hf
          refine lv_iconst (v := 0) hx hb dX14_wrong_27 (by decide) ?_
          refine lv_goto (tgt := 34) hx hb dX14_wrong_28 (by decide) ?_
          exact B34 (f_X14_wrong_b4 n) ih r0 x2 0 x1 s21 hf _ _ _ (lv_sub hl [0, 2] rfl) hW
  unfold f_X14_wrong at hf
  refine lv_iconst (v := 0) hx hb dX14_wrong_0 (by decide) ?_
  refine lv_istore_n (lv' := [(1, .int 0), (0, .ref (a o))]) hx hb dX14_wrong_1 rfl hl (by decide) rfl (fun ls hl => ?_)
  refine lv_iconst (v := 0) hx hb dX14_wrong_2 (by decide) ?_
  refine lv_istore_n (lv' := [(2, .int 0), (1, .int 0), (0, .ref (a o))]) hx hb dX14_wrong_3 rfl hl (by decide) rfl (fun ls hl => ?_)
  exact B4 fuel o 0 0 s hf _ _ _ (lv_sub hl [2, 1, 0] rfl) hW
def f_X14_cheats_b63 (K24 : Nat → Int32 → Int32 → Int32 → Int32 → ST → Option (Int32 × ST)) (r0 : Nat) (x1 : Int32) (x2 : Int32) (x3 : Int32) (x4 : Int32) (s : ST) : Option (Int32 × ST) :=
  gd (r0 < s.1 ∧ (kd s r0).1 = 14) <|
  bnd (pI s r0 9 ((gi s r0 9) + 1)) fun s70 =>
  K24 r0 x1 x2 x3 x4 s70
def f_X14_cheats_b24 : Nat → Nat → Int32 → Int32 → Int32 → Int32 → ST → Option (Int32 × ST)
  | 0, _, _, _, _, _, _ => none
  | n + 1, r0, x1, x2, x3, x4, s =>
  gd (r0 < s.1 ∧ (kd s r0).1 = 14) <|
  if 9 < (gi s r0 9) then (bnd (pI s r0 9 x1) fun s78 =>
  bnd (pI s78 r0 1 0) fun s83 =>
  ob (f_X14_enters r0 ((x3 : Int32).toInt64) s83) fun _ s89 =>
  gd (r0 < s89.1 ∧ (kd s89 r0).1 = 14) <|
  ob (f_X14_enters r0 ((x4 : Int32).toInt64) s89) fun _ s96 =>
  some (x2, s96)) else ob (f_X14_wrong r0 s) fun v34 s34 =>
  ob (f_J8_bitCount v34 s34) fun v41 s41 =>
  if x2 ≤ v41 then (f_X14_cheats_b63 (f_X14_cheats_b24 n) r0 x1 x2 x3 x4 s41) else ob (f_J8_bitCount v34 s41) fun v50 s50 =>
  gd (r0 < s50.1 ∧ (kd s50 r0).1 = 14) <|
  bnd ((gi s50 r0 9) : Int32) fun v61 =>
  f_X14_cheats_b63 (f_X14_cheats_b24 n) r0 x1 v50 v34 v61 s50
def f_X14_cheats (o : Nat) (s : ST) : Option (Int32 × ST) :=
  gd (o < s.1 ∧ (kd s o).1 = 14) <|
  bnd (pI s o 0 0) fun s2 =>
  bnd ((gi s2 o 9) : Int32) fun v9 =>
  bnd (pI s2 o 9 (-9)) fun s21 =>
  f_X14_cheats_b24 fuel o v9 9 0 0 s21
set_option maxHeartbeats 4000000 in
theorem ct_X14_cheats (l : Launch) (G : GM) (a : Nat → Nat) (o : Nat) (s : ST) (rv : Int32) (sf : ST) (hf : f_X14_cheats o s = some (rv, sf)) : MD l G yX14_cheats (ws_ yX14_cheats cX14_cheats 6 (some .int)) 4 [.ref (a o)] a s (some (.int rv)) sf := by
  refine md_of (d := 4) (lv := [(0, .ref (a o))]) (Or.inl (by decide)) (Nat.le_of_ble_eq_true rfl) rfl ?_
  intro p e s0 m args below meth c ls A P hP hC hr hnm hW hl
  have hx := hC.1
  have hb := hC.2.1
  have hts := hC.2.2.2.2.1
  have B63 : ∀ (K24 : Nat → Int32 → Int32 → Int32 → Int32 → ST → Option (Int32 × ST)) (hK24 : ∀ (r0 : Nat) (x1 : Int32) (x2 : Int32) (x3 : Int32) (x4 : Int32) (s : ST), K24 r0 x1 x2 x3 x4 s = some (rv, sf) → ∀ (H : Heap) (locs : List Loc) (ls : Array Slot), lv_has ls 6 [(0, .ref (a r0)), (1, .int x1), (2, .int x2), (3, .int x3), (4, .int x4)] → AW G a A s s0.heap H locs → WB p l e (rmD 4) s0 m args below meth c H locs G A P 24 ls []), ∀ (r0 : Nat) (x1 : Int32) (x2 : Int32) (x3 : Int32) (x4 : Int32) (s : ST), f_X14_cheats_b63 K24 r0 x1 x2 x3 x4 s = some (rv, sf) → ∀ (H : Heap) (locs : List Loc) (ls : Array Slot), lv_has ls 6 [(0, .ref (a r0)), (1, .int x1), (2, .int x2), (3, .int x3), (4, .int x4)] → AW G a A s s0.heap H locs → WB p l e (rmD 4) s0 m args below meth c H locs G A P 63 ls [] := by
    intro K24 hK24 r0 x1 x2 x3 x4 s hf H locs ls hl hW
    unfold f_X14_cheats_b63 at hf
    refine lv_aload_n hx hb dX14_cheats_63 rfl (lv_at hl 0 rfl) ?_
    refine lv_dup hx hb dX14_cheats_64 rfl ?_
    obtain ⟨g65, hf⟩ := gd_some hf
    refine aw_gI hC hW g65 fl_X14_251 rfl dX14_cheats_65 ?_
    refine lv_iconst (v := 1) hx hb dX14_cheats_68 (by decide) ?_
    refine lv_iadd hx hb dX14_cheats_69 ?_
    obtain ⟨s70, e70, hf⟩ := bnd_some hf
    refine aw_pI e70 hC hW g65 fl_X14_251 (Or.inl fn_13_9) rfl rfl rfl dX14_cheats_70 (fun H locs hW => ?_)
    have g65 := ko_pI e70 g65
    refine lv_goto (tgt := 24) hx hb dX14_cheats_73 (by decide) ?_
    exact hK24 r0 x1 x2 x3 x4 s70 hf _ _ _ (lv_sub hl [0, 1, 2, 3, 4] rfl) hW
  have B24 : ∀ (n : Nat), ∀ (r0 : Nat) (x1 : Int32) (x2 : Int32) (x3 : Int32) (x4 : Int32) (s : ST), f_X14_cheats_b24 n r0 x1 x2 x3 x4 s = some (rv, sf) → ∀ (H : Heap) (locs : List Loc) (ls : Array Slot), lv_has ls 6 [(0, .ref (a r0)), (1, .int x1), (2, .int x2), (3, .int x3), (4, .int x4)] → AW G a A s s0.heap H locs → WB p l e (rmD 4) s0 m args below meth c H locs G A P 24 ls [] := by
    intro n
    induction n with
    | zero => intro r0 x1 x2 x3 x4 s hf; cases hf
    | succ n ih =>
      intro r0 x1 x2 x3 x4 s hf H locs ls hl hW
      rw [f_X14_cheats_b24] at hf
      refine lv_aload_n hx hb dX14_cheats_24 rfl (lv_at hl 0 rfl) ?_
      obtain ⟨g25, hf⟩ := gd_some hf
      refine aw_gI hC hW g25 fl_X14_251 rfl dX14_cheats_25 ?_
      refine lv_bipush (v := 9) hx hb dX14_cheats_28 (by decide) ?_
      refine lv_icmp_gt (tgt := 76) hx hb dX14_cheats_30 (by decide) (fun c30 => ?_) (fun c30 => ?_)
      · have hf := ifp c30 hf
        refine lv_aload_n hx hb dX14_cheats_76 rfl (lv_at hl 0 rfl) ?_
        refine lv_iload_n hx hb dX14_cheats_77 rfl (lv_at hl 1 rfl) ?_
        obtain ⟨s78, e78, hf⟩ := bnd_some hf
        refine aw_pI e78 hC hW g25 fl_X14_251 (Or.inl fn_13_9) rfl rfl rfl dX14_cheats_78 (fun H locs hW => ?_)
        have g25 := ko_pI e78 g25
        refine lv_aload_n hx hb dX14_cheats_81 rfl (lv_at hl 0 rfl) ?_
        refine lv_iconst (v := 0) hx hb dX14_cheats_82 (by decide) ?_
        obtain ⟨s83, e83, hf⟩ := bnd_some hf
        refine aw_pI e83 hC hW g25 fl_X14_15 (Or.inl fn_13_1) rfl rfl rfl dX14_cheats_83 (fun H locs hW => ?_)
        have g25 := ko_pI e83 g25
        refine lv_aload_n hx hb dX14_cheats_86 rfl (lv_at hl 0 rfl) ?_
        refine lv_iload_n hx hb dX14_cheats_87 rfl (lv_at hl 3 rfl) ?_
        refine lv_i2l (v := (x3 : Int32).toInt64) hx hb dX14_cheats_88 rfl ?_
        obtain ⟨_, s89, h89, hf⟩ := ob_some hf
        refine aw_dV0 (r := r0) (As := [.long ((x3 : Int32).toInt64)]) (rest := []) (ct_X14_enters l G a r0 ((x3 : Int32).toInt64) s83 () s89 h89) hC hW hl.1 vy_X14_enters (Or.inl q1689) g25 rfl rfl rfl rfl (Nat.le_of_ble_eq_true rfl) ⟨Nat.le_of_ble_eq_true rfl, Nat.le_of_ble_eq_true rfl⟩ ⟨Nat.le_of_ble_eq_true rfl, Nat.le_of_ble_eq_true rfl⟩ dX14_cheats_89 (fun H locs hW => ?_)
        refine lv_aload_n hx hb dX14_cheats_92 rfl (lv_at hl 0 rfl) ?_
        refine lv_iload hx hb dX14_cheats_93 (lv_at hl 4 rfl) ?_
        refine lv_i2l (v := (x4 : Int32).toInt64) hx hb dX14_cheats_95 rfl ?_
        obtain ⟨g96, hf⟩ := gd_some hf
        obtain ⟨_, s96, h96, hf⟩ := ob_some hf
        refine aw_dV0 (r := r0) (As := [.long ((x4 : Int32).toInt64)]) (rest := []) (ct_X14_enters l G a r0 ((x4 : Int32).toInt64) s89 () s96 h96) hC hW hl.1 vy_X14_enters (Or.inl q1689) g96 rfl rfl rfl rfl (Nat.le_of_ble_eq_true rfl) ⟨Nat.le_of_ble_eq_true rfl, Nat.le_of_ble_eq_true rfl⟩ ⟨Nat.le_of_ble_eq_true rfl, Nat.le_of_ble_eq_true rfl⟩ dX14_cheats_96 (fun H locs hW => ?_)
        refine lv_iload_n hx hb dX14_cheats_99 rfl (lv_at hl 2 rfl) ?_
        obtain ⟨e1, e2⟩ := so_inj hf
        exact aw_iret hC hW hr rfl (p_eq hP (congrArg (fun z => some (Value.int z)) e1) e2) (Nat.le_of_ble_eq_true rfl) (Nat.le_of_ble_eq_true rfl) dX14_cheats_100
      · have hf := ifn c30 hf
        refine lv_aload_n hx hb dX14_cheats_33 rfl (lv_at hl 0 rfl) ?_
        obtain ⟨v34, s34, h34, hf⟩ := ob_some hf
        refine aw_dV1 (r := r0) (As := []) (rest := []) (ct_X14_wrong l G a r0 s v34 s34 h34) hC hW hl.1 vy_X14_wrong (Or.inl q1870) g25 rfl rfl rfl rfl (Nat.le_of_ble_eq_true rfl) ⟨Nat.le_of_ble_eq_true rfl, Nat.le_of_ble_eq_true rfl⟩ ⟨Nat.le_of_ble_eq_true rfl, Nat.le_of_ble_eq_true rfl⟩ dX14_cheats_34 (fun H locs hW => ?_)
        refine lv_istore (lv' := [(5, .int v34), (0, .ref (a r0)), (1, .int x1), (2, .int x2), (3, .int x3), (4, .int x4)]) hx hb dX14_cheats_37 hl (by decide) rfl (fun ls hl => ?_)
        refine lv_iload hx hb dX14_cheats_39 (lv_at hl 0 rfl) ?_
        obtain ⟨v41, s41, h41, hf⟩ := ob_some hf
        refine aw_dS1 (As := [.int v34]) (rest := []) (ct_J8_bitCount l G a v34 s34 v41 s41 h41) hC hW hl.1 sy_J8_bitCount (Or.inl q1782) rfl rfl (Nat.le_of_ble_eq_true rfl) ⟨Nat.le_of_ble_eq_true rfl, Nat.le_of_ble_eq_true rfl⟩ ⟨Nat.le_of_ble_eq_true rfl, Nat.le_of_ble_eq_true rfl⟩ dX14_cheats_41 (fun H locs hW => ?_)
        refine lv_iload_n hx hb dX14_cheats_44 rfl (lv_at hl 3 rfl) ?_
        refine lv_icmp_ge (tgt := 63) hx hb dX14_cheats_45 (by decide) (fun c45 => ?_) (fun c45 => ?_)
        · have hf := ifp c45 hf
          exact B63 (f_X14_cheats_b24 n) ih r0 x1 x2 x3 x4 s41 hf _ _ _ (lv_sub hl [1, 2, 3, 4, 5] rfl) hW
        · have hf := ifn c45 hf
          refine lv_iload hx hb dX14_cheats_48 (lv_at hl 0 rfl) ?_
          obtain ⟨v50, s50, h50, hf⟩ := ob_some hf
          refine aw_dS1 (As := [.int v34]) (rest := []) (ct_J8_bitCount l G a v34 s41 v50 s50 h50) hC hW hl.1 sy_J8_bitCount (Or.inl q1782) rfl rfl (Nat.le_of_ble_eq_true rfl) ⟨Nat.le_of_ble_eq_true rfl, Nat.le_of_ble_eq_true rfl⟩ ⟨Nat.le_of_ble_eq_true rfl, Nat.le_of_ble_eq_true rfl⟩ dX14_cheats_50 (fun H locs hW => ?_)
          refine lv_istore_n (lv' := [(2, .int v50), (5, .int v34), (0, .ref (a r0)), (1, .int x1), (3, .int x3), (4, .int x4)]) hx hb dX14_cheats_53 rfl hl (by decide) rfl (fun ls hl => ?_)
          refine lv_iload hx hb dX14_cheats_54 (lv_at hl 1 rfl) ?_
          refine lv_istore_n (lv' := [(3, .int v34), (2, .int v50), (5, .int v34), (0, .ref (a r0)), (1, .int x1), (4, .int x4)]) hx hb dX14_cheats_56 rfl hl (by decide) rfl (fun ls hl => ?_)
          refine lv_aload_n hx hb dX14_cheats_57 rfl (lv_at hl 3 rfl) ?_
          obtain ⟨g58, hf⟩ := gd_some hf
          refine aw_gI hC hW g58 fl_X14_251 rfl dX14_cheats_58 ?_
          obtain ⟨v61, ev61, hf⟩ := bnd_some hf
          refine top_i ev61 ?_
          refine lv_istore (lv' := [(4, .int v61), (3, .int v34), (2, .int v50), (5, .int v34), (0, .ref (a r0)), (1, .int x1)]) hx hb dX14_cheats_61 hl (by decide) rfl (fun ls hl => ?_)
          exact B63 (f_X14_cheats_b24 n) ih r0 x1 v50 v34 v61 s50 hf _ _ _ (lv_sub hl [4, 5, 2, 1, 0] rfl) hW
  unfold f_X14_cheats at hf
  refine lv_aload_n hx hb dX14_cheats_0 rfl (lv_at hl 0 rfl) ?_
  refine lv_iconst (v := 0) hx hb dX14_cheats_1 (by decide) ?_
  obtain ⟨g2, hf⟩ := gd_some hf
  obtain ⟨s2, e2, hf⟩ := bnd_some hf
  refine aw_pI e2 hC hW g2 fl_X14_3 (Or.inl fn_13_0) rfl rfl rfl dX14_cheats_2 (fun H locs hW => ?_)
  have g2 := ko_pI e2 g2
  refine lv_aload_n hx hb dX14_cheats_5 rfl (lv_at hl 0 rfl) ?_
  refine aw_gI hC hW g2 fl_X14_251 rfl dX14_cheats_6 ?_
  obtain ⟨v9, ev9, hf⟩ := bnd_some hf
  refine top_i ev9 ?_
  refine lv_istore_n (lv' := [(1, .int v9), (0, .ref (a o))]) hx hb dX14_cheats_9 rfl hl (by decide) rfl (fun ls hl => ?_)
  refine lv_bipush (v := 9) hx hb dX14_cheats_10 (by decide) ?_
  refine lv_istore_n (lv' := [(2, .int 9), (1, .int v9), (0, .ref (a o))]) hx hb dX14_cheats_12 rfl hl (by decide) rfl (fun ls hl => ?_)
  refine lv_iconst (v := 0) hx hb dX14_cheats_13 (by decide) ?_
  refine lv_istore_n (lv' := [(3, .int 0), (2, .int 9), (1, .int v9), (0, .ref (a o))]) hx hb dX14_cheats_14 rfl hl (by decide) rfl (fun ls hl => ?_)
  refine lv_iconst (v := 0) hx hb dX14_cheats_15 (by decide) ?_
  refine lv_istore (lv' := [(4, .int 0), (3, .int 0), (2, .int 9), (1, .int v9), (0, .ref (a o))]) hx hb dX14_cheats_16 hl (by decide) rfl (fun ls hl => ?_)
  refine lv_aload_n hx hb dX14_cheats_18 rfl (lv_at hl 4 rfl) ?_
  refine lv_bipush (v := (-9)) hx hb dX14_cheats_19 (by decide) ?_
  obtain ⟨s21, e21, hf⟩ := bnd_some hf
  refine aw_pI e21 hC hW g2 fl_X14_251 (Or.inl fn_13_9) rfl rfl rfl dX14_cheats_21 (fun H locs hW => ?_)
  have g2 := ko_pI e21 g2
  exact B24 fuel o v9 9 0 0 s21 hf _ _ _ (lv_sub hl [4, 3, 2, 1, 0] rfl) hW
def f_X14_codes (o : Nat) (x1 : Int32) (s : ST) : Option (Unit × ST) :=
  gd (o < s.1 ∧ (kd s o).1 = 14) <|
  (gr s o 23).bind fun q1 =>
  gd (q1 < s.1 ∧ (kd s q1).1 = 100 ∧ ¬ (((gi s o 25) : Int32) < 0 ∨ (kd s q1).2 ≤ ((gi s o 25) : Int32).toNatClampNeg)) <|
  bnd (pI s q1 ((gi s o 25) : Int32).toNatClampNeg x1) fun s9 =>
  bnd (pI s9 o 25 ((gi s9 o 25) + 1)) fun s17 =>
  some ((), s17)
set_option maxHeartbeats 4000000 in
theorem ct_X14_codes (l : Launch) (G : GM) (a : Nat → Nat) (o : Nat) (x1 : Int32) (s : ST) (rv : Unit) (sf : ST) (hf : f_X14_codes o x1 s = some (rv, sf)) : MD l G yX14_codes (ws_ yX14_codes cX14_codes 2 none) 0 [.ref (a o), .int x1] a s none sf := by
  refine md_of (d := 0) (lv := [(0, .ref (a o)), (1, .int x1)]) (Or.inl (by decide)) (Nat.le_of_ble_eq_true rfl) rfl ?_
  intro p e s0 m args below meth c ls A P hP hC hr hnm hW hl
  have hx := hC.1
  have hb := hC.2.1
  have hts := hC.2.2.2.2.1
  unfold f_X14_codes at hf
  refine lv_aload_n hx hb dX14_codes_0 rfl (lv_at hl 0 rfl) ?_
  obtain ⟨g1, hf⟩ := gd_some hf
  obtain ⟨q1, hq1, hf⟩ := bi_some hf
  refine aw_gR hC hW g1 fl_X14_68 rfl hq1 dX14_codes_1 ?_
  refine lv_aload_n hx hb dX14_codes_4 rfl (lv_at hl 0 rfl) ?_
  refine aw_gI hC hW g1 fl_X14_213 rfl dX14_codes_5 ?_
  refine lv_iload_n hx hb dX14_codes_8 rfl (lv_at hl 1 rfl) ?_
  obtain ⟨g9, hf⟩ := gd_some hf
  obtain ⟨s9, e9, hf⟩ := bnd_some hf
  refine aw_iast e9 hC hW g9 dX14_codes_9 (fun H locs hW => ?_)
  have g1 := ko_pI e9 g1
  refine lv_aload_n hx hb dX14_codes_10 rfl (lv_at hl 0 rfl) ?_
  refine lv_dup hx hb dX14_codes_11 rfl ?_
  refine aw_gI hC hW g1 fl_X14_213 rfl dX14_codes_12 ?_
  refine lv_iconst (v := 1) hx hb dX14_codes_15 (by decide) ?_
  refine lv_iadd hx hb dX14_codes_16 ?_
  obtain ⟨s17, e17, hf⟩ := bnd_some hf
  refine aw_pI e17 hC hW g1 fl_X14_213 (Or.inl fn_13_25) rfl rfl rfl dX14_codes_17 (fun H locs hW => ?_)
  have g1 := ko_pI e17 g1
  obtain ⟨e1, e2⟩ := so_inj hf
  exact aw_vret hC hW hr (p_eq hP rfl e2) (Nat.le_of_ble_eq_true rfl) (Nat.le_of_ble_eq_true rfl) dX14_codes_20
def f_X14_putsHabit_b14 : Nat → Nat → Int32 → Int32 → Int32 → ST → Option (Unit × ST)
  | 0, _, _, _, _, _ => none
  | n + 1, r0, x1, x2, x3, s =>
  if 6 ≤ x3 then (some ((), s)) else gd (r0 < s.1 ∧ (kd s r0).1 = 14) <|
  (gr s r0 6).bind fun q21 =>
  (gr s r0 19).bind fun q31 =>
  gd (q31 < s.1 ∧ (kd s q31).1 = 100 ∧ ¬ ((((6 * x2) + x3) : Int32) < 0 ∨ (kd s q31).2 ≤ (((6 * x2) + x3) : Int32).toNatClampNeg)) <|
  gd (q21 < s.1 ∧ (kd s q21).1 = 100 ∧ ¬ ((((6 * x1) + x3) : Int32) < 0 ∨ (kd s q21).2 ≤ (((6 * x1) + x3) : Int32).toNatClampNeg)) <|
  bnd (pI s q21 (((6 * x1) + x3) : Int32).toNatClampNeg (gi s q31 (((6 * x2) + x3) : Int32).toNatClampNeg)) fun s41 =>
  bnd (x3 + 1 : Int32) fun v42 =>
  f_X14_putsHabit_b14 n r0 x1 x2 v42 s41
def f_X14_putsHabit (o : Nat) (x1 : Int32) (x2 : Int32) (s : ST) : Option (Unit × ST) :=
  gd (o < s.1 ∧ (kd s o).1 = 14) <|
  (gr s o 7).bind fun q1 =>
  (gr s o 20).bind fun q6 =>
  gd (q6 < s.1 ∧ (kd s q6).1 = 100 ∧ ¬ ((x2 : Int32) < 0 ∨ (kd s q6).2 ≤ (x2 : Int32).toNatClampNeg)) <|
  gd (q1 < s.1 ∧ (kd s q1).1 = 100 ∧ ¬ ((x1 : Int32) < 0 ∨ (kd s q1).2 ≤ (x1 : Int32).toNatClampNeg)) <|
  bnd (pI s q1 (x1 : Int32).toNatClampNeg (gi s q6 (x2 : Int32).toNatClampNeg)) fun s11 =>
  f_X14_putsHabit_b14 fuel o x1 x2 0 s11
set_option maxHeartbeats 4000000 in
theorem ct_X14_putsHabit (l : Launch) (G : GM) (a : Nat → Nat) (o : Nat) (x1 : Int32) (x2 : Int32) (s : ST) (rv : Unit) (sf : ST) (hf : f_X14_putsHabit o x1 x2 s = some (rv, sf)) : MD l G yX14_putsHabit (ws_ yX14_putsHabit cX14_putsHabit 4 none) 0 [.ref (a o), .int x1, .int x2] a s none sf := by
  refine md_of (d := 0) (lv := [(0, .ref (a o)), (1, .int x1), (2, .int x2)]) (Or.inl (by decide)) (Nat.le_of_ble_eq_true rfl) rfl ?_
  intro p e s0 m args below meth c ls A P hP hC hr hnm hW hl
  have hx := hC.1
  have hb := hC.2.1
  have hts := hC.2.2.2.2.1
  have B14 : ∀ (n : Nat), ∀ (r0 : Nat) (x1 : Int32) (x2 : Int32) (x3 : Int32) (s : ST), f_X14_putsHabit_b14 n r0 x1 x2 x3 s = some (rv, sf) → ∀ (H : Heap) (locs : List Loc) (ls : Array Slot), lv_has ls 4 [(0, .ref (a r0)), (1, .int x1), (2, .int x2), (3, .int x3)] → AW G a A s s0.heap H locs → WB p l e (rmD 0) s0 m args below meth c H locs G A P 14 ls [] := by
    intro n
    induction n with
    | zero => intro r0 x1 x2 x3 s hf; cases hf
    | succ n ih =>
      intro r0 x1 x2 x3 s hf H locs ls hl hW
      rw [f_X14_putsHabit_b14] at hf
      refine lv_iload_n hx hb dX14_putsHabit_14 rfl (lv_at hl 3 rfl) ?_
      refine lv_bipush (v := 6) hx hb dX14_putsHabit_15 (by decide) ?_
      refine lv_icmp_ge (tgt := 48) hx hb dX14_putsHabit_17 (by decide) (fun c17 => ?_) (fun c17 => ?_)
      · have hf := ifp c17 hf
        obtain ⟨e1, e2⟩ := so_inj hf
        exact aw_vret hC hW hr (p_eq hP rfl e2) (Nat.le_of_ble_eq_true rfl) (Nat.le_of_ble_eq_true rfl) dX14_putsHabit_48
      · have hf := ifn c17 hf
        refine lv_aload_n hx hb dX14_putsHabit_20 rfl (lv_at hl 0 rfl) ?_
        obtain ⟨g21, hf⟩ := gd_some hf
        obtain ⟨q21, hq21, hf⟩ := bi_some hf
        refine aw_gR hC hW g21 fl_X14_35 rfl hq21 dX14_putsHabit_21 ?_
        refine lv_bipush (v := 6) hx hb dX14_putsHabit_24 (by decide) ?_
        refine lv_iload_n hx hb dX14_putsHabit_26 rfl (lv_at hl 1 rfl) ?_
        refine lv_imul hx hb dX14_putsHabit_27 ?_
        refine lv_iload_n hx hb dX14_putsHabit_28 rfl (lv_at hl 3 rfl) ?_
        refine lv_iadd hx hb dX14_putsHabit_29 ?_
        refine lv_aload_n hx hb dX14_putsHabit_30 rfl (lv_at hl 0 rfl) ?_
        obtain ⟨q31, hq31, hf⟩ := bi_some hf
        refine aw_gR hC hW g21 fl_X14_59 rfl hq31 dX14_putsHabit_31 ?_
        refine lv_bipush (v := 6) hx hb dX14_putsHabit_34 (by decide) ?_
        refine lv_iload_n hx hb dX14_putsHabit_36 rfl (lv_at hl 2 rfl) ?_
        refine lv_imul hx hb dX14_putsHabit_37 ?_
        refine lv_iload_n hx hb dX14_putsHabit_38 rfl (lv_at hl 3 rfl) ?_
        refine lv_iadd hx hb dX14_putsHabit_39 ?_
        obtain ⟨g40, hf⟩ := gd_some hf
        refine aw_iald hC hW g40 dX14_putsHabit_40 ?_
        obtain ⟨g41, hf⟩ := gd_some hf
        obtain ⟨s41, e41, hf⟩ := bnd_some hf
        refine aw_iast e41 hC hW g41 dX14_putsHabit_41 (fun H locs hW => ?_)
        have g21 := ko_pI e41 g21
        obtain ⟨v42, ev42, hf⟩ := bnd_some hf
        refine lv_iinc (v := v42) (lv' := [(3, .int v42), (0, .ref (a r0)), (1, .int x1), (2, .int x2)]) hx hb dX14_putsHabit_42 hl (k := 3) rfl (by rw [ev42]; rfl) (by decide) rfl (fun ls hl => ?_)
        refine lv_goto (tgt := 14) hx hb dX14_putsHabit_45 (by decide) ?_
        exact ih r0 x1 x2 v42 s41 hf _ _ _ (lv_sub hl [1, 2, 3, 0] rfl) hW
  unfold f_X14_putsHabit at hf
  refine lv_aload_n hx hb dX14_putsHabit_0 rfl (lv_at hl 0 rfl) ?_
  obtain ⟨g1, hf⟩ := gd_some hf
  obtain ⟨q1, hq1, hf⟩ := bi_some hf
  refine aw_gR hC hW g1 fl_X14_38 rfl hq1 dX14_putsHabit_1 ?_
  refine lv_iload_n hx hb dX14_putsHabit_4 rfl (lv_at hl 1 rfl) ?_
  refine lv_aload_n hx hb dX14_putsHabit_5 rfl (lv_at hl 0 rfl) ?_
  obtain ⟨q6, hq6, hf⟩ := bi_some hf
  refine aw_gR hC hW g1 fl_X14_62 rfl hq6 dX14_putsHabit_6 ?_
  refine lv_iload_n hx hb dX14_putsHabit_9 rfl (lv_at hl 2 rfl) ?_
  obtain ⟨g10, hf⟩ := gd_some hf
  refine aw_iald hC hW g10 dX14_putsHabit_10 ?_
  obtain ⟨g11, hf⟩ := gd_some hf
  obtain ⟨s11, e11, hf⟩ := bnd_some hf
  refine aw_iast e11 hC hW g11 dX14_putsHabit_11 (fun H locs hW => ?_)
  have g1 := ko_pI e11 g1
  refine lv_iconst (v := 0) hx hb dX14_putsHabit_12 (by decide) ?_
  refine lv_istore_n (lv' := [(3, .int 0), (0, .ref (a o)), (1, .int x1), (2, .int x2)]) hx hb dX14_putsHabit_13 rfl hl (by decide) rfl (fun ls hl => ?_)
  exact B14 fuel o x1 x2 0 s11 hf _ _ _ (lv_sub hl [1, 2, 3, 0] rfl) hW
def f_X14_comes (o : Nat) (x1 : Int32) (x2 : Int32) (s : ST) : Option (Unit × ST) :=
  gd (o < s.1 ∧ (kd s o).1 = 14) <|
  (gr s o 10).bind fun q1 =>
  gd (q1 < s.1 ∧ (kd s q1).1 = 100 ∧ ¬ (((8 + x1) : Int32) < 0 ∨ (kd s q1).2 ≤ ((8 + x1) : Int32).toNatClampNeg)) <|
  bnd (pI s q1 ((8 + x1) : Int32).toNatClampNeg 0) fun s9 =>
  (gr s9 o 10).bind fun q11 =>
  gd (q11 < s9.1 ∧ (kd s9 q11).1 = 100 ∧ ¬ ((16 : Int32) < 0 ∨ (kd s9 q11).2 ≤ (16 : Int32).toNatClampNeg)) <|
  gd (q11 < s9.1 ∧ (kd s9 q11).1 = 100 ∧ ¬ ((16 : Int32) < 0 ∨ (kd s9 q11).2 ≤ (16 : Int32).toNatClampNeg)) <|
  bnd (pI s9 q11 (16 : Int32).toNatClampNeg ((gi s9 q11 (16 : Int32).toNatClampNeg) ||| (1 <<< (x1 &&& 31)))) fun s22 =>
  (gr s22 o 5).bind fun q24 =>
  gd (q24 < s22.1 ∧ (kd s22 q24).1 = 100 ∧ ¬ ((x1 : Int32) < 0 ∨ (kd s22 q24).2 ≤ (x1 : Int32).toNatClampNeg)) <|
  bnd (pI s22 q24 (x1 : Int32).toNatClampNeg 0) fun s29 =>
  ob (f_X14_putsHabit o x1 x2 s29) fun _ s33 =>
  some ((), s33)
set_option maxHeartbeats 4000000 in
theorem ct_X14_comes (l : Launch) (G : GM) (a : Nat → Nat) (o : Nat) (x1 : Int32) (x2 : Int32) (s : ST) (rv : Unit) (sf : ST) (hf : f_X14_comes o x1 x2 s = some (rv, sf)) : MD l G yX14_comes (ws_ yX14_comes cX14_comes 3 none) 1 [.ref (a o), .int x1, .int x2] a s none sf := by
  refine md_of (d := 1) (lv := [(0, .ref (a o)), (1, .int x1), (2, .int x2)]) (Or.inl (by decide)) (Nat.le_of_ble_eq_true rfl) rfl ?_
  intro p e s0 m args below meth c ls A P hP hC hr hnm hW hl
  have hx := hC.1
  have hb := hC.2.1
  have hts := hC.2.2.2.2.1
  unfold f_X14_comes at hf
  refine lv_aload_n hx hb dX14_comes_0 rfl (lv_at hl 0 rfl) ?_
  obtain ⟨g1, hf⟩ := gd_some hf
  obtain ⟨q1, hq1, hf⟩ := bi_some hf
  refine aw_gR hC hW g1 fl_X14_44 rfl hq1 dX14_comes_1 ?_
  refine lv_bipush (v := 8) hx hb dX14_comes_4 (by decide) ?_
  refine lv_iload_n hx hb dX14_comes_6 rfl (lv_at hl 1 rfl) ?_
  refine lv_iadd hx hb dX14_comes_7 ?_
  refine lv_iconst (v := 0) hx hb dX14_comes_8 (by decide) ?_
  obtain ⟨g9, hf⟩ := gd_some hf
  obtain ⟨s9, e9, hf⟩ := bnd_some hf
  refine aw_iast e9 hC hW g9 dX14_comes_9 (fun H locs hW => ?_)
  have g1 := ko_pI e9 g1
  refine lv_aload_n hx hb dX14_comes_10 rfl (lv_at hl 0 rfl) ?_
  obtain ⟨q11, hq11, hf⟩ := bi_some hf
  refine aw_gR hC hW g1 fl_X14_44 rfl hq11 dX14_comes_11 ?_
  refine lv_bipush (v := 16) hx hb dX14_comes_14 (by decide) ?_
  refine lv_dup2_11 hx hb dX14_comes_16 rfl rfl ?_
  obtain ⟨g17, hf⟩ := gd_some hf
  refine aw_iald hC hW g17 dX14_comes_17 ?_
  refine lv_iconst (v := 1) hx hb dX14_comes_18 (by decide) ?_
  refine lv_iload_n hx hb dX14_comes_19 rfl (lv_at hl 1 rfl) ?_
  refine lv_ishl hx hb dX14_comes_20 ?_
  refine lv_ior hx hb dX14_comes_21 ?_
  obtain ⟨g22, hf⟩ := gd_some hf
  obtain ⟨s22, e22, hf⟩ := bnd_some hf
  refine aw_iast e22 hC hW g22 dX14_comes_22 (fun H locs hW => ?_)
  have g1 := ko_pI e22 g1
  refine lv_aload_n hx hb dX14_comes_23 rfl (lv_at hl 0 rfl) ?_
  obtain ⟨q24, hq24, hf⟩ := bi_some hf
  refine aw_gR hC hW g1 fl_X14_32 rfl hq24 dX14_comes_24 ?_
  refine lv_iload_n hx hb dX14_comes_27 rfl (lv_at hl 1 rfl) ?_
  refine lv_iconst (v := 0) hx hb dX14_comes_28 (by decide) ?_
  obtain ⟨g29, hf⟩ := gd_some hf
  obtain ⟨s29, e29, hf⟩ := bnd_some hf
  refine aw_iast e29 hC hW g29 dX14_comes_29 (fun H locs hW => ?_)
  have g1 := ko_pI e29 g1
  refine lv_aload_n hx hb dX14_comes_30 rfl (lv_at hl 0 rfl) ?_
  refine lv_iload_n hx hb dX14_comes_31 rfl (lv_at hl 1 rfl) ?_
  refine lv_iload_n hx hb dX14_comes_32 rfl (lv_at hl 2 rfl) ?_
  obtain ⟨_, s33, h33, hf⟩ := ob_some hf
  refine aw_dV0 (r := o) (As := [.int x1, .int x2]) (rest := []) (ct_X14_putsHabit l G a o x1 x2 s29 () s33 h33) hC hW hl.1 vy_X14_putsHabit (Or.inl q1586) g1 rfl rfl rfl rfl (Nat.le_of_ble_eq_true rfl) ⟨Nat.le_of_ble_eq_true rfl, Nat.le_of_ble_eq_true rfl⟩ ⟨Nat.le_of_ble_eq_true rfl, Nat.le_of_ble_eq_true rfl⟩ dX14_comes_33 (fun H locs hW => ?_)
  obtain ⟨e1, e2⟩ := so_inj hf
  exact aw_vret hC hW hr (p_eq hP rfl e2) (Nat.le_of_ble_eq_true rfl) (Nat.le_of_ble_eq_true rfl) dX14_comes_36
def f_X14_common_r (F : Int64 → Int64 → ST → Option (Int64 × ST)) (y0 : Int64) (y2 : Int64) (s : ST) : Option (Int64 × ST) :=
  if (lg_cmp y2 0) = 0 then (some (y0, s)) else gd (¬ y2 = 0) <|
  ob (F y2 (y0 - y0 / y2 * y2) s) fun v14 s14 =>
  some (v14, s14)
def f_X14_common : Nat → Int64 → Int64 → ST → Option (Int64 × ST)
  | 0, _, _, _ => none
  | d + 1, y0, y2, s => f_X14_common_r (f_X14_common d) y0 y2 s
set_option maxHeartbeats 4000000 in
theorem ct_X14_common (l : Launch) (G : GM) (a : Nat → Nat) (d : Nat) (y0 : Int64) (y2 : Int64) (s : ST) (rv : Int64) (sf : ST) (hf : f_X14_common d y0 y2 s = some (rv, sf)) : MD l G yX14_common (ws_ yX14_common cX14_common 4 (some .long)) (0 + d) [.long y0, .long y2] a s (some (.long rv)) sf := by
  induction d generalizing y0 y2 s rv sf with
  | zero => cases hf
  | succ d ih0 =>
    have hF := ih0
    generalize hFe : f_X14_common d = F at hF
    have hf : f_X14_common_r F y0 y2 s = some (rv, sf) := by rw [← hFe]; exact hf
    refine md_of (d := _) (lv := [(0, .long y0), (2, .long y2)]) (Or.inl (by decide)) (Nat.le_of_ble_eq_true rfl) rfl ?_
    intro p e s0 m args below meth c ls A P hP hC hr hnm hW hl
    have hx := hC.1
    have hb := hC.2.1
    have hts := hC.2.2.2.2.1
    unfold f_X14_common_r at hf
    refine lv_lload_n hx hb dX14_common_0 rfl (lv_at hl 1 rfl) ?_
    refine lv_lconst (v := 0) hx hb dX14_common_1 (by decide) ?_
    refine W.lcmp hx hb dX14_common_2 ?_
    refine lv_if_ne (tgt := 10) hx hb dX14_common_3 (by decide) (fun c3 => ?_) (fun c3 => ?_)
    · have hf := ifn c3 hf
      refine lv_lload_n hx hb dX14_common_10 rfl (lv_at hl 1 rfl) ?_
      refine lv_lload_n hx hb dX14_common_11 rfl (lv_at hl 0 rfl) ?_
      refine lv_lload_n hx hb dX14_common_12 rfl (lv_at hl 1 rfl) ?_
      obtain ⟨g13, hf⟩ := gd_some hf
      refine lv_lrem hx hb dX14_common_13 g13 ?_
      obtain ⟨v14, s14, h14, hf⟩ := ob_some hf
      refine aw_dS1 (As := [.long y2, .long (y0 - y0 / y2 * y2)]) (rest := []) (hF y2 (y0 - y0 / y2 * y2) s v14 s14 h14) hC hW hl.1 sy_X14_common (Or.inl q1911) rfl rfl (Nat.le_of_ble_eq_true rfl) ⟨(by show (0 + d) + 1 ≤ (0 + (d + 1)); omega), (by show 8 + (4 + 11) + 40 * (0 + d) ≤ 40 * (0 + (d + 1)); omega)⟩ ⟨Nat.le_of_ble_eq_true rfl, Nat.le_of_ble_eq_true rfl⟩ dX14_common_14 (fun H locs hW => ?_)
      obtain ⟨e1, e2⟩ := so_inj hf
      exact aw_lret hC hW hr (p_eq hP (congrArg (fun z => some (Value.long z)) e1) e2) (Nat.le_refl _) (Nat.le_refl _) dX14_common_17
    · have hf := ifp c3 hf
      refine lv_lload_n hx hb dX14_common_6 rfl (lv_at hl 0 rfl) ?_
      refine lv_goto (tgt := 17) hx hb dX14_common_7 (by decide) ?_
      obtain ⟨e1, e2⟩ := so_inj hf
      exact aw_lret hC hW hr (p_eq hP (congrArg (fun z => some (Value.long z)) e1) e2) (Nat.le_refl _) (Nat.le_refl _) dX14_common_17
def f_X14_lawsThatHold_b35 (K4 : Nat → Int32 → Int32 → ST → Option (Int32 × ST)) (r0 : Nat) (x2 : Int32) (t0 : Int32) (t1 : Int32) (s : ST) : Option (Int32 × ST) :=
  bnd ((t1 ||| t0) : Int32) fun v36 =>
  bnd (x2 + 1 : Int32) fun v37 =>
  K4 r0 v36 v37 s
def f_X14_lawsThatHold_b4 : Nat → Nat → Int32 → Int32 → ST → Option (Int32 × ST)
  | 0, _, _, _, _ => none
  | n + 1, r0, x1, x2, s =>
  gd (r0 < s.1 ∧ (kd s r0).1 = 14) <|
  (gr s r0 10).bind fun q6 =>
  gd (q6 < s.1 ∧ (kd s q6).1 = 100 ∧ ¬ ((20 : Int32) < 0 ∨ (kd s q6).2 ≤ (20 : Int32).toNatClampNeg)) <|
  if (gi s q6 (20 : Int32).toNatClampNeg) ≤ x2 then (some (x1, s)) else (gr s r0 10).bind fun q17 =>
  gd (q17 < s.1 ∧ (kd s q17).1 = 100 ∧ ¬ (((45 + x2) : Int32) < 0 ∨ (kd s q17).2 ≤ ((45 + x2) : Int32).toNatClampNeg)) <|
  if 0 ≤ (gi s q17 ((45 + x2) : Int32).toNatClampNeg) then (f_X14_lawsThatHold_b35 (f_X14_lawsThatHold_b4 n) r0 x2 0 x1 s) else f_X14_lawsThatHold_b35 (f_X14_lawsThatHold_b4 n) r0 x2 (1 <<< (x2 &&& 31)) x1 s
def f_X14_lawsThatHold (o : Nat) (s : ST) : Option (Int32 × ST) :=
  f_X14_lawsThatHold_b4 fuel o 0 0 s
set_option maxHeartbeats 4000000 in
theorem ct_X14_lawsThatHold (l : Launch) (G : GM) (a : Nat → Nat) (o : Nat) (s : ST) (rv : Int32) (sf : ST) (hf : f_X14_lawsThatHold o s = some (rv, sf)) : MD l G yX14_lawsThatHold (ws_ yX14_lawsThatHold cX14_lawsThatHold 3 (some .int)) 0 [.ref (a o)] a s (some (.int rv)) sf := by
  refine md_of (d := 0) (lv := [(0, .ref (a o))]) (Or.inl (by decide)) (Nat.le_of_ble_eq_true rfl) rfl ?_
  intro p e s0 m args below meth c ls A P hP hC hr hnm hW hl
  have hx := hC.1
  have hb := hC.2.1
  have hts := hC.2.2.2.2.1
  have B35 : ∀ (K4 : Nat → Int32 → Int32 → ST → Option (Int32 × ST)) (hK4 : ∀ (r0 : Nat) (x1 : Int32) (x2 : Int32) (s : ST), K4 r0 x1 x2 s = some (rv, sf) → ∀ (H : Heap) (locs : List Loc) (ls : Array Slot), lv_has ls 3 [(0, .ref (a r0)), (1, .int x1), (2, .int x2)] → AW G a A s s0.heap H locs → WB p l e (rmD 0) s0 m args below meth c H locs G A P 4 ls []), ∀ (r0 : Nat) (x2 : Int32) (t0 : Int32) (t1 : Int32) (s : ST), f_X14_lawsThatHold_b35 K4 r0 x2 t0 t1 s = some (rv, sf) → ∀ (H : Heap) (locs : List Loc) (ls : Array Slot), lv_has ls 3 [(0, .ref (a r0)), (2, .int x2)] → AW G a A s s0.heap H locs → WB p l e (rmD 0) s0 m args below meth c H locs G A P 35 ls [.int t0, .int t1] := by
    intro K4 hK4 r0 x2 t0 t1 s hf H locs ls hl hW
    unfold f_X14_lawsThatHold_b35 at hf
    refine lv_ior hx hb dX14_lawsThatHold_35 ?_
    obtain ⟨v36, ev36, hf⟩ := bnd_some hf
    refine top_i ev36 ?_
    refine lv_istore_n (lv' := [(1, .int v36), (0, .ref (a r0)), (2, .int x2)]) hx hb dX14_lawsThatHold_36 rfl hl (by decide) rfl (fun ls hl => ?_)
    obtain ⟨v37, ev37, hf⟩ := bnd_some hf
    refine lv_iinc (v := v37) (lv' := [(2, .int v37), (1, .int v36), (0, .ref (a r0))]) hx hb dX14_lawsThatHold_37 hl (k := 2) rfl (by rw [ev37]; rfl) (by decide) rfl (fun ls hl => ?_)
    refine lv_goto (tgt := 4) hx hb dX14_lawsThatHold_40 (by decide) ?_
    exact hK4 r0 v36 v37 s hf _ _ _ (lv_sub hl [2, 1, 0] rfl) hW
  have B4 : ∀ (n : Nat), ∀ (r0 : Nat) (x1 : Int32) (x2 : Int32) (s : ST), f_X14_lawsThatHold_b4 n r0 x1 x2 s = some (rv, sf) → ∀ (H : Heap) (locs : List Loc) (ls : Array Slot), lv_has ls 3 [(0, .ref (a r0)), (1, .int x1), (2, .int x2)] → AW G a A s s0.heap H locs → WB p l e (rmD 0) s0 m args below meth c H locs G A P 4 ls [] := by
    intro n
    induction n with
    | zero => intro r0 x1 x2 s hf; cases hf
    | succ n ih =>
      intro r0 x1 x2 s hf H locs ls hl hW
      rw [f_X14_lawsThatHold_b4] at hf
      refine lv_iload_n hx hb dX14_lawsThatHold_4 rfl (lv_at hl 2 rfl) ?_
      refine lv_aload_n hx hb dX14_lawsThatHold_5 rfl (lv_at hl 0 rfl) ?_
      obtain ⟨g6, hf⟩ := gd_some hf
      obtain ⟨q6, hq6, hf⟩ := bi_some hf
      refine aw_gR hC hW g6 fl_X14_44 rfl hq6 dX14_lawsThatHold_6 ?_
      refine lv_bipush (v := 20) hx hb dX14_lawsThatHold_9 (by decide) ?_
      obtain ⟨g11, hf⟩ := gd_some hf
      refine aw_iald hC hW g11 dX14_lawsThatHold_11 ?_
      refine lv_icmp_ge (tgt := 43) hx hb dX14_lawsThatHold_12 (by decide) (fun c12 => ?_) (fun c12 => ?_)
      · have hf := ifp c12 hf
        refine lv_iload_n hx hb dX14_lawsThatHold_43 rfl (lv_at hl 1 rfl) ?_
        obtain ⟨e1, e2⟩ := so_inj hf
        exact aw_iret hC hW hr rfl (p_eq hP (congrArg (fun z => some (Value.int z)) e1) e2) (Nat.le_of_ble_eq_true rfl) (Nat.le_of_ble_eq_true rfl) dX14_lawsThatHold_44
      · have hf := ifn c12 hf
        refine lv_iload_n hx hb dX14_lawsThatHold_15 rfl (lv_at hl 1 rfl) ?_
        refine lv_aload_n hx hb dX14_lawsThatHold_16 rfl (lv_at hl 0 rfl) ?_
        obtain ⟨q17, hq17, hf⟩ := bi_some hf
        refine aw_gR hC hW g6 fl_X14_44 rfl hq17 dX14_lawsThatHold_17 ?_
        refine lv_bipush (v := 45) hx hb dX14_lawsThatHold_20 (by decide) ?_
        refine lv_iload_n hx hb dX14_lawsThatHold_22 rfl (lv_at hl 2 rfl) ?_
        refine lv_iadd hx hb dX14_lawsThatHold_23 ?_
        obtain ⟨g24, hf⟩ := gd_some hf
        refine aw_iald hC hW g24 dX14_lawsThatHold_24 ?_
        refine lv_if_ge (tgt := 34) hx hb dX14_lawsThatHold_25 (by decide) (fun c25 => ?_) (fun c25 => ?_)
        · have hf := ifp c25 hf
          refine lv_iconst (v := 0) hx hb dX14_lawsThatHold_34 (by decide) ?_
          exact B35 (f_X14_lawsThatHold_b4 n) ih r0 x2 0 x1 s hf _ _ _ (lv_sub hl [0, 2] rfl) hW
        · have hf := ifn c25 hf
          refine lv_iconst (v := 1) hx hb dX14_lawsThatHold_28 (by decide) ?_
          refine lv_iload_n hx hb dX14_lawsThatHold_29 rfl (lv_at hl 2 rfl) ?_
          refine lv_ishl hx hb dX14_lawsThatHold_30 ?_
          refine lv_goto (tgt := 35) hx hb dX14_lawsThatHold_31 (by decide) ?_
          exact B35 (f_X14_lawsThatHold_b4 n) ih r0 x2 (1 <<< (x2 &&& 31)) x1 s hf _ _ _ (lv_sub hl [0, 2] rfl) hW
  unfold f_X14_lawsThatHold at hf
  refine lv_iconst (v := 0) hx hb dX14_lawsThatHold_0 (by decide) ?_
  refine lv_istore_n (lv' := [(1, .int 0), (0, .ref (a o))]) hx hb dX14_lawsThatHold_1 rfl hl (by decide) rfl (fun ls hl => ?_)
  refine lv_iconst (v := 0) hx hb dX14_lawsThatHold_2 (by decide) ?_
  refine lv_istore_n (lv' := [(2, .int 0), (1, .int 0), (0, .ref (a o))]) hx hb dX14_lawsThatHold_3 rfl hl (by decide) rfl (fun ls hl => ?_)
  exact B4 fuel o 0 0 s hf _ _ _ (lv_sub hl [2, 1, 0] rfl) hW
