set_option maxRecDepth 100000
def f_X1_findLikely_b169 (K116 : Nat → Nat → Nat → Int32 → Int64 → Int64 → Int32 → Int32 → ST → Option (Unit × ST)) (r0 : Nat) (r1 : Nat) (r2 : Nat) (x3 : Int32) (y4 : Int64) (y6 : Int64) (x8 : Int32) (x9 : Int32) (s : ST) : Option (Unit × ST) :=
  bnd (x9 + 1 : Int32) fun v169 =>
  K116 r0 r1 r2 x3 y4 y6 x8 v169 s
def f_X1_findLikely_b165 (K116 : Nat → Nat → Nat → Int32 → Int64 → Int64 → Int32 → Int32 → ST → Option (Unit × ST)) (r0 : Nat) (r1 : Nat) (r2 : Nat) (x3 : Int32) (y4 : Int64) (y6 : Int64) (x9 : Int32) (s : ST) : Option (Unit × ST) :=
  f_X1_findLikely_b169 K116 r0 r1 r2 x3 y4 y6 x9 x9 s
def f_X1_findLikely_b116 (K106 : Nat → Nat → Nat → Int32 → Int64 → Int64 → ST → Option (Unit × ST)) : Nat → Nat → Nat → Nat → Int32 → Int64 → Int64 → Int32 → Int32 → ST → Option (Unit × ST)
  | 0, _, _, _, _, _, _, _, _, _ => none
  | n + 1, r0, r1, r2, x3, y4, y6, x8, x9, s =>
  gd (r0 < s.1 ∧ (kd s r0).1 = 1) <|
  if (gi s r0 4) ≤ x9 then (bnd ((x3 &&& ((1 <<< (x8 &&& 31)) ^^^ (-1))) : Int32) fun v183 =>
  bnd ((y6 / 10) : Int64) fun v190 =>
  (gr s r0 0).bind fun q200 =>
  gd (q200 < s.1 ∧ (kd s q200).1 = 105 ∧ ¬ ((x8 : Int32) < 0 ∨ (kd s q200).2 ≤ (x8 : Int32).toNatClampNeg)) <|
  (gr s q200 (x8 : Int32).toNatClampNeg).bind fun q205 =>
  gd (q205 < s.1 ∧ (kd s q205).1 = 3) <|
  gd (r2 < s.1 ∧ (kd s r2).1 = 104 ∧ ¬ ((x8 : Int32) < 0 ∨ (kd s r2).2 ≤ (x8 : Int32).toNatClampNeg)) <|
  bnd (pL s r2 (x8 : Int32).toNatClampNeg ((y4 * (((10 - (gi s q205 1)) : Int32).toInt64)) * v190)) fun s215 =>
  (gr s215 r0 0).bind fun q219 =>
  gd (q219 < s215.1 ∧ (kd s215 q219).1 = 105 ∧ ¬ ((x8 : Int32) < 0 ∨ (kd s215 q219).2 ≤ (x8 : Int32).toNatClampNeg)) <|
  (gr s215 q219 (x8 : Int32).toNatClampNeg).bind fun q224 =>
  gd (q224 < s215.1 ∧ (kd s215 q224).1 = 3) <|
  bnd ((y4 * (((gi s215 q224 1) : Int32).toInt64)) : Int64) fun v230 =>
  K106 r0 r1 r2 v183 v230 v190 s215) else bnd (p_has x3 x9) fun v128 =>
  if v128 = 0 then (f_X1_findLikely_b169 (f_X1_findLikely_b116 K106 n) r0 r1 r2 x3 y4 y6 x8 x9 s) else if x8 = (-1) then (f_X1_findLikely_b165 (f_X1_findLikely_b116 K106 n) r0 r1 r2 x3 y4 y6 x9 s) else gd (r1 < s.1 ∧ (kd s r1).1 = 2) <|
  (gr s r1 0).bind fun q142 =>
  gd (q142 < s.1 ∧ (kd s q142).1 = 100 ∧ ¬ ((x9 : Int32) < 0 ∨ (kd s q142).2 ≤ (x9 : Int32).toNatClampNeg)) <|
  ob (f_X1_shows r0 (gi s q142 (x9 : Int32).toNatClampNeg) s) fun v148 s148 =>
  gd (r1 < s148.1 ∧ (kd s148 r1).1 = 2) <|
  (gr s148 r1 0).bind fun q153 =>
  gd (q153 < s148.1 ∧ (kd s148 q153).1 = 100 ∧ ¬ ((x8 : Int32) < 0 ∨ (kd s148 q153).2 ≤ (x8 : Int32).toNatClampNeg)) <|
  gd (r0 < s148.1 ∧ (kd s148 r0).1 = 1) <|
  ob (f_X1_shows r0 (gi s148 q153 (x8 : Int32).toNatClampNeg) s148) fun v159 s159 =>
  if v148 ≤ v159 then (f_X1_findLikely_b169 (f_X1_findLikely_b116 K106 n) r0 r1 r2 x3 y4 y6 x8 x9 s159) else f_X1_findLikely_b165 (f_X1_findLikely_b116 K106 n) r0 r1 r2 x3 y4 y6 x9 s159
def f_X1_findLikely_b106 : Nat → Nat → Nat → Nat → Int32 → Int64 → Int64 → ST → Option (Unit × ST)
  | 0, _, _, _, _, _, _, _ => none
  | n + 1, r0, r1, r2, x3, y4, y6, s =>
  if x3 = 0 then (gd (r2 < s.1 ∧ (kd s r2).1 = 104 ∧ ¬ ((8 : Int32) < 0 ∨ (kd s r2).2 ≤ (8 : Int32).toNatClampNeg)) <|
  bnd (pL s r2 (8 : Int32).toNatClampNeg (y4 * y6)) fun s243 =>
  some ((), s243)) else f_X1_findLikely_b116 (f_X1_findLikely_b106 n) fuel r0 r1 r2 x3 y4 y6 (-1) 0 s
def f_X1_findLikely_b92 (K10 : Nat → Nat → Nat → Int32 → Int32 → ST → Option (Unit × ST)) (r0 : Nat) (r1 : Nat) (r2 : Nat) (x3 : Int32) (x4 : Int32) (s : ST) : Option (Unit × ST) :=
  bnd (x4 + 1 : Int32) fun v92 =>
  K10 r0 r1 r2 x3 v92 s
def f_X1_findLikely_b85 (K10 : Nat → Nat → Nat → Int32 → Int32 → ST → Option (Unit × ST)) (r0 : Nat) (r1 : Nat) (r2 : Nat) (x3 : Int32) (x4 : Int32) (s : ST) : Option (Unit × ST) :=
  bnd ((x3 ||| (1 <<< (x4 &&& 31))) : Int32) fun v91 =>
  f_X1_findLikely_b92 K10 r0 r1 r2 v91 x4 s
def f_X1_findLikely_b10 : Nat → Nat → Nat → Nat → Int32 → Int32 → ST → Option (Unit × ST)
  | 0, _, _, _, _, _, _ => none
  | n + 1, r0, r1, r2, x3, x4, s =>
  gd (r0 < s.1 ∧ (kd s r0).1 = 1) <|
  if (gi s r0 4) ≤ x4 then (f_X1_findLikely_b106 fuel r0 r1 r2 x3 1 100000000 s) else gd (r1 < s.1 ∧ (kd s r1).1 = 2) <|
  bnd (p_has (gi s r1 6) x4) fun v25 =>
  if v25 = 0 then (f_X1_findLikely_b92 (f_X1_findLikely_b10 n) r0 r1 r2 x3 x4 s) else if x4 = (gi s r1 7) then (f_X1_findLikely_b92 (f_X1_findLikely_b10 n) r0 r1 r2 x3 x4 s) else ob (f_X1_willOf r0 r1 x4 s) fun v44 s44 =>
  if v44 = 0 then (f_X1_findLikely_b92 (f_X1_findLikely_b10 n) r0 r1 r2 x3 x4 s44) else gd (r1 < s44.1 ∧ (kd s44 r1).1 = 2) <|
  if (gi s44 r1 7) = (-1) then (f_X1_findLikely_b85 (f_X1_findLikely_b10 n) r0 r1 r2 x3 x4 s44) else (gr s44 r1 0).bind fun q60 =>
  gd (q60 < s44.1 ∧ (kd s44 q60).1 = 100 ∧ ¬ ((x4 : Int32) < 0 ∨ (kd s44 q60).2 ≤ (x4 : Int32).toNatClampNeg)) <|
  gd (r0 < s44.1 ∧ (kd s44 r0).1 = 1) <|
  ob (f_X1_shows r0 (gi s44 q60 (x4 : Int32).toNatClampNeg) s44) fun v66 s66 =>
  gd (r1 < s66.1 ∧ (kd s66 r1).1 = 2) <|
  (gr s66 r1 0).bind fun q71 =>
  gd (q71 < s66.1 ∧ (kd s66 q71).1 = 100 ∧ ¬ (((gi s66 r1 7) : Int32) < 0 ∨ (kd s66 q71).2 ≤ ((gi s66 r1 7) : Int32).toNatClampNeg)) <|
  gd (r0 < s66.1 ∧ (kd s66 r0).1 = 1) <|
  ob (f_X1_shows r0 (gi s66 q71 ((gi s66 r1 7) : Int32).toNatClampNeg) s66) fun v79 s79 =>
  if v66 ≤ v79 then (f_X1_findLikely_b92 (f_X1_findLikely_b10 n) r0 r1 r2 x3 x4 s79) else f_X1_findLikely_b85 (f_X1_findLikely_b10 n) r0 r1 r2 x3 x4 s79
def f_X1_findLikely (o : Nat) (r1 : Nat) (r2 : Nat) (s : ST) : Option (Unit × ST) :=
  ob (f_J12_fill_2 r2 0 s) fun _ s2 =>
  f_X1_findLikely_b10 fuel o r1 r2 0 0 s2
set_option maxHeartbeats 4000000 in
theorem ct_X1_findLikely (l : Launch) (G : GM) (a : Nat → Nat) (o : Nat) (r1 : Nat) (r2 : Nat) (s : ST) (rv : Unit) (sf : ST) (hf : f_X1_findLikely o r1 r2 s = some (rv, sf)) : MD l G yX1_findLikely (ws_ yX1_findLikely cX1_findLikely 10 none) 123 [.ref (a o), .ref (a r1), .ref (a r2)] a s none sf := by
  refine md_of (d := 123) (lv := [(0, .ref (a o)), (1, .ref (a r1)), (2, .ref (a r2))]) (Or.inl (by decide)) (Nat.le_of_ble_eq_true rfl) rfl ?_
  intro p e s0 m args below meth c ls A P hP hC hr hnm hW hl
  have hx := hC.1
  have hb := hC.2.1
  have hts := hC.2.2.2.2.1
  have B169 : ∀ (K116 : Nat → Nat → Nat → Int32 → Int64 → Int64 → Int32 → Int32 → ST → Option (Unit × ST)) (hK116 : ∀ (r0 : Nat) (r1 : Nat) (r2 : Nat) (x3 : Int32) (y4 : Int64) (y6 : Int64) (x8 : Int32) (x9 : Int32) (s : ST), K116 r0 r1 r2 x3 y4 y6 x8 x9 s = some (rv, sf) → ∀ (H : Heap) (locs : List Loc) (ls : Array Slot), lv_has ls 10 [(0, .ref (a r0)), (1, .ref (a r1)), (2, .ref (a r2)), (3, .int x3), (4, .long y4), (6, .long y6), (8, .int x8), (9, .int x9)] → AW G a A s s0.heap H locs → WB p l e (rmD 123) s0 m args below meth c H locs G A P 116 ls []), ∀ (r0 : Nat) (r1 : Nat) (r2 : Nat) (x3 : Int32) (y4 : Int64) (y6 : Int64) (x8 : Int32) (x9 : Int32) (s : ST), f_X1_findLikely_b169 K116 r0 r1 r2 x3 y4 y6 x8 x9 s = some (rv, sf) → ∀ (H : Heap) (locs : List Loc) (ls : Array Slot), lv_has ls 10 [(0, .ref (a r0)), (1, .ref (a r1)), (2, .ref (a r2)), (3, .int x3), (4, .long y4), (6, .long y6), (8, .int x8), (9, .int x9)] → AW G a A s s0.heap H locs → WB p l e (rmD 123) s0 m args below meth c H locs G A P 169 ls [] := by
    intro K116 hK116 r0 r1 r2 x3 y4 y6 x8 x9 s hf H locs ls hl hW
    unfold f_X1_findLikely_b169 at hf
    obtain ⟨v169, ev169, hf⟩ := bnd_some hf
    refine lv_iinc (v := v169) (lv' := [(9, .int v169), (0, .ref (a r0)), (1, .ref (a r1)), (2, .ref (a r2)), (3, .int x3), (4, .long y4), (6, .long y6), (8, .int x8)]) hx hb dX1_findLikely_169 hl (k := 7) rfl (by rw [ev169]; rfl) (by decide) rfl (fun ls hl => ?_)
    refine lv_goto (tgt := 116) hx hb dX1_findLikely_172 (by decide) ?_
    exact hK116 r0 r1 r2 x3 y4 y6 x8 v169 s hf _ _ _ (lv_sub hl [1, 2, 3, 4, 5, 6, 7, 0] rfl) hW
  have B165 : ∀ (K116 : Nat → Nat → Nat → Int32 → Int64 → Int64 → Int32 → Int32 → ST → Option (Unit × ST)) (hK116 : ∀ (r0 : Nat) (r1 : Nat) (r2 : Nat) (x3 : Int32) (y4 : Int64) (y6 : Int64) (x8 : Int32) (x9 : Int32) (s : ST), K116 r0 r1 r2 x3 y4 y6 x8 x9 s = some (rv, sf) → ∀ (H : Heap) (locs : List Loc) (ls : Array Slot), lv_has ls 10 [(0, .ref (a r0)), (1, .ref (a r1)), (2, .ref (a r2)), (3, .int x3), (4, .long y4), (6, .long y6), (8, .int x8), (9, .int x9)] → AW G a A s s0.heap H locs → WB p l e (rmD 123) s0 m args below meth c H locs G A P 116 ls []), ∀ (r0 : Nat) (r1 : Nat) (r2 : Nat) (x3 : Int32) (y4 : Int64) (y6 : Int64) (x9 : Int32) (s : ST), f_X1_findLikely_b165 K116 r0 r1 r2 x3 y4 y6 x9 s = some (rv, sf) → ∀ (H : Heap) (locs : List Loc) (ls : Array Slot), lv_has ls 10 [(0, .ref (a r0)), (1, .ref (a r1)), (2, .ref (a r2)), (3, .int x3), (4, .long y4), (6, .long y6), (9, .int x9)] → AW G a A s s0.heap H locs → WB p l e (rmD 123) s0 m args below meth c H locs G A P 165 ls [] := by
    intro K116 hK116 r0 r1 r2 x3 y4 y6 x9 s hf H locs ls hl hW
    unfold f_X1_findLikely_b165 at hf
    refine lv_iload hx hb dX1_findLikely_165 (lv_at hl 6 rfl) ?_
    refine lv_istore (lv' := [(8, .int x9), (0, .ref (a r0)), (1, .ref (a r1)), (2, .ref (a r2)), (3, .int x3), (4, .long y4), (6, .long y6), (9, .int x9)]) hx hb dX1_findLikely_167 hl (by decide) rfl (fun ls hl => ?_)
    exact B169 K116 hK116 r0 r1 r2 x3 y4 y6 x9 x9 s hf _ _ _ (lv_sub hl [1, 2, 3, 4, 5, 6, 0, 7] rfl) hW
  have B116 : ∀ (K106 : Nat → Nat → Nat → Int32 → Int64 → Int64 → ST → Option (Unit × ST)) (hK106 : ∀ (r0 : Nat) (r1 : Nat) (r2 : Nat) (x3 : Int32) (y4 : Int64) (y6 : Int64) (s : ST), K106 r0 r1 r2 x3 y4 y6 s = some (rv, sf) → ∀ (H : Heap) (locs : List Loc) (ls : Array Slot), lv_has ls 10 [(0, .ref (a r0)), (1, .ref (a r1)), (2, .ref (a r2)), (3, .int x3), (4, .long y4), (6, .long y6)] → AW G a A s s0.heap H locs → WB p l e (rmD 123) s0 m args below meth c H locs G A P 106 ls []), ∀ (n : Nat), ∀ (r0 : Nat) (r1 : Nat) (r2 : Nat) (x3 : Int32) (y4 : Int64) (y6 : Int64) (x8 : Int32) (x9 : Int32) (s : ST), f_X1_findLikely_b116 K106 n r0 r1 r2 x3 y4 y6 x8 x9 s = some (rv, sf) → ∀ (H : Heap) (locs : List Loc) (ls : Array Slot), lv_has ls 10 [(0, .ref (a r0)), (1, .ref (a r1)), (2, .ref (a r2)), (3, .int x3), (4, .long y4), (6, .long y6), (8, .int x8), (9, .int x9)] → AW G a A s s0.heap H locs → WB p l e (rmD 123) s0 m args below meth c H locs G A P 116 ls [] := by
    intro K106 hK106
    intro n
    induction n with
    | zero => intro r0 r1 r2 x3 y4 y6 x8 x9 s hf; cases hf
    | succ n ih =>
      intro r0 r1 r2 x3 y4 y6 x8 x9 s hf H locs ls hl hW
      rw [f_X1_findLikely_b116] at hf
      refine lv_iload hx hb dX1_findLikely_116 (lv_at hl 7 rfl) ?_
      refine lv_aload_n hx hb dX1_findLikely_118 rfl (lv_at hl 0 rfl) ?_
      obtain ⟨g119, hf⟩ := gd_some hf
      refine aw_gI hC hW g119 fl_X1_157 rfl dX1_findLikely_119 ?_
      refine lv_icmp_ge (tgt := 175) hx hb dX1_findLikely_122 (by decide) (fun c122 => ?_) (fun c122 => ?_)
      · have hf := ifp c122 hf
        refine lv_iload_n hx hb dX1_findLikely_175 rfl (lv_at hl 3 rfl) ?_
        refine lv_iconst (v := 1) hx hb dX1_findLikely_176 (by decide) ?_
        refine lv_iload hx hb dX1_findLikely_177 (lv_at hl 6 rfl) ?_
        refine lv_ishl hx hb dX1_findLikely_179 ?_
        refine lv_iconst (v := (-1)) hx hb dX1_findLikely_180 (by decide) ?_
        refine lv_ixor hx hb dX1_findLikely_181 ?_
        refine lv_iand hx hb dX1_findLikely_182 ?_
        obtain ⟨v183, ev183, hf⟩ := bnd_some hf
        refine top_i ev183 ?_
        refine lv_istore_n (lv' := [(3, .int v183), (0, .ref (a r0)), (1, .ref (a r1)), (2, .ref (a r2)), (4, .long y4), (6, .long y6), (8, .int x8), (9, .int x9)]) hx hb dX1_findLikely_183 rfl hl (by decide) rfl (fun ls hl => ?_)
        refine lv_lload hx hb dX1_findLikely_184 (lv_at hl 5 rfl) ?_
        refine lv_ldc2 (v := 10) hx hb hC.2.2.2.1 (hts _ q1085) dX1_findLikely_186 ?_
        refine lv_ldiv hx hb dX1_findLikely_189 (by decide) ?_
        obtain ⟨v190, ev190, hf⟩ := bnd_some hf
        refine top_l ev190 ?_
        refine lv_lstore (lv' := [(6, .long v190), (3, .int v183), (0, .ref (a r0)), (1, .ref (a r1)), (2, .ref (a r2)), (4, .long y4), (8, .int x8), (9, .int x9)]) hx hb dX1_findLikely_190 hl (by decide) rfl (fun ls hl => ?_)
        refine lv_aload_n hx hb dX1_findLikely_192 rfl (lv_at hl 4 rfl) ?_
        refine lv_iload hx hb dX1_findLikely_193 (lv_at hl 6 rfl) ?_
        refine lv_lload hx hb dX1_findLikely_195 (lv_at hl 5 rfl) ?_
        refine lv_bipush (v := 10) hx hb dX1_findLikely_197 (by decide) ?_
        refine lv_aload_n hx hb dX1_findLikely_199 rfl (lv_at hl 2 rfl) ?_
        obtain ⟨q200, hq200, hf⟩ := bi_some hf
        refine aw_gR hC hW g119 fl_X1_11 rfl hq200 dX1_findLikely_200 ?_
        refine lv_iload hx hb dX1_findLikely_203 (lv_at hl 6 rfl) ?_
        obtain ⟨g205, hf⟩ := gd_some hf
        obtain ⟨q205, hq205, hf⟩ := bi_some hf
        refine aw_aald (j := 0) hC hW (by decide) g205 hq205 dX1_findLikely_205 ?_
        obtain ⟨g206, hf⟩ := gd_some hf
        refine aw_gI hC hW g206 fl_X1_214 rfl dX1_findLikely_206 ?_
        refine lv_isub hx hb dX1_findLikely_209 ?_
        refine lv_i2l (v := ((10 - (gi s q205 1)) : Int32).toInt64) hx hb dX1_findLikely_210 rfl ?_
        refine lv_lmul hx hb dX1_findLikely_211 ?_
        refine lv_lload hx hb dX1_findLikely_212 (lv_at hl 0 rfl) ?_
        refine lv_lmul hx hb dX1_findLikely_214 ?_
        obtain ⟨g215, hf⟩ := gd_some hf
        obtain ⟨s215, e215, hf⟩ := bnd_some hf
        refine aw_last e215 hC hW g215 dX1_findLikely_215 (fun H locs hW => ?_)
        have g119 := ko_pL e215 g119
        have g206 := ko_pL e215 g206
        refine lv_lload hx hb dX1_findLikely_216 (lv_at hl 5 rfl) ?_
        refine lv_aload_n hx hb dX1_findLikely_218 rfl (lv_at hl 2 rfl) ?_
        obtain ⟨q219, hq219, hf⟩ := bi_some hf
        refine aw_gR hC hW g119 fl_X1_11 rfl hq219 dX1_findLikely_219 ?_
        refine lv_iload hx hb dX1_findLikely_222 (lv_at hl 6 rfl) ?_
        obtain ⟨g224, hf⟩ := gd_some hf
        obtain ⟨q224, hq224, hf⟩ := bi_some hf
        refine aw_aald (j := 0) hC hW (by decide) g224 hq224 dX1_findLikely_224 ?_
        obtain ⟨g225, hf⟩ := gd_some hf
        refine aw_gI hC hW g225 fl_X1_214 rfl dX1_findLikely_225 ?_
        refine lv_i2l (v := ((gi s215 q224 1) : Int32).toInt64) hx hb dX1_findLikely_228 rfl ?_
        refine lv_lmul hx hb dX1_findLikely_229 ?_
        obtain ⟨v230, ev230, hf⟩ := bnd_some hf
        refine top_l ev230 ?_
        refine lv_lstore (lv' := [(4, .long v230), (6, .long v190), (3, .int v183), (0, .ref (a r0)), (1, .ref (a r1)), (2, .ref (a r2)), (8, .int x8), (9, .int x9)]) hx hb dX1_findLikely_230 hl (by decide) rfl (fun ls hl => ?_)
        refine lv_goto (tgt := 106) hx hb dX1_findLikely_232 (by decide) ?_
        exact hK106 r0 r1 r2 v183 v230 v190 s215 hf _ _ _ (lv_sub hl [3, 4, 5, 2, 0, 1] rfl) hW
      · have hf := ifn c122 hf
        refine lv_iload_n hx hb dX1_findLikely_125 rfl (lv_at hl 3 rfl) ?_
        refine lv_iload hx hb dX1_findLikely_126 (lv_at hl 7 rfl) ?_
        obtain ⟨v128, ev128, hf⟩ := bnd_some hf
        refine aw_dS1 (As := [.int x3, .int x9]) (rest := []) (pc_X1_has l G a x3 x9 s) hC hW hl.1 sy_X1_has (Or.inl q930) rfl rfl (Nat.le_of_ble_eq_true rfl) ⟨Nat.le_of_ble_eq_true rfl, Nat.le_of_ble_eq_true rfl⟩ ⟨Nat.le_of_ble_eq_true rfl, Nat.le_of_ble_eq_true rfl⟩ dX1_findLikely_128 (fun H locs hW => ?_)
        refine top_i ev128 ?_
        refine lv_if_eq (tgt := 169) hx hb dX1_findLikely_131 (by decide) (fun c131 => ?_) (fun c131 => ?_)
        · have hf := ifp c131 hf
          exact B169 (f_X1_findLikely_b116 K106 n) ih r0 r1 r2 x3 y4 y6 x8 x9 s hf _ _ _ (lv_sub hl [0, 1, 2, 3, 4, 5, 6, 7] rfl) hW
        · have hf := ifn c131 hf
          refine lv_iload hx hb dX1_findLikely_134 (lv_at hl 6 rfl) ?_
          refine lv_iconst (v := (-1)) hx hb dX1_findLikely_136 (by decide) ?_
          refine lv_icmp_eq (tgt := 165) hx hb dX1_findLikely_137 (by decide) (fun c137 => ?_) (fun c137 => ?_)
          · have hf := ifp c137 hf
            exact B165 (f_X1_findLikely_b116 K106 n) ih r0 r1 r2 x3 y4 y6 x9 s hf _ _ _ (lv_sub hl [0, 1, 2, 3, 4, 5, 7] rfl) hW
          · have hf := ifn c137 hf
            refine lv_aload_n hx hb dX1_findLikely_140 rfl (lv_at hl 0 rfl) ?_
            refine lv_aload_n hx hb dX1_findLikely_141 rfl (lv_at hl 1 rfl) ?_
            obtain ⟨g142, hf⟩ := gd_some hf
            obtain ⟨q142, hq142, hf⟩ := bi_some hf
            refine aw_gR hC hW g142 fl_X1_236 rfl hq142 dX1_findLikely_142 ?_
            refine lv_iload hx hb dX1_findLikely_145 (lv_at hl 7 rfl) ?_
            obtain ⟨g147, hf⟩ := gd_some hf
            refine aw_iald hC hW g147 dX1_findLikely_147 ?_
            obtain ⟨v148, s148, h148, hf⟩ := ob_some hf
            refine aw_dV1 (r := r0) (As := [.int (gi s q142 (x9 : Int32).toNatClampNeg)]) (rest := []) (ct_X1_shows l G a r0 (gi s q142 (x9 : Int32).toNatClampNeg) s v148 s148 h148) hC hW hl.1 vy_X1_shows (Or.inl q997) g119 rfl rfl rfl rfl (Nat.le_of_ble_eq_true rfl) ⟨Nat.le_of_ble_eq_true rfl, Nat.le_of_ble_eq_true rfl⟩ ⟨Nat.le_of_ble_eq_true rfl, Nat.le_of_ble_eq_true rfl⟩ dX1_findLikely_148 (fun H locs hW => ?_)
            refine lv_aload_n hx hb dX1_findLikely_151 rfl (lv_at hl 0 rfl) ?_
            refine lv_aload_n hx hb dX1_findLikely_152 rfl (lv_at hl 1 rfl) ?_
            obtain ⟨g153, hf⟩ := gd_some hf
            obtain ⟨q153, hq153, hf⟩ := bi_some hf
            refine aw_gR hC hW g153 fl_X1_236 rfl hq153 dX1_findLikely_153 ?_
            refine lv_iload hx hb dX1_findLikely_156 (lv_at hl 6 rfl) ?_
            obtain ⟨g158, hf⟩ := gd_some hf
            refine aw_iald hC hW g158 dX1_findLikely_158 ?_
            obtain ⟨g159, hf⟩ := gd_some hf
            obtain ⟨v159, s159, h159, hf⟩ := ob_some hf
            refine aw_dV1 (r := r0) (As := [.int (gi s148 q153 (x8 : Int32).toNatClampNeg)]) (rest := [.int v148]) (ct_X1_shows l G a r0 (gi s148 q153 (x8 : Int32).toNatClampNeg) s148 v159 s159 h159) hC hW hl.1 vy_X1_shows (Or.inl q997) g159 rfl rfl rfl rfl (Nat.le_of_ble_eq_true rfl) ⟨Nat.le_of_ble_eq_true rfl, Nat.le_of_ble_eq_true rfl⟩ ⟨Nat.le_of_ble_eq_true rfl, Nat.le_of_ble_eq_true rfl⟩ dX1_findLikely_159 (fun H locs hW => ?_)
            refine lv_icmp_le (tgt := 169) hx hb dX1_findLikely_162 (by decide) (fun c162 => ?_) (fun c162 => ?_)
            · have hf := ifp c162 hf
              exact B169 (f_X1_findLikely_b116 K106 n) ih r0 r1 r2 x3 y4 y6 x8 x9 s159 hf _ _ _ (lv_sub hl [0, 1, 2, 3, 4, 5, 6, 7] rfl) hW
            · have hf := ifn c162 hf
              exact B165 (f_X1_findLikely_b116 K106 n) ih r0 r1 r2 x3 y4 y6 x9 s159 hf _ _ _ (lv_sub hl [0, 1, 2, 3, 4, 5, 7] rfl) hW
  have B106 : ∀ (n : Nat), ∀ (r0 : Nat) (r1 : Nat) (r2 : Nat) (x3 : Int32) (y4 : Int64) (y6 : Int64) (s : ST), f_X1_findLikely_b106 n r0 r1 r2 x3 y4 y6 s = some (rv, sf) → ∀ (H : Heap) (locs : List Loc) (ls : Array Slot), lv_has ls 10 [(0, .ref (a r0)), (1, .ref (a r1)), (2, .ref (a r2)), (3, .int x3), (4, .long y4), (6, .long y6)] → AW G a A s s0.heap H locs → WB p l e (rmD 123) s0 m args below meth c H locs G A P 106 ls [] := by
    intro n
    induction n with
    | zero => intro r0 r1 r2 x3 y4 y6 s hf; cases hf
    | succ n ih =>
      intro r0 r1 r2 x3 y4 y6 s hf H locs ls hl hW
      rw [f_X1_findLikely_b106] at hf
      refine lv_iload_n hx hb dX1_findLikely_106 rfl (lv_at hl 3 rfl) ?_
      refine lv_if_eq (tgt := 235) hx hb dX1_findLikely_107 (by decide) (fun c107 => ?_) (fun c107 => ?_)
      · have hf := ifp c107 hf
        refine lv_aload_n hx hb dX1_findLikely_235 rfl (lv_at hl 2 rfl) ?_
        refine lv_bipush (v := 8) hx hb dX1_findLikely_236 (by decide) ?_
        refine lv_lload hx hb dX1_findLikely_238 (lv_at hl 4 rfl) ?_
        refine lv_lload hx hb dX1_findLikely_240 (lv_at hl 5 rfl) ?_
        refine lv_lmul hx hb dX1_findLikely_242 ?_
        obtain ⟨g243, hf⟩ := gd_some hf
        obtain ⟨s243, e243, hf⟩ := bnd_some hf
        refine aw_last e243 hC hW g243 dX1_findLikely_243 (fun H locs hW => ?_)
        obtain ⟨e1, e2⟩ := so_inj hf
        exact aw_vret hC hW hr (p_eq hP rfl e2) (Nat.le_of_ble_eq_true rfl) (Nat.le_of_ble_eq_true rfl) dX1_findLikely_244
      · have hf := ifn c107 hf
        refine lv_iconst (v := (-1)) hx hb dX1_findLikely_110 (by decide) ?_
        refine lv_istore (lv' := [(8, .int (-1)), (0, .ref (a r0)), (1, .ref (a r1)), (2, .ref (a r2)), (3, .int x3), (4, .long y4), (6, .long y6)]) hx hb dX1_findLikely_111 hl (by decide) rfl (fun ls hl => ?_)
        refine lv_iconst (v := 0) hx hb dX1_findLikely_113 (by decide) ?_
        refine lv_istore (lv' := [(9, .int 0), (8, .int (-1)), (0, .ref (a r0)), (1, .ref (a r1)), (2, .ref (a r2)), (3, .int x3), (4, .long y4), (6, .long y6)]) hx hb dX1_findLikely_114 hl (by decide) rfl (fun ls hl => ?_)
        exact B116 (f_X1_findLikely_b106 n) ih fuel r0 r1 r2 x3 y4 y6 (-1) 0 s hf _ _ _ (lv_sub hl [2, 3, 4, 5, 6, 7, 1, 0] rfl) hW
  have B92 : ∀ (K10 : Nat → Nat → Nat → Int32 → Int32 → ST → Option (Unit × ST)) (hK10 : ∀ (r0 : Nat) (r1 : Nat) (r2 : Nat) (x3 : Int32) (x4 : Int32) (s : ST), K10 r0 r1 r2 x3 x4 s = some (rv, sf) → ∀ (H : Heap) (locs : List Loc) (ls : Array Slot), lv_has ls 10 [(0, .ref (a r0)), (1, .ref (a r1)), (2, .ref (a r2)), (3, .int x3), (4, .int x4)] → AW G a A s s0.heap H locs → WB p l e (rmD 123) s0 m args below meth c H locs G A P 10 ls []), ∀ (r0 : Nat) (r1 : Nat) (r2 : Nat) (x3 : Int32) (x4 : Int32) (s : ST), f_X1_findLikely_b92 K10 r0 r1 r2 x3 x4 s = some (rv, sf) → ∀ (H : Heap) (locs : List Loc) (ls : Array Slot), lv_has ls 10 [(0, .ref (a r0)), (1, .ref (a r1)), (2, .ref (a r2)), (3, .int x3), (4, .int x4)] → AW G a A s s0.heap H locs → WB p l e (rmD 123) s0 m args below meth c H locs G A P 92 ls [] := by
    intro K10 hK10 r0 r1 r2 x3 x4 s hf H locs ls hl hW
    unfold f_X1_findLikely_b92 at hf
    obtain ⟨v92, ev92, hf⟩ := bnd_some hf
    refine lv_iinc (v := v92) (lv' := [(4, .int v92), (0, .ref (a r0)), (1, .ref (a r1)), (2, .ref (a r2)), (3, .int x3)]) hx hb dX1_findLikely_92 hl (k := 4) rfl (by rw [ev92]; rfl) (by decide) rfl (fun ls hl => ?_)
    refine lv_goto (tgt := 10) hx hb dX1_findLikely_95 (by decide) ?_
    exact hK10 r0 r1 r2 x3 v92 s hf _ _ _ (lv_sub hl [1, 2, 3, 4, 0] rfl) hW
  have B85 : ∀ (K10 : Nat → Nat → Nat → Int32 → Int32 → ST → Option (Unit × ST)) (hK10 : ∀ (r0 : Nat) (r1 : Nat) (r2 : Nat) (x3 : Int32) (x4 : Int32) (s : ST), K10 r0 r1 r2 x3 x4 s = some (rv, sf) → ∀ (H : Heap) (locs : List Loc) (ls : Array Slot), lv_has ls 10 [(0, .ref (a r0)), (1, .ref (a r1)), (2, .ref (a r2)), (3, .int x3), (4, .int x4)] → AW G a A s s0.heap H locs → WB p l e (rmD 123) s0 m args below meth c H locs G A P 10 ls []), ∀ (r0 : Nat) (r1 : Nat) (r2 : Nat) (x3 : Int32) (x4 : Int32) (s : ST), f_X1_findLikely_b85 K10 r0 r1 r2 x3 x4 s = some (rv, sf) → ∀ (H : Heap) (locs : List Loc) (ls : Array Slot), lv_has ls 10 [(0, .ref (a r0)), (1, .ref (a r1)), (2, .ref (a r2)), (3, .int x3), (4, .int x4)] → AW G a A s s0.heap H locs → WB p l e (rmD 123) s0 m args below meth c H locs G A P 85 ls [] := by
    intro K10 hK10 r0 r1 r2 x3 x4 s hf H locs ls hl hW
    unfold f_X1_findLikely_b85 at hf
    refine lv_iload_n hx hb dX1_findLikely_85 rfl (lv_at hl 3 rfl) ?_
    refine lv_iconst (v := 1) hx hb dX1_findLikely_86 (by decide) ?_
    refine lv_iload hx hb dX1_findLikely_87 (lv_at hl 4 rfl) ?_
    refine lv_ishl hx hb dX1_findLikely_89 ?_
    refine lv_ior hx hb dX1_findLikely_90 ?_
    obtain ⟨v91, ev91, hf⟩ := bnd_some hf
    refine top_i ev91 ?_
    refine lv_istore_n (lv' := [(3, .int v91), (0, .ref (a r0)), (1, .ref (a r1)), (2, .ref (a r2)), (4, .int x4)]) hx hb dX1_findLikely_91 rfl hl (by decide) rfl (fun ls hl => ?_)
    exact B92 K10 hK10 r0 r1 r2 v91 x4 s hf _ _ _ (lv_sub hl [1, 2, 3, 0, 4] rfl) hW
  have B10 : ∀ (n : Nat), ∀ (r0 : Nat) (r1 : Nat) (r2 : Nat) (x3 : Int32) (x4 : Int32) (s : ST), f_X1_findLikely_b10 n r0 r1 r2 x3 x4 s = some (rv, sf) → ∀ (H : Heap) (locs : List Loc) (ls : Array Slot), lv_has ls 10 [(0, .ref (a r0)), (1, .ref (a r1)), (2, .ref (a r2)), (3, .int x3), (4, .int x4)] → AW G a A s s0.heap H locs → WB p l e (rmD 123) s0 m args below meth c H locs G A P 10 ls [] := by
    intro n
    induction n with
    | zero => intro r0 r1 r2 x3 x4 s hf; cases hf
    | succ n ih =>
      intro r0 r1 r2 x3 x4 s hf H locs ls hl hW
      rw [f_X1_findLikely_b10] at hf
      refine lv_iload hx hb dX1_findLikely_10 (lv_at hl 4 rfl) ?_
      refine lv_aload_n hx hb dX1_findLikely_12 rfl (lv_at hl 0 rfl) ?_
      obtain ⟨g13, hf⟩ := gd_some hf
      refine aw_gI hC hW g13 fl_X1_157 rfl dX1_findLikely_13 ?_
      refine lv_icmp_ge (tgt := 98) hx hb dX1_findLikely_16 (by decide) (fun c16 => ?_) (fun c16 => ?_)
      · have hf := ifp c16 hf
        refine lv_lconst (v := 1) hx hb dX1_findLikely_98 (by decide) ?_
        refine lv_lstore (lv' := [(4, .long 1), (0, .ref (a r0)), (1, .ref (a r1)), (2, .ref (a r2)), (3, .int x3)]) hx hb dX1_findLikely_99 hl (by decide) rfl (fun ls hl => ?_)
        refine lv_ldc2 (v := 100000000) hx hb hC.2.2.2.1 (hts _ q1255) dX1_findLikely_101 ?_
        refine lv_lstore (lv' := [(6, .long 100000000), (4, .long 1), (0, .ref (a r0)), (1, .ref (a r1)), (2, .ref (a r2)), (3, .int x3)]) hx hb dX1_findLikely_104 hl (by decide) rfl (fun ls hl => ?_)
        exact B106 fuel r0 r1 r2 x3 1 100000000 s hf _ _ _ (lv_sub hl [2, 3, 4, 5, 1, 0] rfl) hW
      · have hf := ifn c16 hf
        refine lv_aload_n hx hb dX1_findLikely_19 rfl (lv_at hl 1 rfl) ?_
        obtain ⟨g20, hf⟩ := gd_some hf
        refine aw_gI hC hW g20 fl_X1_168 rfl dX1_findLikely_20 ?_
        refine lv_iload hx hb dX1_findLikely_23 (lv_at hl 4 rfl) ?_
        obtain ⟨v25, ev25, hf⟩ := bnd_some hf
        refine aw_dS1 (As := [.int (gi s r1 6), .int x4]) (rest := []) (pc_X1_has l G a (gi s r1 6) x4 s) hC hW hl.1 sy_X1_has (Or.inl q930) rfl rfl (Nat.le_of_ble_eq_true rfl) ⟨Nat.le_of_ble_eq_true rfl, Nat.le_of_ble_eq_true rfl⟩ ⟨Nat.le_of_ble_eq_true rfl, Nat.le_of_ble_eq_true rfl⟩ dX1_findLikely_25 (fun H locs hW => ?_)
        refine top_i ev25 ?_
        refine lv_if_eq (tgt := 92) hx hb dX1_findLikely_28 (by decide) (fun c28 => ?_) (fun c28 => ?_)
        · have hf := ifp c28 hf
          exact B92 (f_X1_findLikely_b10 n) ih r0 r1 r2 x3 x4 s hf _ _ _ (lv_sub hl [0, 1, 2, 3, 4] rfl) hW
        · have hf := ifn c28 hf
          refine lv_iload hx hb dX1_findLikely_31 (lv_at hl 4 rfl) ?_
          refine lv_aload_n hx hb dX1_findLikely_33 rfl (lv_at hl 1 rfl) ?_
          refine aw_gI hC hW g20 fl_X1_315 rfl dX1_findLikely_34 ?_
          refine lv_icmp_eq (tgt := 92) hx hb dX1_findLikely_37 (by decide) (fun c37 => ?_) (fun c37 => ?_)
          · have hf := ifp c37 hf
            exact B92 (f_X1_findLikely_b10 n) ih r0 r1 r2 x3 x4 s hf _ _ _ (lv_sub hl [0, 1, 2, 3, 4] rfl) hW
          · have hf := ifn c37 hf
            refine lv_aload_n hx hb dX1_findLikely_40 rfl (lv_at hl 0 rfl) ?_
            refine lv_aload_n hx hb dX1_findLikely_41 rfl (lv_at hl 1 rfl) ?_
            refine lv_iload hx hb dX1_findLikely_42 (lv_at hl 4 rfl) ?_
            obtain ⟨v44, s44, h44, hf⟩ := ob_some hf
            refine aw_dV1 (r := r0) (As := [.ref (a r1), .int x4]) (rest := []) (ct_X1_willOf l G a r0 r1 x4 s v44 s44 h44) hC hW hl.1 vy_X1_willOf (Or.inl q1254) g13 rfl rfl rfl rfl (Nat.le_of_ble_eq_true rfl) ⟨Nat.le_of_ble_eq_true rfl, Nat.le_of_ble_eq_true rfl⟩ ⟨Nat.le_of_ble_eq_true rfl, Nat.le_of_ble_eq_true rfl⟩ dX1_findLikely_44 (fun H locs hW => ?_)
            refine lv_if_eq (tgt := 92) hx hb dX1_findLikely_47 (by decide) (fun c47 => ?_) (fun c47 => ?_)
            · have hf := ifp c47 hf
              exact B92 (f_X1_findLikely_b10 n) ih r0 r1 r2 x3 x4 s44 hf _ _ _ (lv_sub hl [0, 1, 2, 3, 4] rfl) hW
            · have hf := ifn c47 hf
              refine lv_aload_n hx hb dX1_findLikely_50 rfl (lv_at hl 1 rfl) ?_
              obtain ⟨g51, hf⟩ := gd_some hf
              refine aw_gI hC hW g51 fl_X1_315 rfl dX1_findLikely_51 ?_
              refine lv_iconst (v := (-1)) hx hb dX1_findLikely_54 (by decide) ?_
              refine lv_icmp_eq (tgt := 85) hx hb dX1_findLikely_55 (by decide) (fun c55 => ?_) (fun c55 => ?_)
              · have hf := ifp c55 hf
                exact B85 (f_X1_findLikely_b10 n) ih r0 r1 r2 x3 x4 s44 hf _ _ _ (lv_sub hl [0, 1, 2, 3, 4] rfl) hW
              · have hf := ifn c55 hf
                refine lv_aload_n hx hb dX1_findLikely_58 rfl (lv_at hl 0 rfl) ?_
                refine lv_aload_n hx hb dX1_findLikely_59 rfl (lv_at hl 1 rfl) ?_
                obtain ⟨q60, hq60, hf⟩ := bi_some hf
                refine aw_gR hC hW g51 fl_X1_236 rfl hq60 dX1_findLikely_60 ?_
                refine lv_iload hx hb dX1_findLikely_63 (lv_at hl 4 rfl) ?_
                obtain ⟨g65, hf⟩ := gd_some hf
                refine aw_iald hC hW g65 dX1_findLikely_65 ?_
                obtain ⟨g66, hf⟩ := gd_some hf
                obtain ⟨v66, s66, h66, hf⟩ := ob_some hf
                refine aw_dV1 (r := r0) (As := [.int (gi s44 q60 (x4 : Int32).toNatClampNeg)]) (rest := []) (ct_X1_shows l G a r0 (gi s44 q60 (x4 : Int32).toNatClampNeg) s44 v66 s66 h66) hC hW hl.1 vy_X1_shows (Or.inl q997) g66 rfl rfl rfl rfl (Nat.le_of_ble_eq_true rfl) ⟨Nat.le_of_ble_eq_true rfl, Nat.le_of_ble_eq_true rfl⟩ ⟨Nat.le_of_ble_eq_true rfl, Nat.le_of_ble_eq_true rfl⟩ dX1_findLikely_66 (fun H locs hW => ?_)
                refine lv_aload_n hx hb dX1_findLikely_69 rfl (lv_at hl 0 rfl) ?_
                refine lv_aload_n hx hb dX1_findLikely_70 rfl (lv_at hl 1 rfl) ?_
                obtain ⟨g71, hf⟩ := gd_some hf
                obtain ⟨q71, hq71, hf⟩ := bi_some hf
                refine aw_gR hC hW g71 fl_X1_236 rfl hq71 dX1_findLikely_71 ?_
                refine lv_aload_n hx hb dX1_findLikely_74 rfl (lv_at hl 1 rfl) ?_
                refine aw_gI hC hW g71 fl_X1_315 rfl dX1_findLikely_75 ?_
                obtain ⟨g78, hf⟩ := gd_some hf
                refine aw_iald hC hW g78 dX1_findLikely_78 ?_
                obtain ⟨g79, hf⟩ := gd_some hf
                obtain ⟨v79, s79, h79, hf⟩ := ob_some hf
                refine aw_dV1 (r := r0) (As := [.int (gi s66 q71 ((gi s66 r1 7) : Int32).toNatClampNeg)]) (rest := [.int v66]) (ct_X1_shows l G a r0 (gi s66 q71 ((gi s66 r1 7) : Int32).toNatClampNeg) s66 v79 s79 h79) hC hW hl.1 vy_X1_shows (Or.inl q997) g79 rfl rfl rfl rfl (Nat.le_of_ble_eq_true rfl) ⟨Nat.le_of_ble_eq_true rfl, Nat.le_of_ble_eq_true rfl⟩ ⟨Nat.le_of_ble_eq_true rfl, Nat.le_of_ble_eq_true rfl⟩ dX1_findLikely_79 (fun H locs hW => ?_)
                refine lv_icmp_le (tgt := 92) hx hb dX1_findLikely_82 (by decide) (fun c82 => ?_) (fun c82 => ?_)
                · have hf := ifp c82 hf
                  exact B92 (f_X1_findLikely_b10 n) ih r0 r1 r2 x3 x4 s79 hf _ _ _ (lv_sub hl [0, 1, 2, 3, 4] rfl) hW
                · have hf := ifn c82 hf
                  exact B85 (f_X1_findLikely_b10 n) ih r0 r1 r2 x3 x4 s79 hf _ _ _ (lv_sub hl [0, 1, 2, 3, 4] rfl) hW
  unfold f_X1_findLikely at hf
  refine lv_aload_n hx hb dX1_findLikely_0 rfl (lv_at hl 2 rfl) ?_
  refine lv_lconst (v := 0) hx hb dX1_findLikely_1 (by decide) ?_
  obtain ⟨_, s2, h2, hf⟩ := ob_some hf
  refine aw_dS0 (As := [.ref (a r2), .long 0]) (rest := []) (ct_J12_fill_2 l G a r2 0 s () s2 h2) hC hW hl.1 sy_J12_fill_2 (Or.inl q1251) rfl rfl (Nat.le_of_ble_eq_true rfl) ⟨Nat.le_of_ble_eq_true rfl, Nat.le_of_ble_eq_true rfl⟩ ⟨Nat.le_of_ble_eq_true rfl, Nat.le_of_ble_eq_true rfl⟩ dX1_findLikely_2 (fun H locs hW => ?_)
  refine lv_iconst (v := 0) hx hb dX1_findLikely_5 (by decide) ?_
  refine lv_istore_n (lv' := [(3, .int 0), (0, .ref (a o)), (1, .ref (a r1)), (2, .ref (a r2))]) hx hb dX1_findLikely_6 rfl hl (by decide) rfl (fun ls hl => ?_)
  refine lv_iconst (v := 0) hx hb dX1_findLikely_7 (by decide) ?_
  refine lv_istore (lv' := [(4, .int 0), (3, .int 0), (0, .ref (a o)), (1, .ref (a r1)), (2, .ref (a r2))]) hx hb dX1_findLikely_8 hl (by decide) rfl (fun ls hl => ?_)
  exact B10 fuel o r1 r2 0 0 s2 hf _ _ _ (lv_sub hl [2, 3, 4, 1, 0] rfl) hW
def f_X1_likely_b96 (K40 : Nat → Int64 → Int32 → Int32 → ST → Option (Int32 × ST)) (r0 : Nat) (y1 : Int64) (x3 : Int32) (x4 : Int32) (s : ST) : Option (Int32 × ST) :=
  bnd (x4 + 1 : Int32) fun v96 =>
  K40 r0 y1 x3 v96 s
def f_X1_likely_b78 (K40 : Nat → Int64 → Int32 → Int32 → ST → Option (Int32 × ST)) (r0 : Nat) (y1 : Int64) (x3 : Int32) (x4 : Int32) (u0 : Int64) (s : ST) : Option (Int32 × ST) :=
  if 0 < (lg_cmp u0 y1) then (f_X1_likely_b96 K40 r0 u0 x4 x4 s) else f_X1_likely_b96 K40 r0 y1 x3 x4 s
def f_X1_likely_b40 : Nat → Nat → Int64 → Int32 → Int32 → ST → Option (Int32 × ST)
  | 0, _, _, _, _, _ => none
  | n + 1, r0, y1, x3, x4, s =>
  gd (r0 < s.1 ∧ (kd s r0).1 = 1) <|
  if (gi s r0 4) ≤ x4 then (bnd (pI s r0 12 0) fun s104 =>
  ob (f_X1_tellPart r0 y1 100000000 s104) fun _ s112 =>
  some (x3, s112)) else (gr s r0 1).bind fun q52 =>
  gd (q52 < s.1 ∧ (kd s q52).1 = 2) <|
  if x4 = (gi s q52 7) then ((gr s r0 37).bind fun q62 =>
  gd (q62 < s.1 ∧ (kd s q62).1 = 104 ∧ ¬ ((8 : Int32) < 0 ∨ (kd s q62).2 ≤ (8 : Int32).toNatClampNeg)) <|
  f_X1_likely_b78 (f_X1_likely_b40 n) r0 y1 x3 x4 (gl s q62 (8 : Int32).toNatClampNeg) s) else (gr s r0 37).bind fun q72 =>
  gd (q72 < s.1 ∧ (kd s q72).1 = 104 ∧ ¬ ((x4 : Int32) < 0 ∨ (kd s q72).2 ≤ (x4 : Int32).toNatClampNeg)) <|
  f_X1_likely_b78 (f_X1_likely_b40 n) r0 y1 x3 x4 (gl s q72 (x4 : Int32).toNatClampNeg) s
def f_X1_likely_b34 (r0 : Nat) (u0 : Int64) (s : ST) : Option (Int32 × ST) :=
  f_X1_likely_b40 fuel r0 u0 (-1) 0 s
def f_X1_likely (o : Nat) (s : ST) : Option (Int32 × ST) :=
  gd (o < s.1 ∧ (kd s o).1 = 1) <|
  (gr s o 1).bind fun q2 =>
  (gr s o 37).bind fun q6 =>
  ob (f_X1_findLikely o q2 q6 s) fun _ s9 =>
  gd (o < s9.1 ∧ (kd s9 o).1 = 1) <|
  (gr s9 o 1).bind fun q13 =>
  gd (q13 < s9.1 ∧ (kd s9 q13).1 = 2) <|
  if (gi s9 q13 7) = (-1) then ((gr s9 o 37).bind fun q24 =>
  gd (q24 < s9.1 ∧ (kd s9 q24).1 = 104 ∧ ¬ ((8 : Int32) < 0 ∨ (kd s9 q24).2 ≤ (8 : Int32).toNatClampNeg)) <|
  f_X1_likely_b34 o (gl s9 q24 (8 : Int32).toNatClampNeg) s9) else f_X1_likely_b34 o 0 s9
set_option maxHeartbeats 4000000 in
theorem ct_X1_likely (l : Launch) (G : GM) (a : Nat → Nat) (o : Nat) (s : ST) (rv : Int32) (sf : ST) (hf : f_X1_likely o s = some (rv, sf)) : MD l G yX1_likely (ws_ yX1_likely cX1_likely 7 (some .int)) 124 [.ref (a o)] a s (some (.int rv)) sf := by
  refine md_of (d := 124) (lv := [(0, .ref (a o))]) (Or.inl (by decide)) (Nat.le_of_ble_eq_true rfl) rfl ?_
  intro p e s0 m args below meth c ls A P hP hC hr hnm hW hl
  have hx := hC.1
  have hb := hC.2.1
  have hts := hC.2.2.2.2.1
  have B96 : ∀ (K40 : Nat → Int64 → Int32 → Int32 → ST → Option (Int32 × ST)) (hK40 : ∀ (r0 : Nat) (y1 : Int64) (x3 : Int32) (x4 : Int32) (s : ST), K40 r0 y1 x3 x4 s = some (rv, sf) → ∀ (H : Heap) (locs : List Loc) (ls : Array Slot), lv_has ls 7 [(0, .ref (a r0)), (1, .long y1), (3, .int x3), (4, .int x4)] → AW G a A s s0.heap H locs → WB p l e (rmD 124) s0 m args below meth c H locs G A P 40 ls []), ∀ (r0 : Nat) (y1 : Int64) (x3 : Int32) (x4 : Int32) (s : ST), f_X1_likely_b96 K40 r0 y1 x3 x4 s = some (rv, sf) → ∀ (H : Heap) (locs : List Loc) (ls : Array Slot), lv_has ls 7 [(0, .ref (a r0)), (1, .long y1), (3, .int x3), (4, .int x4)] → AW G a A s s0.heap H locs → WB p l e (rmD 124) s0 m args below meth c H locs G A P 96 ls [] := by
    intro K40 hK40 r0 y1 x3 x4 s hf H locs ls hl hW
    unfold f_X1_likely_b96 at hf
    obtain ⟨v96, ev96, hf⟩ := bnd_some hf
    refine lv_iinc (v := v96) (lv' := [(4, .int v96), (0, .ref (a r0)), (1, .long y1), (3, .int x3)]) hx hb dX1_likely_96 hl (k := 3) rfl (by rw [ev96]; rfl) (by decide) rfl (fun ls hl => ?_)
    refine lv_goto (tgt := 40) hx hb dX1_likely_99 (by decide) ?_
    exact hK40 r0 y1 x3 v96 s hf _ _ _ (lv_sub hl [1, 2, 3, 0] rfl) hW
  have B78 : ∀ (K40 : Nat → Int64 → Int32 → Int32 → ST → Option (Int32 × ST)) (hK40 : ∀ (r0 : Nat) (y1 : Int64) (x3 : Int32) (x4 : Int32) (s : ST), K40 r0 y1 x3 x4 s = some (rv, sf) → ∀ (H : Heap) (locs : List Loc) (ls : Array Slot), lv_has ls 7 [(0, .ref (a r0)), (1, .long y1), (3, .int x3), (4, .int x4)] → AW G a A s s0.heap H locs → WB p l e (rmD 124) s0 m args below meth c H locs G A P 40 ls []), ∀ (r0 : Nat) (y1 : Int64) (x3 : Int32) (x4 : Int32) (u0 : Int64) (s : ST), f_X1_likely_b78 K40 r0 y1 x3 x4 u0 s = some (rv, sf) → ∀ (H : Heap) (locs : List Loc) (ls : Array Slot), lv_has ls 7 [(0, .ref (a r0)), (1, .long y1), (3, .int x3), (4, .int x4)] → AW G a A s s0.heap H locs → WB p l e (rmD 124) s0 m args below meth c H locs G A P 78 ls [.long u0] := by
    intro K40 hK40 r0 y1 x3 x4 u0 s hf H locs ls hl hW
    unfold f_X1_likely_b78 at hf
    refine lv_lstore (lv' := [(5, .long u0), (0, .ref (a r0)), (1, .long y1), (3, .int x3), (4, .int x4)]) hx hb dX1_likely_78 hl (by decide) rfl (fun ls hl => ?_)
    refine lv_lload hx hb dX1_likely_80 (lv_at hl 0 rfl) ?_
    refine lv_lload_n hx hb dX1_likely_82 rfl (lv_at hl 2 rfl) ?_
    refine W.lcmp hx hb dX1_likely_83 ?_
    refine lv_if_gt (tgt := 90) hx hb dX1_likely_84 (by decide) (fun c84 => ?_) (fun c84 => ?_)
    · have hf := ifp c84 hf
      refine lv_iload hx hb dX1_likely_90 (lv_at hl 4 rfl) ?_
      refine lv_istore_n (lv' := [(3, .int x4), (5, .long u0), (0, .ref (a r0)), (1, .long y1), (4, .int x4)]) hx hb dX1_likely_92 rfl hl (by decide) rfl (fun ls hl => ?_)
      refine lv_lload hx hb dX1_likely_93 (lv_at hl 1 rfl) ?_
      refine lv_lstore_n (lv' := [(1, .long u0), (3, .int x4), (5, .long u0), (0, .ref (a r0)), (4, .int x4)]) hx hb dX1_likely_95 rfl hl (by decide) rfl (fun ls hl => ?_)
      exact B96 K40 hK40 r0 u0 x4 x4 s hf _ _ _ (lv_sub hl [3, 0, 1, 4] rfl) hW
    · have hf := ifn c84 hf
      refine lv_goto (tgt := 96) hx hb dX1_likely_87 (by decide) ?_
      exact B96 K40 hK40 r0 y1 x3 x4 s hf _ _ _ (lv_sub hl [1, 2, 3, 4] rfl) hW
  have B40 : ∀ (n : Nat), ∀ (r0 : Nat) (y1 : Int64) (x3 : Int32) (x4 : Int32) (s : ST), f_X1_likely_b40 n r0 y1 x3 x4 s = some (rv, sf) → ∀ (H : Heap) (locs : List Loc) (ls : Array Slot), lv_has ls 7 [(0, .ref (a r0)), (1, .long y1), (3, .int x3), (4, .int x4)] → AW G a A s s0.heap H locs → WB p l e (rmD 124) s0 m args below meth c H locs G A P 40 ls [] := by
    intro n
    induction n with
    | zero => intro r0 y1 x3 x4 s hf; cases hf
    | succ n ih =>
      intro r0 y1 x3 x4 s hf H locs ls hl hW
      rw [f_X1_likely_b40] at hf
      refine lv_iload hx hb dX1_likely_40 (lv_at hl 3 rfl) ?_
      refine lv_aload_n hx hb dX1_likely_42 rfl (lv_at hl 0 rfl) ?_
      obtain ⟨g43, hf⟩ := gd_some hf
      refine aw_gI hC hW g43 fl_X1_157 rfl dX1_likely_43 ?_
      refine lv_icmp_ge (tgt := 102) hx hb dX1_likely_46 (by decide) (fun c46 => ?_) (fun c46 => ?_)
      · have hf := ifp c46 hf
        refine lv_aload_n hx hb dX1_likely_102 rfl (lv_at hl 0 rfl) ?_
        refine lv_iconst (v := 0) hx hb dX1_likely_103 (by decide) ?_
        obtain ⟨s104, e104, hf⟩ := bnd_some hf
        refine aw_pI e104 hC hW g43 fl_X1_154 (Or.inl fn_0_12) rfl rfl rfl dX1_likely_104 (fun H locs hW => ?_)
        have g43 := ko_pI e104 g43
        refine lv_aload_n hx hb dX1_likely_107 rfl (lv_at hl 0 rfl) ?_
        refine lv_lload_n hx hb dX1_likely_108 rfl (lv_at hl 1 rfl) ?_
        refine lv_ldc2 (v := 100000000) hx hb hC.2.2.2.1 (hts _ q1255) dX1_likely_109 ?_
        obtain ⟨_, s112, h112, hf⟩ := ob_some hf
        refine aw_dV0 (r := r0) (As := [.long y1, .long 100000000]) (rest := []) (ct_X1_tellPart l G a r0 y1 100000000 s104 () s112 h112) hC hW hl.1 vy_X1_tellPart (Or.inl q1257) g43 rfl rfl rfl rfl (Nat.le_of_ble_eq_true rfl) ⟨Nat.le_of_ble_eq_true rfl, Nat.le_of_ble_eq_true rfl⟩ ⟨Nat.le_of_ble_eq_true rfl, Nat.le_of_ble_eq_true rfl⟩ dX1_likely_112 (fun H locs hW => ?_)
        refine lv_iload_n hx hb dX1_likely_115 rfl (lv_at hl 2 rfl) ?_
        obtain ⟨e1, e2⟩ := so_inj hf
        exact aw_iret hC hW hr rfl (p_eq hP (congrArg (fun z => some (Value.int z)) e1) e2) (Nat.le_of_ble_eq_true rfl) (Nat.le_of_ble_eq_true rfl) dX1_likely_116
      · have hf := ifn c46 hf
        refine lv_iload hx hb dX1_likely_49 (lv_at hl 3 rfl) ?_
        refine lv_aload_n hx hb dX1_likely_51 rfl (lv_at hl 0 rfl) ?_
        obtain ⟨q52, hq52, hf⟩ := bi_some hf
        refine aw_gR hC hW g43 fl_X1_18 rfl hq52 dX1_likely_52 ?_
        obtain ⟨g55, hf⟩ := gd_some hf
        refine aw_gI hC hW g55 fl_X1_315 rfl dX1_likely_55 ?_
        refine lv_icmp_ne (tgt := 71) hx hb dX1_likely_58 (by decide) (fun c58 => ?_) (fun c58 => ?_)
        · have hf := ifn c58 hf
          refine lv_aload_n hx hb dX1_likely_71 rfl (lv_at hl 0 rfl) ?_
          obtain ⟨q72, hq72, hf⟩ := bi_some hf
          refine aw_gR hC hW g43 fl_X1_142 rfl hq72 dX1_likely_72 ?_
          refine lv_iload hx hb dX1_likely_75 (lv_at hl 3 rfl) ?_
          obtain ⟨g77, hf⟩ := gd_some hf
          refine aw_lald hC hW g77 dX1_likely_77 ?_
          exact B78 (f_X1_likely_b40 n) ih r0 y1 x3 x4 (gl s q72 (x4 : Int32).toNatClampNeg) s hf _ _ _ (lv_sub hl [0, 1, 2, 3] rfl) hW
        · have hf := ifp c58 hf
          refine lv_aload_n hx hb dX1_likely_61 rfl (lv_at hl 0 rfl) ?_
          obtain ⟨q62, hq62, hf⟩ := bi_some hf
          refine aw_gR hC hW g43 fl_X1_142 rfl hq62 dX1_likely_62 ?_
          refine lv_bipush (v := 8) hx hb dX1_likely_65 (by decide) ?_
          obtain ⟨g67, hf⟩ := gd_some hf
          refine aw_lald hC hW g67 dX1_likely_67 ?_
          refine lv_goto (tgt := 78) hx hb dX1_likely_68 (by decide) ?_
          exact B78 (f_X1_likely_b40 n) ih r0 y1 x3 x4 (gl s q62 (8 : Int32).toNatClampNeg) s hf _ _ _ (lv_sub hl [0, 1, 2, 3] rfl) hW
  have B34 : ∀ (r0 : Nat) (u0 : Int64) (s : ST), f_X1_likely_b34 r0 u0 s = some (rv, sf) → ∀ (H : Heap) (locs : List Loc) (ls : Array Slot), lv_has ls 7 [(0, .ref (a r0))] → AW G a A s s0.heap H locs → WB p l e (rmD 124) s0 m args below meth c H locs G A P 34 ls [.long u0] := by
    intro r0 u0 s hf H locs ls hl hW
    unfold f_X1_likely_b34 at hf
    refine lv_lstore_n (lv' := [(1, .long u0), (0, .ref (a r0))]) hx hb dX1_likely_34 rfl hl (by decide) rfl (fun ls hl => ?_)
    refine lv_iconst (v := (-1)) hx hb dX1_likely_35 (by decide) ?_
    refine lv_istore_n (lv' := [(3, .int (-1)), (1, .long u0), (0, .ref (a r0))]) hx hb dX1_likely_36 rfl hl (by decide) rfl (fun ls hl => ?_)
    refine lv_iconst (v := 0) hx hb dX1_likely_37 (by decide) ?_
    refine lv_istore (lv' := [(4, .int 0), (3, .int (-1)), (1, .long u0), (0, .ref (a r0))]) hx hb dX1_likely_38 hl (by decide) rfl (fun ls hl => ?_)
    exact B40 fuel r0 u0 (-1) 0 s hf _ _ _ (lv_sub hl [3, 2, 1, 0] rfl) hW
  unfold f_X1_likely at hf
  refine lv_aload_n hx hb dX1_likely_0 rfl (lv_at hl 0 rfl) ?_
  refine lv_aload_n hx hb dX1_likely_1 rfl (lv_at hl 0 rfl) ?_
  obtain ⟨g2, hf⟩ := gd_some hf
  obtain ⟨q2, hq2, hf⟩ := bi_some hf
  refine aw_gR hC hW g2 fl_X1_18 rfl hq2 dX1_likely_2 ?_
  refine lv_aload_n hx hb dX1_likely_5 rfl (lv_at hl 0 rfl) ?_
  obtain ⟨q6, hq6, hf⟩ := bi_some hf
  refine aw_gR hC hW g2 fl_X1_142 rfl hq6 dX1_likely_6 ?_
  obtain ⟨_, s9, h9, hf⟩ := ob_some hf
  refine aw_dV0 (r := o) (As := [.ref (a q2), .ref (a q6)]) (rest := []) (ct_X1_findLikely l G a o q2 q6 s () s9 h9) hC hW hl.1 vy_X1_findLikely (Or.inl q1247) g2 rfl rfl rfl rfl (Nat.le_of_ble_eq_true rfl) ⟨Nat.le_of_ble_eq_true rfl, Nat.le_of_ble_eq_true rfl⟩ ⟨Nat.le_of_ble_eq_true rfl, Nat.le_of_ble_eq_true rfl⟩ dX1_likely_9 (fun H locs hW => ?_)
  refine lv_aload_n hx hb dX1_likely_12 rfl (lv_at hl 0 rfl) ?_
  obtain ⟨g13, hf⟩ := gd_some hf
  obtain ⟨q13, hq13, hf⟩ := bi_some hf
  refine aw_gR hC hW g13 fl_X1_18 rfl hq13 dX1_likely_13 ?_
  obtain ⟨g16, hf⟩ := gd_some hf
  refine aw_gI hC hW g16 fl_X1_315 rfl dX1_likely_16 ?_
  refine lv_iconst (v := (-1)) hx hb dX1_likely_19 (by decide) ?_
  refine lv_icmp_ne (tgt := 33) hx hb dX1_likely_20 (by decide) (fun c20 => ?_) (fun c20 => ?_)
  · have hf := ifn c20 hf
    refine lv_lconst (v := 0) hx hb dX1_likely_33 (by decide) ?_
    exact B34 o 0 s9 hf _ _ _ (lv_sub hl [0] rfl) hW
  · have hf := ifp c20 hf
    refine lv_aload_n hx hb dX1_likely_23 rfl (lv_at hl 0 rfl) ?_
    obtain ⟨q24, hq24, hf⟩ := bi_some hf
    refine aw_gR hC hW g13 fl_X1_142 rfl hq24 dX1_likely_24 ?_
    refine lv_bipush (v := 8) hx hb dX1_likely_27 (by decide) ?_
    obtain ⟨g29, hf⟩ := gd_some hf
    refine aw_lald hC hW g29 dX1_likely_29 ?_
    refine lv_goto (tgt := 34) hx hb dX1_likely_30 (by decide) ?_
    exact B34 o (gl s9 q24 (8 : Int32).toNatClampNeg) s9 hf _ _ _ (lv_sub hl [0] rfl) hW
def f_X1_oddsOf_b138 (F : Nat → Int32 → Int32 → Int32 → ST → Option (Int64 × ST)) (K58 : Nat → Int32 → Int32 → Int32 → Nat → Nat → Int64 → Int32 → ST → Option (Int64 × ST)) (r0 : Nat) (x1 : Int32) (x2 : Int32) (x3 : Int32) (r4 : Nat) (r5 : Nat) (y6 : Int64) (x8 : Int32) (s : ST) : Option (Int64 × ST) :=
  bnd (x8 + 1 : Int32) fun v138 =>
  K58 r0 x1 x2 x3 r4 r5 y6 v138 s
def f_X1_oddsOf_b113 (F : Nat → Int32 → Int32 → Int32 → ST → Option (Int64 × ST)) (K58 : Nat → Int32 → Int32 → Int32 → Nat → Nat → Int64 → Int32 → ST → Option (Int64 × ST)) (r0 : Nat) (x1 : Int32) (x2 : Int32) (x3 : Int32) (r4 : Nat) (r5 : Nat) (y6 : Int64) (x8 : Int32) (t0 : Int32) (w1 : Nat) (w2 : Nat) (s : ST) : Option (Int64 × ST) :=
  gd (w2 < s.1 ∧ (kd s w2).1 = 1) <|
  ob (f_X1_comeTo w2 w1 t0 s) fun _ s113 =>
  gd (r5 < s113.1 ∧ (kd s113 r5).1 = 104 ∧ ¬ ((x8 : Int32) < 0 ∨ (kd s113 r5).2 ≤ (x8 : Int32).toNatClampNeg)) <|
  gd (r0 < s113.1 ∧ (kd s113 r0).1 = 1) <|
  ob (F r0 x1 (x2 + 1) (x3 - 1) s113) fun v131 s131 =>
  bnd ((y6 + ((gl s113 r5 (x8 : Int32).toNatClampNeg) * v131)) : Int64) fun v136 =>
  f_X1_oddsOf_b138 F K58 r0 x1 x2 x3 r4 r5 v136 x8 s131
def f_X1_oddsOf_b58 (F : Nat → Int32 → Int32 → Int32 → ST → Option (Int64 × ST))  : Nat → Nat → Int32 → Int32 → Int32 → Nat → Nat → Int64 → Int32 → ST → Option (Int64 × ST)
  | 0, _, _, _, _, _, _, _, _, _ => none
  | n + 1, r0, x1, x2, x3, r4, r5, y6, x8, s =>
  if 8 < x8 then (some (y6, s)) else gd (r5 < s.1 ∧ (kd s r5).1 = 104 ∧ ¬ ((x8 : Int32) < 0 ∨ (kd s r5).2 ≤ (x8 : Int32).toNatClampNeg)) <|
  if (lg_cmp (gl s r5 (x8 : Int32).toNatClampNeg) 0) = 0 then (f_X1_oddsOf_b138 F (f_X1_oddsOf_b58 F n) r0 x1 x2 x3 r4 r5 y6 x8 s) else gd (r0 < s.1 ∧ (kd s r0).1 = 1) <|
  (gr s r0 36).bind fun q79 =>
  gd (q79 < s.1 ∧ (kd s q79).1 = 106 ∧ ¬ (((x2 + 1) : Int32) < 0 ∨ (kd s q79).2 ≤ ((x2 + 1) : Int32).toNatClampNeg)) <|
  (gr s q79 ((x2 + 1) : Int32).toNatClampNeg).bind fun q85 =>
  gd (q85 < s.1 ∧ (kd s q85).1 = 2) <|
  ob (f_X2_be q85 r4 s) fun _ s88 =>
  gd (r0 < s88.1 ∧ (kd s88 r0).1 = 1) <|
  (gr s88 r0 36).bind fun q93 =>
  gd (q93 < s88.1 ∧ (kd s88 q93).1 = 106 ∧ ¬ (((x2 + 1) : Int32) < 0 ∨ (kd s88 q93).2 ≤ ((x2 + 1) : Int32).toNatClampNeg)) <|
  (gr s88 q93 ((x2 + 1) : Int32).toNatClampNeg).bind fun q99 =>
  if x8 = 8 then (f_X1_oddsOf_b113 F (f_X1_oddsOf_b58 F n) r0 x1 x2 x3 r4 r5 y6 x8 (-1) q99 r0 s88) else f_X1_oddsOf_b113 F (f_X1_oddsOf_b58 F n) r0 x1 x2 x3 r4 r5 y6 x8 x8 q99 r0 s88
def f_X1_oddsOf_b42 (F : Nat → Int32 → Int32 → Int32 → ST → Option (Int64 × ST))  (r0 : Nat) (x1 : Int32) (x2 : Int32) (x3 : Int32) (r4 : Nat) (w0 : Nat) (s : ST) : Option (Int64 × ST) :=
  gd (r0 < s.1 ∧ (kd s r0).1 = 1) <|
  ob (f_X1_findLikely r0 r4 w0 s) fun _ s49 =>
  f_X1_oddsOf_b58 F fuel r0 x1 x2 x3 r4 w0 0 0 s49
def f_X1_oddsOf_r (F : Nat → Int32 → Int32 → Int32 → ST → Option (Int64 × ST)) (o : Nat) (x1 : Int32) (x2 : Int32) (x3 : Int32) (s : ST) : Option (Int64 × ST) :=
  gd (o < s.1 ∧ (kd s o).1 = 1) <|
  (gr s o 36).bind fun q1 =>
  gd (q1 < s.1 ∧ (kd s q1).1 = 106 ∧ ¬ ((x2 : Int32) < 0 ∨ (kd s q1).2 ≤ (x2 : Int32).toNatClampNeg)) <|
  (gr s q1 (x2 : Int32).toNatClampNeg).bind fun q5 =>
  if x3 = 0 then (gd (q5 < s.1 ∧ (kd s q5).1 = 2) <|
  if (gi s q5 7) = x1 then (some (1, s)) else some (0, s)) else if x2 = 0 then ((gr s o 37).bind fun q32 =>
  f_X1_oddsOf_b42 F o x1 x2 x3 q5 q32 s) else (gr s o 38).bind fun q39 =>
  f_X1_oddsOf_b42 F o x1 x2 x3 q5 q39 s
def f_X1_oddsOf : Nat → Nat → Int32 → Int32 → Int32 → ST → Option (Int64 × ST)
  | 0, _, _, _, _, _ => none
  | d + 1, o, x1, x2, x3, s => f_X1_oddsOf_r (f_X1_oddsOf d) o x1 x2 x3 s
set_option maxHeartbeats 4000000 in
theorem ct_X1_oddsOf (l : Launch) (G : GM) (a : Nat → Nat) (d : Nat) (o : Nat) (x1 : Int32) (x2 : Int32) (x3 : Int32) (s : ST) (rv : Int64) (sf : ST) (hf : f_X1_oddsOf d o x1 x2 x3 s = some (rv, sf)) : MD l G yX1_oddsOf (ws_ yX1_oddsOf cX1_oddsOf 9 (some .long)) (124 + d) [.ref (a o), .int x1, .int x2, .int x3] a s (some (.long rv)) sf := by
  induction d generalizing o x1 x2 x3 s rv sf with
  | zero => cases hf
  | succ d ih0 =>
    have hF := ih0
    generalize hFe : f_X1_oddsOf d = F at hF
    have hf : f_X1_oddsOf_r F o x1 x2 x3 s = some (rv, sf) := by rw [← hFe]; exact hf
    refine md_of (d := _) (lv := [(0, .ref (a o)), (1, .int x1), (2, .int x2), (3, .int x3)]) (Or.inl (by decide)) (Nat.le_of_ble_eq_true rfl) rfl ?_
    intro p e s0 m args below meth c ls A P hP hC hr hnm hW hl
    have hx := hC.1
    have hb := hC.2.1
    have hts := hC.2.2.2.2.1
    have B138 : ∀ (K58 : Nat → Int32 → Int32 → Int32 → Nat → Nat → Int64 → Int32 → ST → Option (Int64 × ST)) (hK58 : ∀ (r0 : Nat) (x1 : Int32) (x2 : Int32) (x3 : Int32) (r4 : Nat) (r5 : Nat) (y6 : Int64) (x8 : Int32) (s : ST), K58 r0 x1 x2 x3 r4 r5 y6 x8 s = some (rv, sf) → ∀ (H : Heap) (locs : List Loc) (ls : Array Slot), lv_has ls 9 [(0, .ref (a r0)), (1, .int x1), (2, .int x2), (3, .int x3), (4, .ref (a r4)), (5, .ref (a r5)), (6, .long y6), (8, .int x8)] → AW G a A s s0.heap H locs → WB p l e (rmD (124 + (d + 1))) s0 m args below meth c H locs G A P 58 ls []), ∀ (r0 : Nat) (x1 : Int32) (x2 : Int32) (x3 : Int32) (r4 : Nat) (r5 : Nat) (y6 : Int64) (x8 : Int32) (s : ST), f_X1_oddsOf_b138 F K58 r0 x1 x2 x3 r4 r5 y6 x8 s = some (rv, sf) → ∀ (H : Heap) (locs : List Loc) (ls : Array Slot), lv_has ls 9 [(0, .ref (a r0)), (1, .int x1), (2, .int x2), (3, .int x3), (4, .ref (a r4)), (5, .ref (a r5)), (6, .long y6), (8, .int x8)] → AW G a A s s0.heap H locs → WB p l e (rmD (124 + (d + 1))) s0 m args below meth c H locs G A P 138 ls [] := by
      intro K58 hK58 r0 x1 x2 x3 r4 r5 y6 x8 s hf H locs ls hl hW
      unfold f_X1_oddsOf_b138 at hf
      obtain ⟨v138, ev138, hf⟩ := bnd_some hf
      refine lv_iinc (v := v138) (lv' := [(8, .int v138), (0, .ref (a r0)), (1, .int x1), (2, .int x2), (3, .int x3), (4, .ref (a r4)), (5, .ref (a r5)), (6, .long y6)]) hx hb dX1_oddsOf_138 hl (k := 7) rfl (by rw [ev138]; rfl) (by decide) rfl (fun ls hl => ?_)
      refine lv_goto (tgt := 58) hx hb dX1_oddsOf_141 (by decide) ?_
      exact hK58 r0 x1 x2 x3 r4 r5 y6 v138 s hf _ _ _ (lv_sub hl [1, 2, 3, 4, 5, 6, 7, 0] rfl) hW
    have B113 : ∀ (K58 : Nat → Int32 → Int32 → Int32 → Nat → Nat → Int64 → Int32 → ST → Option (Int64 × ST)) (hK58 : ∀ (r0 : Nat) (x1 : Int32) (x2 : Int32) (x3 : Int32) (r4 : Nat) (r5 : Nat) (y6 : Int64) (x8 : Int32) (s : ST), K58 r0 x1 x2 x3 r4 r5 y6 x8 s = some (rv, sf) → ∀ (H : Heap) (locs : List Loc) (ls : Array Slot), lv_has ls 9 [(0, .ref (a r0)), (1, .int x1), (2, .int x2), (3, .int x3), (4, .ref (a r4)), (5, .ref (a r5)), (6, .long y6), (8, .int x8)] → AW G a A s s0.heap H locs → WB p l e (rmD (124 + (d + 1))) s0 m args below meth c H locs G A P 58 ls []), ∀ (r0 : Nat) (x1 : Int32) (x2 : Int32) (x3 : Int32) (r4 : Nat) (r5 : Nat) (y6 : Int64) (x8 : Int32) (t0 : Int32) (w1 : Nat) (w2 : Nat) (s : ST), f_X1_oddsOf_b113 F K58 r0 x1 x2 x3 r4 r5 y6 x8 t0 w1 w2 s = some (rv, sf) → ∀ (H : Heap) (locs : List Loc) (ls : Array Slot), lv_has ls 9 [(0, .ref (a r0)), (1, .int x1), (2, .int x2), (3, .int x3), (4, .ref (a r4)), (5, .ref (a r5)), (6, .long y6), (8, .int x8)] → AW G a A s s0.heap H locs → WB p l e (rmD (124 + (d + 1))) s0 m args below meth c H locs G A P 113 ls [.int t0, .ref (a w1), .ref (a w2)] := by
      intro K58 hK58 r0 x1 x2 x3 r4 r5 y6 x8 t0 w1 w2 s hf H locs ls hl hW
      unfold f_X1_oddsOf_b113 at hf
      obtain ⟨g113, hf⟩ := gd_some hf
      obtain ⟨_, s113, h113, hf⟩ := ob_some hf
      refine aw_dV0 (r := w2) (As := [.ref (a w1), .int t0]) (rest := []) (ct_X1_comeTo l G a w2 w1 t0 s () s113 h113) hC hW hl.1 vy_X1_comeTo (Or.inl q1001) g113 rfl rfl rfl rfl (Nat.le_of_ble_eq_true rfl) ⟨(by show 2 + 1 ≤ (124 + (d + 1)); omega), (by show 8 + (4 + 11) + 40 * 2 ≤ 40 * (124 + (d + 1)); omega)⟩ ⟨Nat.le_of_ble_eq_true rfl, Nat.le_of_ble_eq_true rfl⟩ dX1_oddsOf_113 (fun H locs hW => ?_)
      refine lv_lload hx hb dX1_oddsOf_116 (lv_at hl 6 rfl) ?_
      refine lv_aload hx hb dX1_oddsOf_118 (lv_at hl 5 rfl) ?_
      refine lv_iload hx hb dX1_oddsOf_120 (lv_at hl 7 rfl) ?_
      obtain ⟨g122, hf⟩ := gd_some hf
      refine aw_lald hC hW g122 dX1_oddsOf_122 ?_
      refine lv_aload_n hx hb dX1_oddsOf_123 rfl (lv_at hl 0 rfl) ?_
      refine lv_iload_n hx hb dX1_oddsOf_124 rfl (lv_at hl 1 rfl) ?_
      refine lv_iload_n hx hb dX1_oddsOf_125 rfl (lv_at hl 2 rfl) ?_
      refine lv_iconst (v := 1) hx hb dX1_oddsOf_126 (by decide) ?_
      refine lv_iadd hx hb dX1_oddsOf_127 ?_
      refine lv_iload_n hx hb dX1_oddsOf_128 rfl (lv_at hl 3 rfl) ?_
      refine lv_iconst (v := 1) hx hb dX1_oddsOf_129 (by decide) ?_
      refine lv_isub hx hb dX1_oddsOf_130 ?_
      obtain ⟨g131, hf⟩ := gd_some hf
      obtain ⟨v131, s131, h131, hf⟩ := ob_some hf
      refine aw_dV1 (r := r0) (As := [.int x1, .int (x2 + 1), .int (x3 - 1)]) (rest := [.long (gl s113 r5 (x8 : Int32).toNatClampNeg), .long y6]) (hF r0 x1 (x2 + 1) (x3 - 1) s113 v131 s131 h131) hC hW hl.1 vy_X1_oddsOf (Or.inl q1243) g131 rfl rfl rfl rfl (Nat.le_of_ble_eq_true rfl) ⟨(by show (124 + d) + 1 ≤ (124 + (d + 1)); omega), (by show 8 + (9 + 11) + 40 * (124 + d) ≤ 40 * (124 + (d + 1)); omega)⟩ ⟨Nat.le_of_ble_eq_true rfl, Nat.le_of_ble_eq_true rfl⟩ dX1_oddsOf_131 (fun H locs hW => ?_)
      refine lv_lmul hx hb dX1_oddsOf_134 ?_
      refine lv_ladd hx hb dX1_oddsOf_135 ?_
      obtain ⟨v136, ev136, hf⟩ := bnd_some hf
      refine top_l ev136 ?_
      refine lv_lstore (lv' := [(6, .long v136), (0, .ref (a r0)), (1, .int x1), (2, .int x2), (3, .int x3), (4, .ref (a r4)), (5, .ref (a r5)), (8, .int x8)]) hx hb dX1_oddsOf_136 hl (by decide) rfl (fun ls hl => ?_)
      exact B138 K58 hK58 r0 x1 x2 x3 r4 r5 v136 x8 s131 hf _ _ _ (lv_sub hl [1, 2, 3, 4, 5, 6, 0, 7] rfl) hW
    have B58 : ∀ (n : Nat), ∀ (r0 : Nat) (x1 : Int32) (x2 : Int32) (x3 : Int32) (r4 : Nat) (r5 : Nat) (y6 : Int64) (x8 : Int32) (s : ST), f_X1_oddsOf_b58 F n r0 x1 x2 x3 r4 r5 y6 x8 s = some (rv, sf) → ∀ (H : Heap) (locs : List Loc) (ls : Array Slot), lv_has ls 9 [(0, .ref (a r0)), (1, .int x1), (2, .int x2), (3, .int x3), (4, .ref (a r4)), (5, .ref (a r5)), (6, .long y6), (8, .int x8)] → AW G a A s s0.heap H locs → WB p l e (rmD (124 + (d + 1))) s0 m args below meth c H locs G A P 58 ls [] := by
      intro n
      induction n with
      | zero => intro r0 x1 x2 x3 r4 r5 y6 x8 s hf; cases hf
      | succ n ih =>
        intro r0 x1 x2 x3 r4 r5 y6 x8 s hf H locs ls hl hW
        rw [f_X1_oddsOf_b58] at hf
        refine lv_iload hx hb dX1_oddsOf_58 (lv_at hl 7 rfl) ?_
        refine lv_bipush (v := 8) hx hb dX1_oddsOf_60 (by decide) ?_
        refine lv_icmp_gt (tgt := 144) hx hb dX1_oddsOf_62 (by decide) (fun c62 => ?_) (fun c62 => ?_)
        · have hf := ifp c62 hf
          refine lv_lload hx hb dX1_oddsOf_144 (lv_at hl 6 rfl) ?_
          obtain ⟨e1, e2⟩ := so_inj hf
          exact aw_lret hC hW hr (p_eq hP (congrArg (fun z => some (Value.long z)) e1) e2) (Nat.le_refl _) (Nat.le_refl _) dX1_oddsOf_146
        · have hf := ifn c62 hf
          refine lv_aload hx hb dX1_oddsOf_65 (lv_at hl 5 rfl) ?_
          refine lv_iload hx hb dX1_oddsOf_67 (lv_at hl 7 rfl) ?_
          obtain ⟨g69, hf⟩ := gd_some hf
          refine aw_lald hC hW g69 dX1_oddsOf_69 ?_
          refine lv_lconst (v := 0) hx hb dX1_oddsOf_70 (by decide) ?_
          refine W.lcmp hx hb dX1_oddsOf_71 ?_
          refine lv_if_ne (tgt := 78) hx hb dX1_oddsOf_72 (by decide) (fun c72 => ?_) (fun c72 => ?_)
          · have hf := ifn c72 hf
            refine lv_aload_n hx hb dX1_oddsOf_78 rfl (lv_at hl 0 rfl) ?_
            obtain ⟨g79, hf⟩ := gd_some hf
            obtain ⟨q79, hq79, hf⟩ := bi_some hf
            refine aw_gR hC hW g79 fl_X1_139 rfl hq79 dX1_oddsOf_79 ?_
            refine lv_iload_n hx hb dX1_oddsOf_82 rfl (lv_at hl 2 rfl) ?_
            refine lv_iconst (v := 1) hx hb dX1_oddsOf_83 (by decide) ?_
            refine lv_iadd hx hb dX1_oddsOf_84 ?_
            obtain ⟨g85, hf⟩ := gd_some hf
            obtain ⟨q85, hq85, hf⟩ := bi_some hf
            refine aw_aald (j := 1) hC hW (by decide) g85 hq85 dX1_oddsOf_85 ?_
            refine lv_aload hx hb dX1_oddsOf_86 (lv_at hl 4 rfl) ?_
            obtain ⟨g88, hf⟩ := gd_some hf
            obtain ⟨_, s88, h88, hf⟩ := ob_some hf
            refine aw_dV0 (r := q85) (As := [.ref (a r4)]) (rest := []) (ct_X2_be l G a q85 r4 s () s88 h88) hC hW hl.1 vy_X2_be (Or.inl q917) g88 rfl rfl rfl rfl (Nat.le_of_ble_eq_true rfl) ⟨(by show 1 + 1 ≤ (124 + (d + 1)); omega), (by show 8 + (2 + 11) + 40 * 1 ≤ 40 * (124 + (d + 1)); omega)⟩ ⟨Nat.le_of_ble_eq_true rfl, Nat.le_of_ble_eq_true rfl⟩ dX1_oddsOf_88 (fun H locs hW => ?_)
            refine lv_aload_n hx hb dX1_oddsOf_91 rfl (lv_at hl 0 rfl) ?_
            refine lv_aload_n hx hb dX1_oddsOf_92 rfl (lv_at hl 0 rfl) ?_
            obtain ⟨g93, hf⟩ := gd_some hf
            obtain ⟨q93, hq93, hf⟩ := bi_some hf
            refine aw_gR hC hW g93 fl_X1_139 rfl hq93 dX1_oddsOf_93 ?_
            refine lv_iload_n hx hb dX1_oddsOf_96 rfl (lv_at hl 2 rfl) ?_
            refine lv_iconst (v := 1) hx hb dX1_oddsOf_97 (by decide) ?_
            refine lv_iadd hx hb dX1_oddsOf_98 ?_
            obtain ⟨g99, hf⟩ := gd_some hf
            obtain ⟨q99, hq99, hf⟩ := bi_some hf
            refine aw_aald (j := 1) hC hW (by decide) g99 hq99 dX1_oddsOf_99 ?_
            refine lv_iload hx hb dX1_oddsOf_100 (lv_at hl 7 rfl) ?_
            refine lv_bipush (v := 8) hx hb dX1_oddsOf_102 (by decide) ?_
            refine lv_icmp_ne (tgt := 111) hx hb dX1_oddsOf_104 (by decide) (fun c104 => ?_) (fun c104 => ?_)
            · have hf := ifn c104 hf
              refine lv_iload hx hb dX1_oddsOf_111 (lv_at hl 7 rfl) ?_
              exact B113 (f_X1_oddsOf_b58 F n) ih r0 x1 x2 x3 r4 r5 y6 x8 x8 q99 r0 s88 hf _ _ _ (lv_sub hl [0, 1, 2, 3, 4, 5, 6, 7] rfl) hW
            · have hf := ifp c104 hf
              refine lv_iconst (v := (-1)) hx hb dX1_oddsOf_107 (by decide) ?_
              refine lv_goto (tgt := 113) hx hb dX1_oddsOf_108 (by decide) ?_
              exact B113 (f_X1_oddsOf_b58 F n) ih r0 x1 x2 x3 r4 r5 y6 x8 (-1) q99 r0 s88 hf _ _ _ (lv_sub hl [0, 1, 2, 3, 4, 5, 6, 7] rfl) hW
          · have hf := ifp c72 hf
            refine lv_goto (tgt := 138) hx hb dX1_oddsOf_75 (by decide) ?_
            exact B138 (f_X1_oddsOf_b58 F n) ih r0 x1 x2 x3 r4 r5 y6 x8 s hf _ _ _ (lv_sub hl [0, 1, 2, 3, 4, 5, 6, 7] rfl) hW
    have B42 : ∀ (r0 : Nat) (x1 : Int32) (x2 : Int32) (x3 : Int32) (r4 : Nat) (w0 : Nat) (s : ST), f_X1_oddsOf_b42 F r0 x1 x2 x3 r4 w0 s = some (rv, sf) → ∀ (H : Heap) (locs : List Loc) (ls : Array Slot), lv_has ls 9 [(0, .ref (a r0)), (1, .int x1), (2, .int x2), (3, .int x3), (4, .ref (a r4))] → AW G a A s s0.heap H locs → WB p l e (rmD (124 + (d + 1))) s0 m args below meth c H locs G A P 42 ls [.ref (a w0)] := by
      intro r0 x1 x2 x3 r4 w0 s hf H locs ls hl hW
      unfold f_X1_oddsOf_b42 at hf
      refine lv_astore (lv' := [(5, .ref (a w0)), (0, .ref (a r0)), (1, .int x1), (2, .int x2), (3, .int x3), (4, .ref (a r4))]) hx hb dX1_oddsOf_42 hl (by decide) rfl (fun ls hl => ?_)
      refine lv_aload_n hx hb dX1_oddsOf_44 rfl (lv_at hl 1 rfl) ?_
      refine lv_aload hx hb dX1_oddsOf_45 (lv_at hl 5 rfl) ?_
      refine lv_aload hx hb dX1_oddsOf_47 (lv_at hl 0 rfl) ?_
      obtain ⟨g49, hf⟩ := gd_some hf
      obtain ⟨_, s49, h49, hf⟩ := ob_some hf
      refine aw_dV0 (r := r0) (As := [.ref (a r4), .ref (a w0)]) (rest := []) (ct_X1_findLikely l G a r0 r4 w0 s () s49 h49) hC hW hl.1 vy_X1_findLikely (Or.inl q1247) g49 rfl rfl rfl rfl (Nat.le_of_ble_eq_true rfl) ⟨(by show 123 + 1 ≤ (124 + (d + 1)); omega), (by show 8 + (10 + 11) + 40 * 123 ≤ 40 * (124 + (d + 1)); omega)⟩ ⟨Nat.le_of_ble_eq_true rfl, Nat.le_of_ble_eq_true rfl⟩ dX1_oddsOf_49 (fun H locs hW => ?_)
      refine lv_lconst (v := 0) hx hb dX1_oddsOf_52 (by decide) ?_
      refine lv_lstore (lv' := [(6, .long 0), (5, .ref (a w0)), (0, .ref (a r0)), (1, .int x1), (2, .int x2), (3, .int x3), (4, .ref (a r4))]) hx hb dX1_oddsOf_53 hl (by decide) rfl (fun ls hl => ?_)
      refine lv_iconst (v := 0) hx hb dX1_oddsOf_55 (by decide) ?_
      refine lv_istore (lv' := [(8, .int 0), (6, .long 0), (5, .ref (a w0)), (0, .ref (a r0)), (1, .int x1), (2, .int x2), (3, .int x3), (4, .ref (a r4))]) hx hb dX1_oddsOf_56 hl (by decide) rfl (fun ls hl => ?_)
      exact B58 fuel r0 x1 x2 x3 r4 w0 0 0 s49 hf _ _ _ (lv_sub hl [3, 4, 5, 6, 7, 2, 1, 0] rfl) hW
    unfold f_X1_oddsOf_r at hf
    refine lv_aload_n hx hb dX1_oddsOf_0 rfl (lv_at hl 0 rfl) ?_
    obtain ⟨g1, hf⟩ := gd_some hf
    obtain ⟨q1, hq1, hf⟩ := bi_some hf
    refine aw_gR hC hW g1 fl_X1_139 rfl hq1 dX1_oddsOf_1 ?_
    refine lv_iload_n hx hb dX1_oddsOf_4 rfl (lv_at hl 2 rfl) ?_
    obtain ⟨g5, hf⟩ := gd_some hf
    obtain ⟨q5, hq5, hf⟩ := bi_some hf
    refine aw_aald (j := 1) hC hW (by decide) g5 hq5 dX1_oddsOf_5 ?_
    refine lv_astore (lv' := [(4, .ref (a q5)), (0, .ref (a o)), (1, .int x1), (2, .int x2), (3, .int x3)]) hx hb dX1_oddsOf_6 hl (by decide) rfl (fun ls hl => ?_)
    refine lv_iload_n hx hb dX1_oddsOf_8 rfl (lv_at hl 4 rfl) ?_
    refine lv_if_ne (tgt := 27) hx hb dX1_oddsOf_9 (by decide) (fun c9 => ?_) (fun c9 => ?_)
    · have hf := ifn c9 hf
      refine lv_iload_n hx hb dX1_oddsOf_27 rfl (lv_at hl 3 rfl) ?_
      refine lv_if_ne (tgt := 38) hx hb dX1_oddsOf_28 (by decide) (fun c28 => ?_) (fun c28 => ?_)
      · have hf := ifn c28 hf
        refine lv_aload_n hx hb dX1_oddsOf_38 rfl (lv_at hl 1 rfl) ?_
        obtain ⟨q39, hq39, hf⟩ := bi_some hf
        refine aw_gR hC hW g1 fl_X1_145 rfl hq39 dX1_oddsOf_39 ?_
        exact B42 o x1 x2 x3 q5 q39 s hf _ _ _ (lv_sub hl [1, 2, 3, 4, 0] rfl) hW
      · have hf := ifp c28 hf
        refine lv_aload_n hx hb dX1_oddsOf_31 rfl (lv_at hl 1 rfl) ?_
        obtain ⟨q32, hq32, hf⟩ := bi_some hf
        refine aw_gR hC hW g1 fl_X1_142 rfl hq32 dX1_oddsOf_32 ?_
        refine lv_goto (tgt := 42) hx hb dX1_oddsOf_35 (by decide) ?_
        exact B42 o x1 x2 x3 q5 q32 s hf _ _ _ (lv_sub hl [1, 2, 3, 4, 0] rfl) hW
    · have hf := ifp c9 hf
      refine lv_aload hx hb dX1_oddsOf_12 (lv_at hl 0 rfl) ?_
      obtain ⟨g14, hf⟩ := gd_some hf
      refine aw_gI hC hW g14 fl_X1_315 rfl dX1_oddsOf_14 ?_
      refine lv_iload_n hx hb dX1_oddsOf_17 rfl (lv_at hl 2 rfl) ?_
      refine lv_icmp_ne (tgt := 25) hx hb dX1_oddsOf_18 (by decide) (fun c18 => ?_) (fun c18 => ?_)
      · have hf := ifn c18 hf
        refine lv_lconst (v := 0) hx hb dX1_oddsOf_25 (by decide) ?_
        obtain ⟨e1, e2⟩ := so_inj hf
        exact aw_lret hC hW hr (p_eq hP (congrArg (fun z => some (Value.long z)) e1) e2) (Nat.le_refl _) (Nat.le_refl _) dX1_oddsOf_26
      · have hf := ifp c18 hf
        refine lv_lconst (v := 1) hx hb dX1_oddsOf_21 (by decide) ?_
        refine lv_goto (tgt := 26) hx hb dX1_oddsOf_22 (by decide) ?_
        obtain ⟨e1, e2⟩ := so_inj hf
        exact aw_lret hC hW hr (p_eq hP (congrArg (fun z => some (Value.long z)) e1) e2) (Nat.le_refl _) (Nat.le_refl _) dX1_oddsOf_26
def f_X1_odds_b72 (u0 : Int64) (u1 : Int64) (w2 : Nat) (s : ST) : Option (Int32 × ST) :=
  gd (w2 < s.1 ∧ (kd s w2).1 = 1) <|
  ob (f_X1_tellPart w2 u1 u0 s) fun _ s72 =>
  some (0, s72)
def f_X1_odds (o : Nat) (x1 : Int32) (x2 : Int32) (s : ST) : Option (Int32 × ST) :=
  gd (o < s.1 ∧ (kd s o).1 = 1) <|
  ob (f_X1_isOne o x1 s) fun v2 s2 =>
  if v2 = 0 then (some ((-1), s2)) else bnd (p_in ((x2 : Int32).toInt64) 0 2) fun v14 =>
  if v14 = 0 then (some ((-1), s2)) else gd (o < s2.1 ∧ (kd s2 o).1 = 1) <|
  (gr s2 o 36).bind fun q23 =>
  gd (q23 < s2.1 ∧ (kd s2 q23).1 = 106 ∧ ¬ ((0 : Int32) < 0 ∨ (kd s2 q23).2 ≤ (0 : Int32).toNatClampNeg)) <|
  (gr s2 q23 (0 : Int32).toNatClampNeg).bind fun q27 =>
  (gr s2 o 1).bind fun q29 =>
  gd (q27 < s2.1 ∧ (kd s2 q27).1 = 2) <|
  ob (f_X2_be q27 q29 s2) fun _ s32 =>
  gd (o < s32.1 ∧ (kd s32 o).1 = 1) <|
  ob (f_X1_oddsOf 4 o x1 0 x2 s32) fun v39 s39 =>
  gd (o < s39.1 ∧ (kd s39 o).1 = 1) <|
  bnd (pI s39 o 12 0) fun s45 =>
  if x2 = 0 then (f_X1_odds_b72 1 v39 o s45) else if x2 = 1 then (f_X1_odds_b72 100000000 v39 o s45) else f_X1_odds_b72 10000000000000000 v39 o s45
set_option maxHeartbeats 4000000 in
theorem ct_X1_odds (l : Launch) (G : GM) (a : Nat → Nat) (o : Nat) (x1 : Int32) (x2 : Int32) (s : ST) (rv : Int32) (sf : ST) (hf : f_X1_odds o x1 x2 s = some (rv, sf)) : MD l G yX1_odds (ws_ yX1_odds cX1_odds 5 (some .int)) 129 [.ref (a o), .int x1, .int x2] a s (some (.int rv)) sf := by
  refine md_of (d := 129) (lv := [(0, .ref (a o)), (1, .int x1), (2, .int x2)]) (Or.inl (by decide)) (Nat.le_of_ble_eq_true rfl) rfl ?_
  intro p e s0 m args below meth c ls A P hP hC hr hnm hW hl
  have hx := hC.1
  have hb := hC.2.1
  have hts := hC.2.2.2.2.1
  have B72 : ∀ (u0 : Int64) (u1 : Int64) (w2 : Nat) (s : ST), f_X1_odds_b72 u0 u1 w2 s = some (rv, sf) → ∀ (H : Heap) (locs : List Loc) (ls : Array Slot), lv_has ls 5 [] → AW G a A s s0.heap H locs → WB p l e (rmD 129) s0 m args below meth c H locs G A P 72 ls [.long u0, .long u1, .ref (a w2)] := by
    intro u0 u1 w2 s hf H locs ls hl hW
    unfold f_X1_odds_b72 at hf
    obtain ⟨g72, hf⟩ := gd_some hf
    obtain ⟨_, s72, h72, hf⟩ := ob_some hf
    refine aw_dV0 (r := w2) (As := [.long u1, .long u0]) (rest := []) (ct_X1_tellPart l G a w2 u1 u0 s () s72 h72) hC hW hl.1 vy_X1_tellPart (Or.inl q1257) g72 rfl rfl rfl rfl (Nat.le_of_ble_eq_true rfl) ⟨Nat.le_of_ble_eq_true rfl, Nat.le_of_ble_eq_true rfl⟩ ⟨Nat.le_of_ble_eq_true rfl, Nat.le_of_ble_eq_true rfl⟩ dX1_odds_72 (fun H locs hW => ?_)
    refine lv_iconst (v := 0) hx hb dX1_odds_75 (by decide) ?_
    obtain ⟨e1, e2⟩ := so_inj hf
    exact aw_iret hC hW hr rfl (p_eq hP (congrArg (fun z => some (Value.int z)) e1) e2) (Nat.le_of_ble_eq_true rfl) (Nat.le_of_ble_eq_true rfl) dX1_odds_76
  unfold f_X1_odds at hf
  refine lv_aload_n hx hb dX1_odds_0 rfl (lv_at hl 0 rfl) ?_
  refine lv_iload_n hx hb dX1_odds_1 rfl (lv_at hl 1 rfl) ?_
  obtain ⟨g2, hf⟩ := gd_some hf
  obtain ⟨v2, s2, h2, hf⟩ := ob_some hf
  refine aw_dV1 (r := o) (As := [.int x1]) (rest := []) (ct_X1_isOne l G a o x1 s v2 s2 h2) hC hW hl.1 vy_X1_isOne (Or.inl q848) g2 rfl rfl rfl rfl (Nat.le_of_ble_eq_true rfl) ⟨Nat.le_of_ble_eq_true rfl, Nat.le_of_ble_eq_true rfl⟩ ⟨Nat.le_of_ble_eq_true rfl, Nat.le_of_ble_eq_true rfl⟩ dX1_odds_2 (fun H locs hW => ?_)
  refine lv_if_eq (tgt := 20) hx hb dX1_odds_5 (by decide) (fun c5 => ?_) (fun c5 => ?_)
  · have hf := ifp c5 hf
    refine lv_iconst (v := (-1)) hx hb dX1_odds_20 (by decide) ?_
    obtain ⟨e1, e2⟩ := so_inj hf
    exact aw_iret hC hW hr rfl (p_eq hP (congrArg (fun z => some (Value.int z)) e1) e2) (Nat.le_of_ble_eq_true rfl) (Nat.le_of_ble_eq_true rfl) dX1_odds_21
  · have hf := ifn c5 hf
    refine lv_iload_n hx hb dX1_odds_8 rfl (lv_at hl 2 rfl) ?_
    refine lv_i2l (v := (x2 : Int32).toInt64) hx hb dX1_odds_9 rfl ?_
    refine lv_lconst (v := 0) hx hb dX1_odds_10 (by decide) ?_
    refine lv_ldc2 (v := 2) hx hb hC.2.2.2.1 (hts _ q1242) dX1_odds_11 ?_
    obtain ⟨v14, ev14, hf⟩ := bnd_some hf
    refine aw_dS1 (As := [.long ((x2 : Int32).toInt64), .long 0, .long 2]) (rest := []) (pc_X1_in l G a ((x2 : Int32).toInt64) 0 2 s2) hC hW hl.1 sy_X1_in (Or.inl q514) rfl rfl (Nat.le_of_ble_eq_true rfl) ⟨Nat.le_of_ble_eq_true rfl, Nat.le_of_ble_eq_true rfl⟩ ⟨Nat.le_of_ble_eq_true rfl, Nat.le_of_ble_eq_true rfl⟩ dX1_odds_14 (fun H locs hW => ?_)
    refine top_i ev14 ?_
    refine lv_if_ne (tgt := 22) hx hb dX1_odds_17 (by decide) (fun c17 => ?_) (fun c17 => ?_)
    · have hf := ifn c17 hf
      refine lv_aload_n hx hb dX1_odds_22 rfl (lv_at hl 0 rfl) ?_
      obtain ⟨g23, hf⟩ := gd_some hf
      obtain ⟨q23, hq23, hf⟩ := bi_some hf
      refine aw_gR hC hW g23 fl_X1_139 rfl hq23 dX1_odds_23 ?_
      refine lv_iconst (v := 0) hx hb dX1_odds_26 (by decide) ?_
      obtain ⟨g27, hf⟩ := gd_some hf
      obtain ⟨q27, hq27, hf⟩ := bi_some hf
      refine aw_aald (j := 1) hC hW (by decide) g27 hq27 dX1_odds_27 ?_
      refine lv_aload_n hx hb dX1_odds_28 rfl (lv_at hl 0 rfl) ?_
      obtain ⟨q29, hq29, hf⟩ := bi_some hf
      refine aw_gR hC hW g23 fl_X1_18 rfl hq29 dX1_odds_29 ?_
      obtain ⟨g32, hf⟩ := gd_some hf
      obtain ⟨_, s32, h32, hf⟩ := ob_some hf
      refine aw_dV0 (r := q27) (As := [.ref (a q29)]) (rest := []) (ct_X2_be l G a q27 q29 s2 () s32 h32) hC hW hl.1 vy_X2_be (Or.inl q917) g32 rfl rfl rfl rfl (Nat.le_of_ble_eq_true rfl) ⟨Nat.le_of_ble_eq_true rfl, Nat.le_of_ble_eq_true rfl⟩ ⟨Nat.le_of_ble_eq_true rfl, Nat.le_of_ble_eq_true rfl⟩ dX1_odds_32 (fun H locs hW => ?_)
      refine lv_aload_n hx hb dX1_odds_35 rfl (lv_at hl 0 rfl) ?_
      refine lv_iload_n hx hb dX1_odds_36 rfl (lv_at hl 1 rfl) ?_
      refine lv_iconst (v := 0) hx hb dX1_odds_37 (by decide) ?_
      refine lv_iload_n hx hb dX1_odds_38 rfl (lv_at hl 2 rfl) ?_
      obtain ⟨g39, hf⟩ := gd_some hf
      obtain ⟨v39, s39, h39, hf⟩ := ob_some hf
      refine aw_dV1 (r := o) (As := [.int x1, .int 0, .int x2]) (rest := []) (ct_X1_oddsOf l G a 4 o x1 0 x2 s32 v39 s39 h39) hC hW hl.1 vy_X1_oddsOf (Or.inl q1243) g39 rfl rfl rfl rfl (Nat.le_of_ble_eq_true rfl) ⟨Nat.le_of_ble_eq_true rfl, Nat.le_of_ble_eq_true rfl⟩ ⟨Nat.le_of_ble_eq_true rfl, Nat.le_of_ble_eq_true rfl⟩ dX1_odds_39 (fun H locs hW => ?_)
      refine lv_lstore_n (lv' := [(3, .long v39), (0, .ref (a o)), (1, .int x1), (2, .int x2)]) hx hb dX1_odds_42 rfl hl (by decide) rfl (fun ls hl => ?_)
      refine lv_aload_n hx hb dX1_odds_43 rfl (lv_at hl 1 rfl) ?_
      refine lv_iconst (v := 0) hx hb dX1_odds_44 (by decide) ?_
      obtain ⟨g45, hf⟩ := gd_some hf
      obtain ⟨s45, e45, hf⟩ := bnd_some hf
      refine aw_pI e45 hC hW g45 fl_X1_154 (Or.inl fn_0_12) rfl rfl rfl dX1_odds_45 (fun H locs hW => ?_)
      have g45 := ko_pI e45 g45
      refine lv_aload_n hx hb dX1_odds_48 rfl (lv_at hl 1 rfl) ?_
      refine lv_lload_n hx hb dX1_odds_49 rfl (lv_at hl 0 rfl) ?_
      refine lv_iload_n hx hb dX1_odds_50 rfl (lv_at hl 3 rfl) ?_
      refine lv_if_ne (tgt := 58) hx hb dX1_odds_51 (by decide) (fun c51 => ?_) (fun c51 => ?_)
      · have hf := ifn c51 hf
        refine lv_iload_n hx hb dX1_odds_58 rfl (lv_at hl 3 rfl) ?_
        refine lv_iconst (v := 1) hx hb dX1_odds_59 (by decide) ?_
        refine lv_icmp_ne (tgt := 69) hx hb dX1_odds_60 (by decide) (fun c60 => ?_) (fun c60 => ?_)
        · have hf := ifn c60 hf
          refine lv_ldc2 (v := 10000000000000000) hx hb hC.2.2.2.1 (hts _ q1256) dX1_odds_69 ?_
          exact B72 10000000000000000 v39 o s45 hf _ _ _ (lv_sub hl [] rfl) hW
        · have hf := ifp c60 hf
          refine lv_ldc2 (v := 100000000) hx hb hC.2.2.2.1 (hts _ q1255) dX1_odds_63 ?_
          refine lv_goto (tgt := 72) hx hb dX1_odds_66 (by decide) ?_
          exact B72 100000000 v39 o s45 hf _ _ _ (lv_sub hl [] rfl) hW
      · have hf := ifp c51 hf
        refine lv_lconst (v := 1) hx hb dX1_odds_54 (by decide) ?_
        refine lv_goto (tgt := 72) hx hb dX1_odds_55 (by decide) ?_
        exact B72 1 v39 o s45 hf _ _ _ (lv_sub hl [] rfl) hW
    · have hf := ifp c17 hf
      refine lv_iconst (v := (-1)) hx hb dX1_odds_20 (by decide) ?_
      obtain ⟨e1, e2⟩ := so_inj hf
      exact aw_iret hC hW hr rfl (p_eq hP (congrArg (fun z => some (Value.int z)) e1) e2) (Nat.le_of_ble_eq_true rfl) (Nat.le_of_ble_eq_true rfl) dX1_odds_21
def f_X17_read (o : Nat) (s : ST) : Option (Nat × ST) :=
  gd (o < s.1 ∧ (kd s o).1 = 17) <|
  ob (f_X17_held o 0 s) fun v2 s2 =>
  gd (o < s2.1 ∧ (kd s2 o).1 = 17) <|
  ob (f_X15_needEndw o s2) fun _ s7 =>
  some (o, s7)
set_option maxHeartbeats 4000000 in
theorem ct_X17_read (l : Launch) (G : GM) (a : Nat → Nat) (o : Nat) (s : ST) (rv : Nat) (sf : ST) (hf : f_X17_read o s = some (rv, sf)) : MD l G yX17_read (ws_ yX17_read cX17_read 1 (some (.object "HeavierServes$Will"))) 121 [.ref (a o)] a s (some (.ref (a rv))) sf := by
  refine md_of (d := 121) (lv := [(0, .ref (a o))]) (Or.inl (by decide)) (Nat.le_of_ble_eq_true rfl) rfl ?_
  intro p e s0 m args below meth c ls A P hP hC hr hnm hW hl
  have hx := hC.1
  have hb := hC.2.1
  have hts := hC.2.2.2.2.1
  unfold f_X17_read at hf
  refine lv_aload_n hx hb dX17_read_0 rfl (lv_at hl 0 rfl) ?_
  refine lv_iconst (v := 0) hx hb dX17_read_1 (by decide) ?_
  obtain ⟨g2, hf⟩ := gd_some hf
  obtain ⟨v2, s2, h2, hf⟩ := ob_some hf
  refine aw_dV1 (r := o) (As := [.int 0]) (rest := []) (ct_X17_held l G a o 0 s v2 s2 h2) hC hW hl.1 vy_X17_held (Or.inl q702) g2 rfl rfl rfl rfl (Nat.le_of_ble_eq_true rfl) ⟨Nat.le_of_ble_eq_true rfl, Nat.le_of_ble_eq_true rfl⟩ ⟨Nat.le_of_ble_eq_true rfl, Nat.le_of_ble_eq_true rfl⟩ dX17_read_2 (fun H locs hW => ?_)
  refine lv_pop hx hb dX17_read_5 rfl ?_
  refine lv_aload_n hx hb dX17_read_6 rfl (lv_at hl 0 rfl) ?_
  obtain ⟨g7, hf⟩ := gd_some hf
  obtain ⟨_, s7, h7, hf⟩ := ob_some hf
  refine aw_dU0 (r := o) (As := []) (rest := []) (ct_X15_needEndw l G a o s2 () s7 h7) hC hW hl.1 uy_X17_X17_X15_needEnd q840 g7 rfl rfl rfl (Nat.le_of_ble_eq_true rfl) ⟨Nat.le_of_ble_eq_true rfl, Nat.le_of_ble_eq_true rfl⟩ ⟨Nat.le_of_ble_eq_true rfl, Nat.le_of_ble_eq_true rfl⟩ dX17_read_7 (fun H locs hW => ?_)
  refine lv_aload_n hx hb dX17_read_10 rfl (lv_at hl 0 rfl) ?_
  obtain ⟨e1, e2⟩ := so_inj hf
  exact aw_aret hC hW hr (Or.inl ⟨_, rfl⟩) (p_eq hP (congrArg (fun z => some (Value.ref (a z))) e1) e2) (Nat.le_of_ble_eq_true rfl) (Nat.le_of_ble_eq_true rfl) dX17_read_11
def f_stands (o t : Nat) (i : Int32) (s : ST) : Option (Int32 × ST) :=
  if o < s.1 ∧ (kd s o).1 = 4 then f_X4_stands o t i s else
  if o < s.1 ∧ (kd s o).1 = 5 then f_X5_stands o t i s else
  if o < s.1 ∧ (kd s o).1 = 6 then f_X6_stands o t i s else
  if o < s.1 ∧ (kd s o).1 = 7 then f_X7_stands o t i s else
  if o < s.1 ∧ (kd s o).1 = 8 then f_X8_stands o t i s else
  if o < s.1 ∧ (kd s o).1 = 9 then f_X9_stands o t i s else
  none
theorem fy_X4_stands : FY yStands yX4_stands cX4_stands 3 (some .boolean) 2 := ⟨List.mem_of_getElem? (i := 0) rfl, q945, q947, q78, q949, by decide +kernel, by decide +kernel, by decide +kernel⟩
theorem fy_X5_stands : FY yStands yX5_stands cX5_stands 3 (some .boolean) 2 := ⟨List.mem_of_getElem? (i := 1) rfl, q984, q986, q79, q988, by decide +kernel, by decide +kernel, by decide +kernel⟩
theorem fy_X6_stands : FY yStands yX6_stands cX6_stands 3 (some .boolean) 2 := ⟨List.mem_of_getElem? (i := 2) rfl, q976, q978, q80, q980, by decide +kernel, by decide +kernel, by decide +kernel⟩
theorem fy_X7_stands : FY yStands yX7_stands cX7_stands 3 (some .boolean) 2 := ⟨List.mem_of_getElem? (i := 3) rfl, q938, q940, q81, q942, by decide +kernel, by decide +kernel, by decide +kernel⟩
theorem fy_X8_stands : FY yStands yX8_stands cX8_stands 3 (some .boolean) 2 := ⟨List.mem_of_getElem? (i := 4) rfl, q960, q962, q82, q964, by decide +kernel, by decide +kernel, by decide +kernel⟩
theorem fy_X9_stands : FY yStands yX9_stands cX9_stands 3 (some .boolean) 2 := ⟨List.mem_of_getElem? (i := 5) rfl, q991, q993, q83, q995, by decide +kernel, by decide +kernel, by decide +kernel⟩
theorem aw_stands {p : Program} {l : Launch} {e : Env} {R : Room} {s0 : State} {m : MethodId} {args : Array Value} {below : List Frame} {meth : Method} {c : Code} {H : Heap} {locs : List Loc} {Q : State → Prop} {cc : ByteArray} {pc nL : Nat} {ls : Array Slot} {rest st0 : List Value} {G : GM} {A : Nat → Prop} {a : Nat → Nat} {s s1 : ST} {own : String} {o t : Nat} {i v : Int32} {index count : Nat}
    (h : f_stands o t i s = some (v, s1)) (hC : CX p s0 m args meth c G A cc own nL) (hW : AW G a A s s0.heap H locs) (hls : ls.size = nL) (hk : Cond.methodLink own index yStands ∈ lw_all) (hst : st0 = .int i :: .ref (a t) :: .ref (a o) :: rest) (hcat : (rest.map fun v => v.category).sum ≤ 8) (hR : 125 ≤ R.frames) (hR2 : 8 + (3 + 11) + 40 * 124 ≤ R.locals) (hdg : decode cc pc = .ok (.invokeinterface index count, 5))
    (kk : ∀ (H : Heap) (locs : List Loc), AW G a A s1 s0.heap H locs → W p l e R s0 m args below meth c H locs 0 0 Q (F0 m (pc + 5) ls (.int v :: rest))) : W p l e R s0 m args below meth c H locs 0 0 Q (F0 m pc ls st0) := by
  unfold f_stands at h
  by_cases g0 : o < s.1 ∧ (kd s o).1 = 4
  · exact aw_dF1 (ci := 3) (q := (RX4, TX4, 1)) (As := [.ref (a t), .int i]) (rest := rest) (ct_X4_stands l G a o t i s v s1 (ifp g0 h)) hC hW hls fy_X4_stands hk g0 rfl rfl rfl hst hcat ⟨by omega, by omega⟩ ⟨Nat.le_of_ble_eq_true rfl, Nat.le_of_ble_eq_true rfl⟩ hdg kk
  have h := ifn g0 h
  by_cases g1 : o < s.1 ∧ (kd s o).1 = 5
  · exact aw_dF1 (ci := 4) (q := (RX5, TX5, 1)) (As := [.ref (a t), .int i]) (rest := rest) (ct_X5_stands l G a o t i s v s1 (ifp g1 h)) hC hW hls fy_X5_stands hk g1 rfl rfl rfl hst hcat ⟨by omega, by omega⟩ ⟨Nat.le_of_ble_eq_true rfl, Nat.le_of_ble_eq_true rfl⟩ hdg kk
  have h := ifn g1 h
  by_cases g2 : o < s.1 ∧ (kd s o).1 = 6
  · exact aw_dF1 (ci := 5) (q := (RX6, TX6, 4)) (As := [.ref (a t), .int i]) (rest := rest) (ct_X6_stands l G a o t i s v s1 (ifp g2 h)) hC hW hls fy_X6_stands hk g2 rfl rfl rfl hst hcat ⟨by omega, by omega⟩ ⟨Nat.le_of_ble_eq_true rfl, Nat.le_of_ble_eq_true rfl⟩ hdg kk
  have h := ifn g2 h
  by_cases g3 : o < s.1 ∧ (kd s o).1 = 7
  · exact aw_dF1 (ci := 6) (q := (RX7, TX7, 2)) (As := [.ref (a t), .int i]) (rest := rest) (ct_X7_stands l G a o t i s v s1 (ifp g3 h)) hC hW hls fy_X7_stands hk g3 rfl rfl rfl hst hcat ⟨by omega, by omega⟩ ⟨Nat.le_of_ble_eq_true rfl, Nat.le_of_ble_eq_true rfl⟩ hdg kk
  have h := ifn g3 h
  by_cases g4 : o < s.1 ∧ (kd s o).1 = 8
  · exact aw_dF1 (ci := 7) (q := (RX8, TX8, 3)) (As := [.ref (a t), .int i]) (rest := rest) (ct_X8_stands l G a o t i s v s1 (ifp g4 h)) hC hW hls fy_X8_stands hk g4 rfl rfl rfl hst hcat ⟨by omega, by omega⟩ ⟨Nat.le_of_ble_eq_true rfl, Nat.le_of_ble_eq_true rfl⟩ hdg kk
  have h := ifn g4 h
  by_cases g5 : o < s.1 ∧ (kd s o).1 = 9
  · exact aw_dF1 (ci := 8) (q := (RX9, TX9, 2)) (As := [.ref (a t), .int i]) (rest := rest) (ct_X9_stands l G a o t i s v s1 (ifp g5 h)) hC hW hls fy_X9_stands hk g5 rfl rfl rfl hst hcat ⟨by omega, by omega⟩ ⟨Nat.le_of_ble_eq_true rfl, Nat.le_of_ble_eq_true rfl⟩ hdg kk
  have h := ifn g5 h
  cases h
def f_X1_heir_b82 (K5 : Nat → Nat → Nat → Int32 → Int32 → ST → Option (Int32 × ST)) (r0 : Nat) (r1 : Nat) (r2 : Nat) (x3 : Int32) (x4 : Int32) (s : ST) : Option (Int32 × ST) :=
  bnd (x4 + 1 : Int32) fun v82 =>
  K5 r0 r1 r2 x3 v82 s
def f_X1_heir_b79 (K5 : Nat → Nat → Nat → Int32 → Int32 → ST → Option (Int32 × ST)) (r0 : Nat) (r1 : Nat) (r2 : Nat) (x4 : Int32) (s : ST) : Option (Int32 × ST) :=
  f_X1_heir_b82 K5 r0 r1 r2 x4 x4 s
def f_X1_heir_b5 : Nat → Nat → Nat → Nat → Int32 → Int32 → ST → Option (Int32 × ST)
  | 0, _, _, _, _, _, _ => none
  | n + 1, r0, r1, r2, x3, x4, s =>
  gd (r0 < s.1 ∧ (kd s r0).1 = 1) <|
  if (gi s r0 4) ≤ x4 then (if x3 = (-1) then (some (x3, s)) else gd (r1 < s.1 ∧ (kd s r1).1 = 2) <|
  if (gi s r1 7) = (-1) then (some (x3, s)) else (gr s r1 0).bind fun q105 =>
  gd (q105 < s.1 ∧ (kd s q105).1 = 100 ∧ ¬ ((x3 : Int32) < 0 ∨ (kd s q105).2 ≤ (x3 : Int32).toNatClampNeg)) <|
  ob (f_X1_shows r0 (gi s q105 (x3 : Int32).toNatClampNeg) s) fun v110 s110 =>
  gd (r1 < s110.1 ∧ (kd s110 r1).1 = 2) <|
  (gr s110 r1 0).bind fun q115 =>
  gd (q115 < s110.1 ∧ (kd s110 q115).1 = 100 ∧ ¬ (((gi s110 r1 7) : Int32) < 0 ∨ (kd s110 q115).2 ≤ ((gi s110 r1 7) : Int32).toNatClampNeg)) <|
  gd (r0 < s110.1 ∧ (kd s110 r0).1 = 1) <|
  ob (f_X1_shows r0 (gi s110 q115 ((gi s110 r1 7) : Int32).toNatClampNeg) s110) fun v123 s123 =>
  if v110 ≤ v123 then (some ((-1), s123)) else some (x3, s123)) else gd (r1 < s.1 ∧ (kd s r1).1 = 2) <|
  bnd (p_has (gi s r1 6) x4) fun v20 =>
  if v20 = 0 then (f_X1_heir_b82 (f_X1_heir_b5 n) r0 r1 r2 x3 x4 s) else if x4 = (gi s r1 7) then (f_X1_heir_b82 (f_X1_heir_b5 n) r0 r1 r2 x3 x4 s) else ob (f_stands r2 r1 x4 s) fun v39 s39 =>
  if v39 = 0 then (f_X1_heir_b82 (f_X1_heir_b5 n) r0 r1 r2 x3 x4 s39) else if x3 = (-1) then (f_X1_heir_b79 (f_X1_heir_b5 n) r0 r1 r2 x4 s39) else gd (r1 < s39.1 ∧ (kd s39 r1).1 = 2) <|
  (gr s39 r1 0).bind fun q57 =>
  gd (q57 < s39.1 ∧ (kd s39 q57).1 = 100 ∧ ¬ ((x4 : Int32) < 0 ∨ (kd s39 q57).2 ≤ (x4 : Int32).toNatClampNeg)) <|
  gd (r0 < s39.1 ∧ (kd s39 r0).1 = 1) <|
  ob (f_X1_shows r0 (gi s39 q57 (x4 : Int32).toNatClampNeg) s39) fun v63 s63 =>
  gd (r1 < s63.1 ∧ (kd s63 r1).1 = 2) <|
  (gr s63 r1 0).bind fun q68 =>
  gd (q68 < s63.1 ∧ (kd s63 q68).1 = 100 ∧ ¬ ((x3 : Int32) < 0 ∨ (kd s63 q68).2 ≤ (x3 : Int32).toNatClampNeg)) <|
  gd (r0 < s63.1 ∧ (kd s63 r0).1 = 1) <|
  ob (f_X1_shows r0 (gi s63 q68 (x3 : Int32).toNatClampNeg) s63) fun v73 s73 =>
  if v63 ≤ v73 then (f_X1_heir_b82 (f_X1_heir_b5 n) r0 r1 r2 x3 x4 s73) else f_X1_heir_b79 (f_X1_heir_b5 n) r0 r1 r2 x4 s73
def f_X1_heir (o : Nat) (r1 : Nat) (r2 : Nat) (s : ST) : Option (Int32 × ST) :=
  f_X1_heir_b5 fuel o r1 r2 (-1) 0 s
set_option maxHeartbeats 4000000 in
theorem ct_X1_heir (l : Launch) (G : GM) (a : Nat → Nat) (o : Nat) (r1 : Nat) (r2 : Nat) (s : ST) (rv : Int32) (sf : ST) (hf : f_X1_heir o r1 r2 s = some (rv, sf)) : MD l G yX1_heir (ws_ yX1_heir cX1_heir 5 (some .int)) 125 [.ref (a o), .ref (a r1), .ref (a r2)] a s (some (.int rv)) sf := by
  refine md_of (d := 125) (lv := [(0, .ref (a o)), (1, .ref (a r1)), (2, .ref (a r2))]) (Or.inl (by decide)) (Nat.le_of_ble_eq_true rfl) rfl ?_
  intro p e s0 m args below meth c ls A P hP hC hr hnm hW hl
  have hx := hC.1
  have hb := hC.2.1
  have hts := hC.2.2.2.2.1
  have B82 : ∀ (K5 : Nat → Nat → Nat → Int32 → Int32 → ST → Option (Int32 × ST)) (hK5 : ∀ (r0 : Nat) (r1 : Nat) (r2 : Nat) (x3 : Int32) (x4 : Int32) (s : ST), K5 r0 r1 r2 x3 x4 s = some (rv, sf) → ∀ (H : Heap) (locs : List Loc) (ls : Array Slot), lv_has ls 5 [(0, .ref (a r0)), (1, .ref (a r1)), (2, .ref (a r2)), (3, .int x3), (4, .int x4)] → AW G a A s s0.heap H locs → WB p l e (rmD 125) s0 m args below meth c H locs G A P 5 ls []), ∀ (r0 : Nat) (r1 : Nat) (r2 : Nat) (x3 : Int32) (x4 : Int32) (s : ST), f_X1_heir_b82 K5 r0 r1 r2 x3 x4 s = some (rv, sf) → ∀ (H : Heap) (locs : List Loc) (ls : Array Slot), lv_has ls 5 [(0, .ref (a r0)), (1, .ref (a r1)), (2, .ref (a r2)), (3, .int x3), (4, .int x4)] → AW G a A s s0.heap H locs → WB p l e (rmD 125) s0 m args below meth c H locs G A P 82 ls [] := by
    intro K5 hK5 r0 r1 r2 x3 x4 s hf H locs ls hl hW
    unfold f_X1_heir_b82 at hf
    obtain ⟨v82, ev82, hf⟩ := bnd_some hf
    refine lv_iinc (v := v82) (lv' := [(4, .int v82), (0, .ref (a r0)), (1, .ref (a r1)), (2, .ref (a r2)), (3, .int x3)]) hx hb dX1_heir_82 hl (k := 4) rfl (by rw [ev82]; rfl) (by decide) rfl (fun ls hl => ?_)
    refine lv_goto (tgt := 5) hx hb dX1_heir_85 (by decide) ?_
    exact hK5 r0 r1 r2 x3 v82 s hf _ _ _ (lv_sub hl [1, 2, 3, 4, 0] rfl) hW
  have B79 : ∀ (K5 : Nat → Nat → Nat → Int32 → Int32 → ST → Option (Int32 × ST)) (hK5 : ∀ (r0 : Nat) (r1 : Nat) (r2 : Nat) (x3 : Int32) (x4 : Int32) (s : ST), K5 r0 r1 r2 x3 x4 s = some (rv, sf) → ∀ (H : Heap) (locs : List Loc) (ls : Array Slot), lv_has ls 5 [(0, .ref (a r0)), (1, .ref (a r1)), (2, .ref (a r2)), (3, .int x3), (4, .int x4)] → AW G a A s s0.heap H locs → WB p l e (rmD 125) s0 m args below meth c H locs G A P 5 ls []), ∀ (r0 : Nat) (r1 : Nat) (r2 : Nat) (x4 : Int32) (s : ST), f_X1_heir_b79 K5 r0 r1 r2 x4 s = some (rv, sf) → ∀ (H : Heap) (locs : List Loc) (ls : Array Slot), lv_has ls 5 [(0, .ref (a r0)), (1, .ref (a r1)), (2, .ref (a r2)), (4, .int x4)] → AW G a A s s0.heap H locs → WB p l e (rmD 125) s0 m args below meth c H locs G A P 79 ls [] := by
    intro K5 hK5 r0 r1 r2 x4 s hf H locs ls hl hW
    unfold f_X1_heir_b79 at hf
    refine lv_iload hx hb dX1_heir_79 (lv_at hl 3 rfl) ?_
    refine lv_istore_n (lv' := [(3, .int x4), (0, .ref (a r0)), (1, .ref (a r1)), (2, .ref (a r2)), (4, .int x4)]) hx hb dX1_heir_81 rfl hl (by decide) rfl (fun ls hl => ?_)
    exact B82 K5 hK5 r0 r1 r2 x4 x4 s hf _ _ _ (lv_sub hl [1, 2, 3, 0, 4] rfl) hW
  have B5 : ∀ (n : Nat), ∀ (r0 : Nat) (r1 : Nat) (r2 : Nat) (x3 : Int32) (x4 : Int32) (s : ST), f_X1_heir_b5 n r0 r1 r2 x3 x4 s = some (rv, sf) → ∀ (H : Heap) (locs : List Loc) (ls : Array Slot), lv_has ls 5 [(0, .ref (a r0)), (1, .ref (a r1)), (2, .ref (a r2)), (3, .int x3), (4, .int x4)] → AW G a A s s0.heap H locs → WB p l e (rmD 125) s0 m args below meth c H locs G A P 5 ls [] := by
    intro n
    induction n with
    | zero => intro r0 r1 r2 x3 x4 s hf; cases hf
    | succ n ih =>
      intro r0 r1 r2 x3 x4 s hf H locs ls hl hW
      rw [f_X1_heir_b5] at hf
      refine lv_iload hx hb dX1_heir_5 (lv_at hl 4 rfl) ?_
      refine lv_aload_n hx hb dX1_heir_7 rfl (lv_at hl 0 rfl) ?_
      obtain ⟨g8, hf⟩ := gd_some hf
      refine aw_gI hC hW g8 fl_X1_157 rfl dX1_heir_8 ?_
      refine lv_icmp_ge (tgt := 88) hx hb dX1_heir_11 (by decide) (fun c11 => ?_) (fun c11 => ?_)
      · have hf := ifp c11 hf
        refine lv_iload_n hx hb dX1_heir_88 rfl (lv_at hl 3 rfl) ?_
        refine lv_iconst (v := (-1)) hx hb dX1_heir_89 (by decide) ?_
        refine lv_icmp_eq (tgt := 101) hx hb dX1_heir_90 (by decide) (fun c90 => ?_) (fun c90 => ?_)
        · have hf := ifp c90 hf
          refine lv_iload_n hx hb dX1_heir_101 rfl (lv_at hl 3 rfl) ?_
          obtain ⟨e1, e2⟩ := so_inj hf
          exact aw_iret hC hW hr rfl (p_eq hP (congrArg (fun z => some (Value.int z)) e1) e2) (Nat.le_of_ble_eq_true rfl) (Nat.le_of_ble_eq_true rfl) dX1_heir_102
        · have hf := ifn c90 hf
          refine lv_aload_n hx hb dX1_heir_93 rfl (lv_at hl 1 rfl) ?_
          obtain ⟨g94, hf⟩ := gd_some hf
          refine aw_gI hC hW g94 fl_X1_315 rfl dX1_heir_94 ?_
          refine lv_iconst (v := (-1)) hx hb dX1_heir_97 (by decide) ?_
          refine lv_icmp_ne (tgt := 103) hx hb dX1_heir_98 (by decide) (fun c98 => ?_) (fun c98 => ?_)
          · have hf := ifn c98 hf
            refine lv_aload_n hx hb dX1_heir_103 rfl (lv_at hl 0 rfl) ?_
            refine lv_aload_n hx hb dX1_heir_104 rfl (lv_at hl 1 rfl) ?_
            obtain ⟨q105, hq105, hf⟩ := bi_some hf
            refine aw_gR hC hW g94 fl_X1_236 rfl hq105 dX1_heir_105 ?_
            refine lv_iload_n hx hb dX1_heir_108 rfl (lv_at hl 3 rfl) ?_
            obtain ⟨g109, hf⟩ := gd_some hf
            refine aw_iald hC hW g109 dX1_heir_109 ?_
            obtain ⟨v110, s110, h110, hf⟩ := ob_some hf
            refine aw_dV1 (r := r0) (As := [.int (gi s q105 (x3 : Int32).toNatClampNeg)]) (rest := []) (ct_X1_shows l G a r0 (gi s q105 (x3 : Int32).toNatClampNeg) s v110 s110 h110) hC hW hl.1 vy_X1_shows (Or.inl q997) g8 rfl rfl rfl rfl (Nat.le_of_ble_eq_true rfl) ⟨Nat.le_of_ble_eq_true rfl, Nat.le_of_ble_eq_true rfl⟩ ⟨Nat.le_of_ble_eq_true rfl, Nat.le_of_ble_eq_true rfl⟩ dX1_heir_110 (fun H locs hW => ?_)
            refine lv_aload_n hx hb dX1_heir_113 rfl (lv_at hl 0 rfl) ?_
            refine lv_aload_n hx hb dX1_heir_114 rfl (lv_at hl 1 rfl) ?_
            obtain ⟨g115, hf⟩ := gd_some hf
            obtain ⟨q115, hq115, hf⟩ := bi_some hf
            refine aw_gR hC hW g115 fl_X1_236 rfl hq115 dX1_heir_115 ?_
            refine lv_aload_n hx hb dX1_heir_118 rfl (lv_at hl 1 rfl) ?_
            refine aw_gI hC hW g115 fl_X1_315 rfl dX1_heir_119 ?_
            obtain ⟨g122, hf⟩ := gd_some hf
            refine aw_iald hC hW g122 dX1_heir_122 ?_
            obtain ⟨g123, hf⟩ := gd_some hf
            obtain ⟨v123, s123, h123, hf⟩ := ob_some hf
            refine aw_dV1 (r := r0) (As := [.int (gi s110 q115 ((gi s110 r1 7) : Int32).toNatClampNeg)]) (rest := [.int v110]) (ct_X1_shows l G a r0 (gi s110 q115 ((gi s110 r1 7) : Int32).toNatClampNeg) s110 v123 s123 h123) hC hW hl.1 vy_X1_shows (Or.inl q997) g123 rfl rfl rfl rfl (Nat.le_of_ble_eq_true rfl) ⟨Nat.le_of_ble_eq_true rfl, Nat.le_of_ble_eq_true rfl⟩ ⟨Nat.le_of_ble_eq_true rfl, Nat.le_of_ble_eq_true rfl⟩ dX1_heir_123 (fun H locs hW => ?_)
            refine lv_icmp_le (tgt := 133) hx hb dX1_heir_126 (by decide) (fun c126 => ?_) (fun c126 => ?_)
            · have hf := ifp c126 hf
              refine lv_iconst (v := (-1)) hx hb dX1_heir_133 (by decide) ?_
              obtain ⟨e1, e2⟩ := so_inj hf
              exact aw_iret hC hW hr rfl (p_eq hP (congrArg (fun z => some (Value.int z)) e1) e2) (Nat.le_of_ble_eq_true rfl) (Nat.le_of_ble_eq_true rfl) dX1_heir_134
            · have hf := ifn c126 hf
              refine lv_iload_n hx hb dX1_heir_129 rfl (lv_at hl 3 rfl) ?_
              refine lv_goto (tgt := 134) hx hb dX1_heir_130 (by decide) ?_
              obtain ⟨e1, e2⟩ := so_inj hf
              exact aw_iret hC hW hr rfl (p_eq hP (congrArg (fun z => some (Value.int z)) e1) e2) (Nat.le_of_ble_eq_true rfl) (Nat.le_of_ble_eq_true rfl) dX1_heir_134
          · have hf := ifp c98 hf
            refine lv_iload_n hx hb dX1_heir_101 rfl (lv_at hl 3 rfl) ?_
            obtain ⟨e1, e2⟩ := so_inj hf
            exact aw_iret hC hW hr rfl (p_eq hP (congrArg (fun z => some (Value.int z)) e1) e2) (Nat.le_of_ble_eq_true rfl) (Nat.le_of_ble_eq_true rfl) dX1_heir_102
      · have hf := ifn c11 hf
        refine lv_aload_n hx hb dX1_heir_14 rfl (lv_at hl 1 rfl) ?_
        obtain ⟨g15, hf⟩ := gd_some hf
        refine aw_gI hC hW g15 fl_X1_168 rfl dX1_heir_15 ?_
        refine lv_iload hx hb dX1_heir_18 (lv_at hl 4 rfl) ?_
        obtain ⟨v20, ev20, hf⟩ := bnd_some hf
        refine aw_dS1 (As := [.int (gi s r1 6), .int x4]) (rest := []) (pc_X1_has l G a (gi s r1 6) x4 s) hC hW hl.1 sy_X1_has (Or.inl q930) rfl rfl (Nat.le_of_ble_eq_true rfl) ⟨Nat.le_of_ble_eq_true rfl, Nat.le_of_ble_eq_true rfl⟩ ⟨Nat.le_of_ble_eq_true rfl, Nat.le_of_ble_eq_true rfl⟩ dX1_heir_20 (fun H locs hW => ?_)
        refine top_i ev20 ?_
        refine lv_if_eq (tgt := 82) hx hb dX1_heir_23 (by decide) (fun c23 => ?_) (fun c23 => ?_)
        · have hf := ifp c23 hf
          exact B82 (f_X1_heir_b5 n) ih r0 r1 r2 x3 x4 s hf _ _ _ (lv_sub hl [0, 1, 2, 3, 4] rfl) hW
        · have hf := ifn c23 hf
          refine lv_iload hx hb dX1_heir_26 (lv_at hl 4 rfl) ?_
          refine lv_aload_n hx hb dX1_heir_28 rfl (lv_at hl 1 rfl) ?_
          refine aw_gI hC hW g15 fl_X1_315 rfl dX1_heir_29 ?_
          refine lv_icmp_eq (tgt := 82) hx hb dX1_heir_32 (by decide) (fun c32 => ?_) (fun c32 => ?_)
          · have hf := ifp c32 hf
            exact B82 (f_X1_heir_b5 n) ih r0 r1 r2 x3 x4 s hf _ _ _ (lv_sub hl [0, 1, 2, 3, 4] rfl) hW
          · have hf := ifn c32 hf
            refine lv_aload_n hx hb dX1_heir_35 rfl (lv_at hl 2 rfl) ?_
            refine lv_aload_n hx hb dX1_heir_36 rfl (lv_at hl 1 rfl) ?_
            refine lv_iload hx hb dX1_heir_37 (lv_at hl 4 rfl) ?_
            obtain ⟨v39, s39, h39, hf⟩ := ob_some hf
            refine aw_stands (rest := []) h39 hC hW hl.1 q934 rfl (Nat.le_of_ble_eq_true rfl) (Nat.le_of_ble_eq_true rfl) (Nat.le_of_ble_eq_true rfl) dX1_heir_39 (fun H locs hW => ?_)
            refine lv_if_ne (tgt := 50) hx hb dX1_heir_44 (by decide) (fun c44 => ?_) (fun c44 => ?_)
            · have hf := ifn c44 hf
              refine lv_iload_n hx hb dX1_heir_50 rfl (lv_at hl 3 rfl) ?_
              refine lv_iconst (v := (-1)) hx hb dX1_heir_51 (by decide) ?_
              refine lv_icmp_eq (tgt := 79) hx hb dX1_heir_52 (by decide) (fun c52 => ?_) (fun c52 => ?_)
              · have hf := ifp c52 hf
                exact B79 (f_X1_heir_b5 n) ih r0 r1 r2 x4 s39 hf _ _ _ (lv_sub hl [0, 1, 2, 4] rfl) hW
              · have hf := ifn c52 hf
                refine lv_aload_n hx hb dX1_heir_55 rfl (lv_at hl 0 rfl) ?_
                refine lv_aload_n hx hb dX1_heir_56 rfl (lv_at hl 1 rfl) ?_
                obtain ⟨g57, hf⟩ := gd_some hf
                obtain ⟨q57, hq57, hf⟩ := bi_some hf
                refine aw_gR hC hW g57 fl_X1_236 rfl hq57 dX1_heir_57 ?_
                refine lv_iload hx hb dX1_heir_60 (lv_at hl 4 rfl) ?_
                obtain ⟨g62, hf⟩ := gd_some hf
                refine aw_iald hC hW g62 dX1_heir_62 ?_
                obtain ⟨g63, hf⟩ := gd_some hf
                obtain ⟨v63, s63, h63, hf⟩ := ob_some hf
                refine aw_dV1 (r := r0) (As := [.int (gi s39 q57 (x4 : Int32).toNatClampNeg)]) (rest := []) (ct_X1_shows l G a r0 (gi s39 q57 (x4 : Int32).toNatClampNeg) s39 v63 s63 h63) hC hW hl.1 vy_X1_shows (Or.inl q997) g63 rfl rfl rfl rfl (Nat.le_of_ble_eq_true rfl) ⟨Nat.le_of_ble_eq_true rfl, Nat.le_of_ble_eq_true rfl⟩ ⟨Nat.le_of_ble_eq_true rfl, Nat.le_of_ble_eq_true rfl⟩ dX1_heir_63 (fun H locs hW => ?_)
                refine lv_aload_n hx hb dX1_heir_66 rfl (lv_at hl 0 rfl) ?_
                refine lv_aload_n hx hb dX1_heir_67 rfl (lv_at hl 1 rfl) ?_
                obtain ⟨g68, hf⟩ := gd_some hf
                obtain ⟨q68, hq68, hf⟩ := bi_some hf
                refine aw_gR hC hW g68 fl_X1_236 rfl hq68 dX1_heir_68 ?_
                refine lv_iload_n hx hb dX1_heir_71 rfl (lv_at hl 3 rfl) ?_
                obtain ⟨g72, hf⟩ := gd_some hf
                refine aw_iald hC hW g72 dX1_heir_72 ?_
                obtain ⟨g73, hf⟩ := gd_some hf
                obtain ⟨v73, s73, h73, hf⟩ := ob_some hf
                refine aw_dV1 (r := r0) (As := [.int (gi s63 q68 (x3 : Int32).toNatClampNeg)]) (rest := [.int v63]) (ct_X1_shows l G a r0 (gi s63 q68 (x3 : Int32).toNatClampNeg) s63 v73 s73 h73) hC hW hl.1 vy_X1_shows (Or.inl q997) g73 rfl rfl rfl rfl (Nat.le_of_ble_eq_true rfl) ⟨Nat.le_of_ble_eq_true rfl, Nat.le_of_ble_eq_true rfl⟩ ⟨Nat.le_of_ble_eq_true rfl, Nat.le_of_ble_eq_true rfl⟩ dX1_heir_73 (fun H locs hW => ?_)
                refine lv_icmp_le (tgt := 82) hx hb dX1_heir_76 (by decide) (fun c76 => ?_) (fun c76 => ?_)
                · have hf := ifp c76 hf
                  exact B82 (f_X1_heir_b5 n) ih r0 r1 r2 x3 x4 s73 hf _ _ _ (lv_sub hl [0, 1, 2, 3, 4] rfl) hW
                · have hf := ifn c76 hf
                  exact B79 (f_X1_heir_b5 n) ih r0 r1 r2 x4 s73 hf _ _ _ (lv_sub hl [0, 1, 2, 4] rfl) hW
            · have hf := ifp c44 hf
              refine lv_goto (tgt := 82) hx hb dX1_heir_47 (by decide) ?_
              exact B82 (f_X1_heir_b5 n) ih r0 r1 r2 x3 x4 s39 hf _ _ _ (lv_sub hl [0, 1, 2, 3, 4] rfl) hW
  unfold f_X1_heir at hf
  refine lv_iconst (v := (-1)) hx hb dX1_heir_0 (by decide) ?_
  refine lv_istore_n (lv' := [(3, .int (-1)), (0, .ref (a o)), (1, .ref (a r1)), (2, .ref (a r2))]) hx hb dX1_heir_1 rfl hl (by decide) rfl (fun ls hl => ?_)
  refine lv_iconst (v := 0) hx hb dX1_heir_2 (by decide) ?_
  refine lv_istore (lv' := [(4, .int 0), (3, .int (-1)), (0, .ref (a o)), (1, .ref (a r1)), (2, .ref (a r2))]) hx hb dX1_heir_3 hl (by decide) rfl (fun ls hl => ?_)
  exact B5 fuel o r1 r2 (-1) 0 s hf _ _ _ (lv_sub hl [2, 3, 4, 1, 0] rfl) hW
def f_X1_goes (o : Nat) (r1 : Nat) (r2 : Nat) (s : ST) : Option (Unit × ST) :=
  gd (o < s.1 ∧ (kd s o).1 = 1) <|
  ob (f_X1_heir o r1 r2 s) fun v5 s5 =>
  gd (o < s5.1 ∧ (kd s5 o).1 = 1) <|
  ob (f_X1_comeTo o r1 v5 s5) fun _ s8 =>
  some ((), s8)
set_option maxHeartbeats 4000000 in
theorem ct_X1_goes (l : Launch) (G : GM) (a : Nat → Nat) (o : Nat) (r1 : Nat) (r2 : Nat) (s : ST) (rv : Unit) (sf : ST) (hf : f_X1_goes o r1 r2 s = some (rv, sf)) : MD l G yX1_goes (ws_ yX1_goes cX1_goes 3 none) 126 [.ref (a o), .ref (a r1), .ref (a r2)] a s none sf := by
  refine md_of (d := 126) (lv := [(0, .ref (a o)), (1, .ref (a r1)), (2, .ref (a r2))]) (Or.inl (by decide)) (Nat.le_of_ble_eq_true rfl) rfl ?_
  intro p e s0 m args below meth c ls A P hP hC hr hnm hW hl
  have hx := hC.1
  have hb := hC.2.1
  have hts := hC.2.2.2.2.1
  unfold f_X1_goes at hf
  refine lv_aload_n hx hb dX1_goes_0 rfl (lv_at hl 0 rfl) ?_
  refine lv_aload_n hx hb dX1_goes_1 rfl (lv_at hl 1 rfl) ?_
  refine lv_aload_n hx hb dX1_goes_2 rfl (lv_at hl 0 rfl) ?_
  refine lv_aload_n hx hb dX1_goes_3 rfl (lv_at hl 1 rfl) ?_
  refine lv_aload_n hx hb dX1_goes_4 rfl (lv_at hl 2 rfl) ?_
  obtain ⟨g5, hf⟩ := gd_some hf
  obtain ⟨v5, s5, h5, hf⟩ := ob_some hf
  refine aw_dV1 (r := o) (As := [.ref (a r1), .ref (a r2)]) (rest := [.ref (a r1), .ref (a o)]) (ct_X1_heir l G a o r1 r2 s v5 s5 h5) hC hW hl.1 vy_X1_heir (Or.inl q926) g5 rfl rfl rfl rfl (Nat.le_of_ble_eq_true rfl) ⟨Nat.le_of_ble_eq_true rfl, Nat.le_of_ble_eq_true rfl⟩ ⟨Nat.le_of_ble_eq_true rfl, Nat.le_of_ble_eq_true rfl⟩ dX1_goes_5 (fun H locs hW => ?_)
  obtain ⟨g8, hf⟩ := gd_some hf
  obtain ⟨_, s8, h8, hf⟩ := ob_some hf
  refine aw_dV0 (r := o) (As := [.ref (a r1), .int v5]) (rest := []) (ct_X1_comeTo l G a o r1 v5 s5 () s8 h8) hC hW hl.1 vy_X1_comeTo (Or.inl q1001) g8 rfl rfl rfl rfl (Nat.le_of_ble_eq_true rfl) ⟨Nat.le_of_ble_eq_true rfl, Nat.le_of_ble_eq_true rfl⟩ ⟨Nat.le_of_ble_eq_true rfl, Nat.le_of_ble_eq_true rfl⟩ dX1_goes_8 (fun H locs hW => ?_)
  obtain ⟨e1, e2⟩ := so_inj hf
  exact aw_vret hC hW hr (p_eq hP rfl e2) (Nat.le_of_ble_eq_true rfl) (Nat.le_of_ble_eq_true rfl) dX1_goes_11
def f_X1_partiesBy_b70 (K21 : Nat → Int32 → Nat → Int32 → ST → Option (Unit × ST)) (r0 : Nat) (x1 : Int32) (r2 : Nat) (x3 : Int32) (s : ST) : Option (Unit × ST) :=
  bnd (x3 + 1 : Int32) fun v70 =>
  K21 r0 x1 r2 v70 s
def f_X1_partiesBy_b21 : Nat → Nat → Int32 → Nat → Int32 → ST → Option (Unit × ST)
  | 0, _, _, _, _, _ => none
  | n + 1, r0, x1, r2, x3, s =>
  if x1 ≤ x3 then (some ((), s)) else gd (r0 < s.1 ∧ (kd s r0).1 = 1) <|
  (gr s r0 2).bind fun q28 =>
  ob (f_X1_goes r0 q28 r2 s) fun _ s32 =>
  gd (r0 < s32.1 ∧ (kd s32 r0).1 = 1) <|
  (gr s32 r0 2).bind fun q36 =>
  gd (q36 < s32.1 ∧ (kd s32 q36).1 = 2) <|
  if (gi s32 q36 7) = (-1) then (f_X1_partiesBy_b70 (f_X1_partiesBy_b21 n) r0 x1 r2 x3 s32) else (gr s32 r0 24).bind fun q47 =>
  (gr s32 r0 0).bind fun q51 =>
  (gr s32 r0 2).bind fun q55 =>
  gd (q55 < s32.1 ∧ (kd s32 q55).1 = 2) <|
  gd (q51 < s32.1 ∧ (kd s32 q51).1 = 105 ∧ ¬ (((gi s32 q55 7) : Int32) < 0 ∨ (kd s32 q51).2 ≤ ((gi s32 q55 7) : Int32).toNatClampNeg)) <|
  (gr s32 q51 ((gi s32 q55 7) : Int32).toNatClampNeg).bind fun q61 =>
  gd (q61 < s32.1 ∧ (kd s32 q61).1 = 3) <|
  bnd ((gi s32 q61 0) : Int32) fun v65 =>
  gd (q47 < s32.1 ∧ (kd s32 q47).1 = 100 ∧ ¬ ((v65 : Int32) < 0 ∨ (kd s32 q47).2 ≤ (v65 : Int32).toNatClampNeg)) <|
  gd (q47 < s32.1 ∧ (kd s32 q47).1 = 100 ∧ ¬ ((v65 : Int32) < 0 ∨ (kd s32 q47).2 ≤ (v65 : Int32).toNatClampNeg)) <|
  bnd (pI s32 q47 (v65 : Int32).toNatClampNeg ((gi s32 q47 (v65 : Int32).toNatClampNeg) + 1)) fun s69 =>
  f_X1_partiesBy_b70 (f_X1_partiesBy_b21 n) r0 x1 r2 x3 s69
def f_X1_partiesBy (o : Nat) (x1 : Int32) (r2 : Nat) (s : ST) : Option (Unit × ST) :=
  gd (o < s.1 ∧ (kd s o).1 = 1) <|
  (gr s o 24).bind fun q1 =>
  ob (f_J12_fill q1 0 s) fun _ s5 =>
  gd (o < s5.1 ∧ (kd s5 o).1 = 1) <|
  (gr s5 o 2).bind fun q9 =>
  (gr s5 o 1).bind fun q13 =>
  gd (q9 < s5.1 ∧ (kd s5 q9).1 = 2) <|
  ob (f_X2_be q9 q13 s5) fun _ s16 =>
  f_X1_partiesBy_b21 fuel o x1 r2 0 s16
set_option maxHeartbeats 4000000 in
theorem ct_X1_partiesBy (l : Launch) (G : GM) (a : Nat → Nat) (o : Nat) (x1 : Int32) (r2 : Nat) (s : ST) (rv : Unit) (sf : ST) (hf : f_X1_partiesBy o x1 r2 s = some (rv, sf)) : MD l G yX1_partiesBy (ws_ yX1_partiesBy cX1_partiesBy 4 none) 127 [.ref (a o), .int x1, .ref (a r2)] a s none sf := by
  refine md_of (d := 127) (lv := [(0, .ref (a o)), (1, .int x1), (2, .ref (a r2))]) (Or.inl (by decide)) (Nat.le_of_ble_eq_true rfl) rfl ?_
  intro p e s0 m args below meth c ls A P hP hC hr hnm hW hl
  have hx := hC.1
  have hb := hC.2.1
  have hts := hC.2.2.2.2.1
  have B70 : ∀ (K21 : Nat → Int32 → Nat → Int32 → ST → Option (Unit × ST)) (hK21 : ∀ (r0 : Nat) (x1 : Int32) (r2 : Nat) (x3 : Int32) (s : ST), K21 r0 x1 r2 x3 s = some (rv, sf) → ∀ (H : Heap) (locs : List Loc) (ls : Array Slot), lv_has ls 4 [(0, .ref (a r0)), (1, .int x1), (2, .ref (a r2)), (3, .int x3)] → AW G a A s s0.heap H locs → WB p l e (rmD 127) s0 m args below meth c H locs G A P 21 ls []), ∀ (r0 : Nat) (x1 : Int32) (r2 : Nat) (x3 : Int32) (s : ST), f_X1_partiesBy_b70 K21 r0 x1 r2 x3 s = some (rv, sf) → ∀ (H : Heap) (locs : List Loc) (ls : Array Slot), lv_has ls 4 [(0, .ref (a r0)), (1, .int x1), (2, .ref (a r2)), (3, .int x3)] → AW G a A s s0.heap H locs → WB p l e (rmD 127) s0 m args below meth c H locs G A P 70 ls [] := by
    intro K21 hK21 r0 x1 r2 x3 s hf H locs ls hl hW
    unfold f_X1_partiesBy_b70 at hf
    obtain ⟨v70, ev70, hf⟩ := bnd_some hf
    refine lv_iinc (v := v70) (lv' := [(3, .int v70), (0, .ref (a r0)), (1, .int x1), (2, .ref (a r2))]) hx hb dX1_partiesBy_70 hl (k := 3) rfl (by rw [ev70]; rfl) (by decide) rfl (fun ls hl => ?_)
    refine lv_goto (tgt := 21) hx hb dX1_partiesBy_73 (by decide) ?_
    exact hK21 r0 x1 r2 v70 s hf _ _ _ (lv_sub hl [1, 2, 3, 0] rfl) hW
  have B21 : ∀ (n : Nat), ∀ (r0 : Nat) (x1 : Int32) (r2 : Nat) (x3 : Int32) (s : ST), f_X1_partiesBy_b21 n r0 x1 r2 x3 s = some (rv, sf) → ∀ (H : Heap) (locs : List Loc) (ls : Array Slot), lv_has ls 4 [(0, .ref (a r0)), (1, .int x1), (2, .ref (a r2)), (3, .int x3)] → AW G a A s s0.heap H locs → WB p l e (rmD 127) s0 m args below meth c H locs G A P 21 ls [] := by
    intro n
    induction n with
    | zero => intro r0 x1 r2 x3 s hf; cases hf
    | succ n ih =>
      intro r0 x1 r2 x3 s hf H locs ls hl hW
      rw [f_X1_partiesBy_b21] at hf
      refine lv_iload_n hx hb dX1_partiesBy_21 rfl (lv_at hl 3 rfl) ?_
      refine lv_iload_n hx hb dX1_partiesBy_22 rfl (lv_at hl 1 rfl) ?_
      refine lv_icmp_ge (tgt := 76) hx hb dX1_partiesBy_23 (by decide) (fun c23 => ?_) (fun c23 => ?_)
      · have hf := ifp c23 hf
        obtain ⟨e1, e2⟩ := so_inj hf
        exact aw_vret hC hW hr (p_eq hP rfl e2) (Nat.le_of_ble_eq_true rfl) (Nat.le_of_ble_eq_true rfl) dX1_partiesBy_76
      · have hf := ifn c23 hf
        refine lv_aload_n hx hb dX1_partiesBy_26 rfl (lv_at hl 0 rfl) ?_
        refine lv_aload_n hx hb dX1_partiesBy_27 rfl (lv_at hl 0 rfl) ?_
        obtain ⟨g28, hf⟩ := gd_some hf
        obtain ⟨q28, hq28, hf⟩ := bi_some hf
        refine aw_gR hC hW g28 fl_X1_22 rfl hq28 dX1_partiesBy_28 ?_
        refine lv_aload_n hx hb dX1_partiesBy_31 rfl (lv_at hl 2 rfl) ?_
        obtain ⟨_, s32, h32, hf⟩ := ob_some hf
        refine aw_dV0 (r := r0) (As := [.ref (a q28), .ref (a r2)]) (rest := []) (ct_X1_goes l G a r0 q28 r2 s () s32 h32) hC hW hl.1 vy_X1_goes (Or.inl q922) g28 rfl rfl rfl rfl (Nat.le_of_ble_eq_true rfl) ⟨Nat.le_of_ble_eq_true rfl, Nat.le_of_ble_eq_true rfl⟩ ⟨Nat.le_of_ble_eq_true rfl, Nat.le_of_ble_eq_true rfl⟩ dX1_partiesBy_32 (fun H locs hW => ?_)
        refine lv_aload_n hx hb dX1_partiesBy_35 rfl (lv_at hl 0 rfl) ?_
        obtain ⟨g36, hf⟩ := gd_some hf
        obtain ⟨q36, hq36, hf⟩ := bi_some hf
        refine aw_gR hC hW g36 fl_X1_22 rfl hq36 dX1_partiesBy_36 ?_
        obtain ⟨g39, hf⟩ := gd_some hf
        refine aw_gI hC hW g39 fl_X1_315 rfl dX1_partiesBy_39 ?_
        refine lv_iconst (v := (-1)) hx hb dX1_partiesBy_42 (by decide) ?_
        refine lv_icmp_eq (tgt := 70) hx hb dX1_partiesBy_43 (by decide) (fun c43 => ?_) (fun c43 => ?_)
        · have hf := ifp c43 hf
          exact B70 (f_X1_partiesBy_b21 n) ih r0 x1 r2 x3 s32 hf _ _ _ (lv_sub hl [0, 1, 2, 3] rfl) hW
        · have hf := ifn c43 hf
          refine lv_aload_n hx hb dX1_partiesBy_46 rfl (lv_at hl 0 rfl) ?_
          obtain ⟨q47, hq47, hf⟩ := bi_some hf
          refine aw_gR hC hW g36 fl_X1_89 rfl hq47 dX1_partiesBy_47 ?_
          refine lv_aload_n hx hb dX1_partiesBy_50 rfl (lv_at hl 0 rfl) ?_
          obtain ⟨q51, hq51, hf⟩ := bi_some hf
          refine aw_gR hC hW g36 fl_X1_11 rfl hq51 dX1_partiesBy_51 ?_
          refine lv_aload_n hx hb dX1_partiesBy_54 rfl (lv_at hl 0 rfl) ?_
          obtain ⟨q55, hq55, hf⟩ := bi_some hf
          refine aw_gR hC hW g36 fl_X1_22 rfl hq55 dX1_partiesBy_55 ?_
          obtain ⟨g58, hf⟩ := gd_some hf
          refine aw_gI hC hW g58 fl_X1_315 rfl dX1_partiesBy_58 ?_
          obtain ⟨g61, hf⟩ := gd_some hf
          obtain ⟨q61, hq61, hf⟩ := bi_some hf
          refine aw_aald (j := 0) hC hW (by decide) g61 hq61 dX1_partiesBy_61 ?_
          obtain ⟨g62, hf⟩ := gd_some hf
          refine aw_gI hC hW g62 fl_X1_211 rfl dX1_partiesBy_62 ?_
          obtain ⟨v65, ev65, hf⟩ := bnd_some hf
          refine top_i ev65 ?_
          refine lv_dup2_11 hx hb dX1_partiesBy_65 rfl rfl ?_
          obtain ⟨g66, hf⟩ := gd_some hf
          refine aw_iald hC hW g66 dX1_partiesBy_66 ?_
          refine lv_iconst (v := 1) hx hb dX1_partiesBy_67 (by decide) ?_
          refine lv_iadd hx hb dX1_partiesBy_68 ?_
          obtain ⟨g69, hf⟩ := gd_some hf
          obtain ⟨s69, e69, hf⟩ := bnd_some hf
          refine aw_iast e69 hC hW g69 dX1_partiesBy_69 (fun H locs hW => ?_)
          have g36 := ko_pI e69 g36
          have g39 := ko_pI e69 g39
          have g58 := ko_pI e69 g58
          have g62 := ko_pI e69 g62
          exact B70 (f_X1_partiesBy_b21 n) ih r0 x1 r2 x3 s69 hf _ _ _ (lv_sub hl [0, 1, 2, 3] rfl) hW
  unfold f_X1_partiesBy at hf
  refine lv_aload_n hx hb dX1_partiesBy_0 rfl (lv_at hl 0 rfl) ?_
  obtain ⟨g1, hf⟩ := gd_some hf
  obtain ⟨q1, hq1, hf⟩ := bi_some hf
  refine aw_gR hC hW g1 fl_X1_89 rfl hq1 dX1_partiesBy_1 ?_
  refine lv_iconst (v := 0) hx hb dX1_partiesBy_4 (by decide) ?_
  obtain ⟨_, s5, h5, hf⟩ := ob_some hf
  refine aw_dS0 (As := [.ref (a q1), .int 0]) (rest := []) (ct_J12_fill l G a q1 0 s () s5 h5) hC hW hl.1 sy_J12_fill (Or.inl q1097) rfl rfl (Nat.le_of_ble_eq_true rfl) ⟨Nat.le_of_ble_eq_true rfl, Nat.le_of_ble_eq_true rfl⟩ ⟨Nat.le_of_ble_eq_true rfl, Nat.le_of_ble_eq_true rfl⟩ dX1_partiesBy_5 (fun H locs hW => ?_)
  refine lv_aload_n hx hb dX1_partiesBy_8 rfl (lv_at hl 0 rfl) ?_
  obtain ⟨g9, hf⟩ := gd_some hf
  obtain ⟨q9, hq9, hf⟩ := bi_some hf
  refine aw_gR hC hW g9 fl_X1_22 rfl hq9 dX1_partiesBy_9 ?_
  refine lv_aload_n hx hb dX1_partiesBy_12 rfl (lv_at hl 0 rfl) ?_
  obtain ⟨q13, hq13, hf⟩ := bi_some hf
  refine aw_gR hC hW g9 fl_X1_18 rfl hq13 dX1_partiesBy_13 ?_
  obtain ⟨g16, hf⟩ := gd_some hf
  obtain ⟨_, s16, h16, hf⟩ := ob_some hf
  refine aw_dV0 (r := q9) (As := [.ref (a q13)]) (rest := []) (ct_X2_be l G a q9 q13 s5 () s16 h16) hC hW hl.1 vy_X2_be (Or.inl q917) g16 rfl rfl rfl rfl (Nat.le_of_ble_eq_true rfl) ⟨Nat.le_of_ble_eq_true rfl, Nat.le_of_ble_eq_true rfl⟩ ⟨Nat.le_of_ble_eq_true rfl, Nat.le_of_ble_eq_true rfl⟩ dX1_partiesBy_16 (fun H locs hW => ?_)
  refine lv_iconst (v := 0) hx hb dX1_partiesBy_19 (by decide) ?_
  refine lv_istore_n (lv' := [(3, .int 0), (0, .ref (a o)), (1, .int x1), (2, .ref (a r2))]) hx hb dX1_partiesBy_20 rfl hl (by decide) rfl (fun ls hl => ?_)
  exact B21 fuel o x1 r2 0 s16 hf _ _ _ (lv_sub hl [1, 2, 3, 0] rfl) hW
