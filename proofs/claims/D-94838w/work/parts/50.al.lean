set_option maxRecDepth 100000
def f_X2_init (o : Nat) (s : ST) : Option (Unit × ST) :=
  gd (o < s.1) <|
  bnd (nw s 100 8 (fun _ => 0)) fun s7 =>
  gd (o < s7.1 ∧ (kd s7 o).1 = 2) <|
  gd (s.1 < s7.1) <|
  bnd (pR s7 o 0 (some s.1)) fun s9 =>
  gd (o < s9.1) <|
  bnd (nw s9 100 8 (fun _ => 0)) fun s15 =>
  gd (s9.1 < s15.1) <|
  bnd (pR s15 o 1 (some s9.1)) fun s17 =>
  gd (o < s17.1) <|
  bnd (nw s17 100 12 (fun _ => 0)) fun s23 =>
  gd (s17.1 < s23.1) <|
  bnd (pR s23 o 2 (some s17.1)) fun s25 =>
  gd (o < s25.1) <|
  bnd (nw s25 100 12 (fun _ => 0)) fun s31 =>
  gd (s25.1 < s31.1) <|
  bnd (pR s31 o 3 (some s25.1)) fun s33 =>
  gd (o < s33.1) <|
  bnd (nw s33 100 12 (fun _ => 0)) fun s39 =>
  gd (s33.1 < s39.1) <|
  bnd (pR s39 o 4 (some s33.1)) fun s41 =>
  gd (o < s41.1) <|
  bnd (nw s41 100 60 (fun _ => 0)) fun s47 =>
  gd (s41.1 < s47.1) <|
  bnd (pR s47 o 5 (some s41.1)) fun s49 =>
  bnd (pI s49 o 7 (-1)) fun s54 =>
  some ((), s54)
set_option maxHeartbeats 4000000 in
theorem cta_X2_init (l : Launch) (G : GM) (a : Nat → Nat) (o : Nat) (s : ST) (rv : Unit) (sf : ST) (hf : f_X2_init o s = some (rv, sf)) : MA l G yX2_init (ws_ yX2_init cX2_init 1 none) 1 6 112 [.ref (a o)] a s (fun _ => none) sf := by
  refine ma_of (d := 1) (mc := 6) (ms := 112) (lv := [(0, .ref (a o))]) (Or.inl (by decide)) (Nat.le_of_ble_eq_true rfl) rfl ?_
  intro p e s0 m args below meth c ls A P hP hC hr hnm hW hl
  have hx := hC.1
  have hb := hC.2.1
  have hts := hC.2.2.2.2.1
  obtain ⟨N0, hN0⟩ : ∃ N0, N0 = s.1 := ⟨_, rfl⟩
  rw [← hN0] at hP
  have hE : EX a a N0 := EX.rf
  have hN : N0 ≤ s.1 := Nat.le_of_eq hN0
  unfold f_X2_init at hf
  refine lv_aload_n hx hb dX2_init_0 rfl (lv_at hl 0 rfl) ?_
  refine W.objInit hx hb hC.2.2.2.1 (hts _ q122) (hts _ q113) (hts _ q114) rfl (by rw [hC.2.2.1]; exact hl.1) rfl dX2_init_1 (Nat.le_of_ble_eq_true rfl) (Nat.le_of_ble_eq_true rfl) ?_
  refine W.eq (g2 := F0 m 4 ls []) rfl ?_
  refine lv_aload_n hx hb dX2_init_4 rfl (lv_at hl 0 rfl) ?_
  refine lv_bipush (v := 8) hx hb dX2_init_5 (by decide) ?_
  obtain ⟨gr7, hf⟩ := gd_some hf
  obtain ⟨s7, e7, hf⟩ := bnd_some hf
  refine aw_newI (atype := .int) (N := 8) 0 hC hW q181 rfl rfl (fun h => h) (cellI _ (by decide) rfl) (by decide) rfl (Nat.le_of_ble_eq_true rfl) (Nat.le_of_ble_eq_true rfl) (Nat.le_of_ble_eq_true rfl) dX2_init_7 (fun a7 H hE1 hW => ?_)
  have hE : EX a a7 N0 := hE.trans hE1 hN
  have hN := n_nw e7 hN
  have hW := aw_eq e7 hW
  have hl : lv_has ls 1 [(0, .ref (a7 o))] := by simp only [hE1 _ gr7]; exact hl
  refine W.eq (g2 := F0 m 9 ls [.ref (a7 s.1), .ref (a7 o)]) (by simp only [hE1 _ gr7]) ?_
  refine W.widen (k := 1) (n := 8) (Nat.le_of_ble_eq_true rfl) (Nat.le_of_ble_eq_true rfl) ?_
  obtain ⟨g9, hf⟩ := gd_some hf
  obtain ⟨gq9, hf⟩ := gd_some hf
  obtain ⟨s9, e9, hf⟩ := bnd_some hf
  refine aw_pR e9 hC hW g9 gq9 fl_X2_9 (Or.inr ⟨hnm, ff_X2_9⟩) rfl dX2_init_9 (fun H locs hW => ?_)
  have hN := n_pR e9 hN
  have g9 := ko_pR e9 g9
  refine lv_aload_n hx hb dX2_init_12 rfl (lv_at hl 0 rfl) ?_
  refine lv_bipush (v := 8) hx hb dX2_init_13 (by decide) ?_
  obtain ⟨gr15, hf⟩ := gd_some hf
  obtain ⟨s15, e15, hf⟩ := bnd_some hf
  refine aw_newI (atype := .int) (N := 8) 0 hC hW q181 rfl rfl (fun h => h) (cellI _ (by decide) rfl) (by decide) rfl (Nat.le_of_ble_eq_true rfl) (Nat.le_of_ble_eq_true rfl) (Nat.le_of_ble_eq_true rfl) dX2_init_15 (fun a15 H hE1 hW => ?_)
  have hE : EX a a15 N0 := hE.trans hE1 hN
  have hN := n_nw e15 hN
  have g9 := ko_nw e15 g9
  have hW := aw_eq e15 hW
  have hl : lv_has ls 1 [(0, .ref (a15 o))] := by simp only [hE1 _ gr15]; exact hl
  refine W.eq (g2 := F0 m 17 ls [.ref (a15 s9.1), .ref (a15 o)]) (by simp only [hE1 _ gr15]) ?_
  refine W.widen (k := 2) (n := 16) (Nat.le_of_ble_eq_true rfl) (Nat.le_of_ble_eq_true rfl) ?_
  obtain ⟨gq17, hf⟩ := gd_some hf
  obtain ⟨s17, e17, hf⟩ := bnd_some hf
  refine aw_pR e17 hC hW g9 gq17 fl_X2_15 (Or.inr ⟨hnm, ff_X2_15⟩) rfl dX2_init_17 (fun H locs hW => ?_)
  have hN := n_pR e17 hN
  have g9 := ko_pR e17 g9
  refine lv_aload_n hx hb dX2_init_20 rfl (lv_at hl 0 rfl) ?_
  refine lv_bipush (v := 12) hx hb dX2_init_21 (by decide) ?_
  obtain ⟨gr23, hf⟩ := gd_some hf
  obtain ⟨s23, e23, hf⟩ := bnd_some hf
  refine aw_newI (atype := .int) (N := 12) 0 hC hW q181 rfl rfl (fun h => h) (cellI _ (by decide) rfl) (by decide) rfl (Nat.le_of_ble_eq_true rfl) (Nat.le_of_ble_eq_true rfl) (Nat.le_of_ble_eq_true rfl) dX2_init_23 (fun a23 H hE1 hW => ?_)
  have hE : EX a a23 N0 := hE.trans hE1 hN
  have hN := n_nw e23 hN
  have g9 := ko_nw e23 g9
  have hW := aw_eq e23 hW
  have hl : lv_has ls 1 [(0, .ref (a23 o))] := by simp only [hE1 _ gr23]; exact hl
  refine W.eq (g2 := F0 m 25 ls [.ref (a23 s17.1), .ref (a23 o)]) (by simp only [hE1 _ gr23]) ?_
  refine W.widen (k := 3) (n := 28) (Nat.le_of_ble_eq_true rfl) (Nat.le_of_ble_eq_true rfl) ?_
  obtain ⟨gq25, hf⟩ := gd_some hf
  obtain ⟨s25, e25, hf⟩ := bnd_some hf
  refine aw_pR e25 hC hW g9 gq25 fl_X2_18 (Or.inr ⟨hnm, ff_X2_18⟩) rfl dX2_init_25 (fun H locs hW => ?_)
  have hN := n_pR e25 hN
  have g9 := ko_pR e25 g9
  refine lv_aload_n hx hb dX2_init_28 rfl (lv_at hl 0 rfl) ?_
  refine lv_bipush (v := 12) hx hb dX2_init_29 (by decide) ?_
  obtain ⟨gr31, hf⟩ := gd_some hf
  obtain ⟨s31, e31, hf⟩ := bnd_some hf
  refine aw_newI (atype := .int) (N := 12) 0 hC hW q181 rfl rfl (fun h => h) (cellI _ (by decide) rfl) (by decide) rfl (Nat.le_of_ble_eq_true rfl) (Nat.le_of_ble_eq_true rfl) (Nat.le_of_ble_eq_true rfl) dX2_init_31 (fun a31 H hE1 hW => ?_)
  have hE : EX a a31 N0 := hE.trans hE1 hN
  have hN := n_nw e31 hN
  have g9 := ko_nw e31 g9
  have hW := aw_eq e31 hW
  have hl : lv_has ls 1 [(0, .ref (a31 o))] := by simp only [hE1 _ gr31]; exact hl
  refine W.eq (g2 := F0 m 33 ls [.ref (a31 s25.1), .ref (a31 o)]) (by simp only [hE1 _ gr31]) ?_
  refine W.widen (k := 4) (n := 40) (Nat.le_of_ble_eq_true rfl) (Nat.le_of_ble_eq_true rfl) ?_
  obtain ⟨gq33, hf⟩ := gd_some hf
  obtain ⟨s33, e33, hf⟩ := bnd_some hf
  refine aw_pR e33 hC hW g9 gq33 fl_X2_21 (Or.inr ⟨hnm, ff_X2_21⟩) rfl dX2_init_33 (fun H locs hW => ?_)
  have hN := n_pR e33 hN
  have g9 := ko_pR e33 g9
  refine lv_aload_n hx hb dX2_init_36 rfl (lv_at hl 0 rfl) ?_
  refine lv_bipush (v := 12) hx hb dX2_init_37 (by decide) ?_
  obtain ⟨gr39, hf⟩ := gd_some hf
  obtain ⟨s39, e39, hf⟩ := bnd_some hf
  refine aw_newI (atype := .int) (N := 12) 0 hC hW q181 rfl rfl (fun h => h) (cellI _ (by decide) rfl) (by decide) rfl (Nat.le_of_ble_eq_true rfl) (Nat.le_of_ble_eq_true rfl) (Nat.le_of_ble_eq_true rfl) dX2_init_39 (fun a39 H hE1 hW => ?_)
  have hE : EX a a39 N0 := hE.trans hE1 hN
  have hN := n_nw e39 hN
  have g9 := ko_nw e39 g9
  have hW := aw_eq e39 hW
  have hl : lv_has ls 1 [(0, .ref (a39 o))] := by simp only [hE1 _ gr39]; exact hl
  refine W.eq (g2 := F0 m 41 ls [.ref (a39 s33.1), .ref (a39 o)]) (by simp only [hE1 _ gr39]) ?_
  refine W.widen (k := 5) (n := 52) (Nat.le_of_ble_eq_true rfl) (Nat.le_of_ble_eq_true rfl) ?_
  obtain ⟨gq41, hf⟩ := gd_some hf
  obtain ⟨s41, e41, hf⟩ := bnd_some hf
  refine aw_pR e41 hC hW g9 gq41 fl_X2_24 (Or.inr ⟨hnm, ff_X2_24⟩) rfl dX2_init_41 (fun H locs hW => ?_)
  have hN := n_pR e41 hN
  have g9 := ko_pR e41 g9
  refine lv_aload_n hx hb dX2_init_44 rfl (lv_at hl 0 rfl) ?_
  refine lv_bipush (v := 60) hx hb dX2_init_45 (by decide) ?_
  obtain ⟨gr47, hf⟩ := gd_some hf
  obtain ⟨s47, e47, hf⟩ := bnd_some hf
  refine aw_newI (atype := .int) (N := 60) 0 hC hW q181 rfl rfl (fun h => h) (cellI _ (by decide) rfl) (by decide) rfl (Nat.le_of_ble_eq_true rfl) (Nat.le_of_ble_eq_true rfl) (Nat.le_of_ble_eq_true rfl) dX2_init_47 (fun a47 H hE1 hW => ?_)
  have hE : EX a a47 N0 := hE.trans hE1 hN
  have hN := n_nw e47 hN
  have g9 := ko_nw e47 g9
  have hW := aw_eq e47 hW
  have hl : lv_has ls 1 [(0, .ref (a47 o))] := by simp only [hE1 _ gr47]; exact hl
  refine W.eq (g2 := F0 m 49 ls [.ref (a47 s41.1), .ref (a47 o)]) (by simp only [hE1 _ gr47]) ?_
  refine W.widen (k := 6) (n := 112) (Nat.le_of_ble_eq_true rfl) (Nat.le_of_ble_eq_true rfl) ?_
  obtain ⟨gq49, hf⟩ := gd_some hf
  obtain ⟨s49, e49, hf⟩ := bnd_some hf
  refine aw_pR e49 hC hW g9 gq49 fl_X2_27 (Or.inr ⟨hnm, ff_X2_27⟩) rfl dX2_init_49 (fun H locs hW => ?_)
  have hN := n_pR e49 hN
  have g9 := ko_pR e49 g9
  refine lv_aload_n hx hb dX2_init_52 rfl (lv_at hl 0 rfl) ?_
  refine lv_iconst (v := (-1)) hx hb dX2_init_53 (by decide) ?_
  obtain ⟨s54, e54, hf⟩ := bnd_some hf
  refine aw_pI e54 hC hW g9 fl_X2_30 (Or.inl fn_1_7) rfl rfl rfl dX2_init_54 (fun H locs hW => ?_)
  have hN := n_pI e54 hN
  have g9 := ko_pI e54 g9
  obtain ⟨e1, e2⟩ := so_inj hf
  exact aw_vret hC hW hr (p_eq (hP _ hE (e2 ▸ hN)) rfl e2) (Nat.le_of_ble_eq_true rfl) (Nat.le_of_ble_eq_true rfl) dX2_init_57
def f_X3_init (o : Nat) (s : ST) : Option (Unit × ST) :=
  gd (o < s.1) <|
  bnd (nw s 100 6 (fun _ => 0)) fun s7 =>
  gd (o < s7.1 ∧ (kd s7 o).1 = 3) <|
  gd (s.1 < s7.1) <|
  bnd (pR s7 o 3 (some s.1)) fun s9 =>
  some ((), s9)
set_option maxHeartbeats 4000000 in
theorem cta_X3_init (l : Launch) (G : GM) (a : Nat → Nat) (o : Nat) (s : ST) (rv : Unit) (sf : ST) (hf : f_X3_init o s = some (rv, sf)) : MA l G yX3_init (ws_ yX3_init cX3_init 1 none) 1 1 6 [.ref (a o)] a s (fun _ => none) sf := by
  refine ma_of (d := 1) (mc := 1) (ms := 6) (lv := [(0, .ref (a o))]) (Or.inl (by decide)) (Nat.le_of_ble_eq_true rfl) rfl ?_
  intro p e s0 m args below meth c ls A P hP hC hr hnm hW hl
  have hx := hC.1
  have hb := hC.2.1
  have hts := hC.2.2.2.2.1
  obtain ⟨N0, hN0⟩ : ∃ N0, N0 = s.1 := ⟨_, rfl⟩
  rw [← hN0] at hP
  have hE : EX a a N0 := EX.rf
  have hN : N0 ≤ s.1 := Nat.le_of_eq hN0
  unfold f_X3_init at hf
  refine lv_aload_n hx hb dX3_init_0 rfl (lv_at hl 0 rfl) ?_
  refine W.objInit hx hb hC.2.2.2.1 (hts _ q187) (hts _ q113) (hts _ q114) rfl (by rw [hC.2.2.1]; exact hl.1) rfl dX3_init_1 (Nat.le_of_ble_eq_true rfl) (Nat.le_of_ble_eq_true rfl) ?_
  refine W.eq (g2 := F0 m 4 ls []) rfl ?_
  refine lv_aload_n hx hb dX3_init_4 rfl (lv_at hl 0 rfl) ?_
  refine lv_bipush (v := 6) hx hb dX3_init_5 (by decide) ?_
  obtain ⟨gr7, hf⟩ := gd_some hf
  obtain ⟨s7, e7, hf⟩ := bnd_some hf
  refine aw_newI (atype := .int) (N := 6) 0 hC hW q181 rfl rfl (fun h => h) (cellI _ (by decide) rfl) (by decide) rfl (Nat.le_of_ble_eq_true rfl) (Nat.le_of_ble_eq_true rfl) (Nat.le_of_ble_eq_true rfl) dX3_init_7 (fun a7 H hE1 hW => ?_)
  have hE : EX a a7 N0 := hE.trans hE1 hN
  have hN := n_nw e7 hN
  have hW := aw_eq e7 hW
  have hl : lv_has ls 1 [(0, .ref (a7 o))] := by simp only [hE1 _ gr7]; exact hl
  refine W.eq (g2 := F0 m 9 ls [.ref (a7 s.1), .ref (a7 o)]) (by simp only [hE1 _ gr7]) ?_
  refine W.widen (k := 1) (n := 6) (Nat.le_of_ble_eq_true rfl) (Nat.le_of_ble_eq_true rfl) ?_
  obtain ⟨g9, hf⟩ := gd_some hf
  obtain ⟨gq9, hf⟩ := gd_some hf
  obtain ⟨s9, e9, hf⟩ := bnd_some hf
  refine aw_pR e9 hC hW g9 gq9 fl_X3_9 (Or.inr ⟨hnm, ff_X3_9⟩) rfl dX3_init_9 (fun H locs hW => ?_)
  have hN := n_pR e9 hN
  have g9 := ko_pR e9 g9
  obtain ⟨e1, e2⟩ := so_inj hf
  exact aw_vret hC hW hr (p_eq (hP _ hE (e2 ▸ hN)) rfl e2) (Nat.le_of_ble_eq_true rfl) (Nat.le_of_ble_eq_true rfl) dX3_init_12
def f_X7_init (o : Nat) (s : ST) : Option (Unit × ST) :=
  gd (o < s.1) <|
  bnd (nw s 100 8 (fun _ => 0)) fun s7 =>
  gd (o < s7.1 ∧ (kd s7 o).1 = 7) <|
  gd (s.1 < s7.1) <|
  bnd (pR s7 o 0 (some s.1)) fun s9 =>
  some ((), s9)
set_option maxHeartbeats 4000000 in
theorem cta_X7_init (l : Launch) (G : GM) (a : Nat → Nat) (o : Nat) (s : ST) (rv : Unit) (sf : ST) (hf : f_X7_init o s = some (rv, sf)) : MA l G yX7_init (ws_ yX7_init cX7_init 1 none) 1 1 8 [.ref (a o)] a s (fun _ => none) sf := by
  refine ma_of (d := 1) (mc := 1) (ms := 8) (lv := [(0, .ref (a o))]) (Or.inl (by decide)) (Nat.le_of_ble_eq_true rfl) rfl ?_
  intro p e s0 m args below meth c ls A P hP hC hr hnm hW hl
  have hx := hC.1
  have hb := hC.2.1
  have hts := hC.2.2.2.2.1
  obtain ⟨N0, hN0⟩ : ∃ N0, N0 = s.1 := ⟨_, rfl⟩
  rw [← hN0] at hP
  have hE : EX a a N0 := EX.rf
  have hN : N0 ≤ s.1 := Nat.le_of_eq hN0
  unfold f_X7_init at hf
  refine lv_aload_n hx hb dX7_init_0 rfl (lv_at hl 0 rfl) ?_
  refine W.objInit hx hb hC.2.2.2.1 (hts _ q260) (hts _ q113) (hts _ q114) rfl (by rw [hC.2.2.1]; exact hl.1) rfl dX7_init_1 (Nat.le_of_ble_eq_true rfl) (Nat.le_of_ble_eq_true rfl) ?_
  refine W.eq (g2 := F0 m 4 ls []) rfl ?_
  refine lv_aload_n hx hb dX7_init_4 rfl (lv_at hl 0 rfl) ?_
  refine lv_bipush (v := 8) hx hb dX7_init_5 (by decide) ?_
  obtain ⟨gr7, hf⟩ := gd_some hf
  obtain ⟨s7, e7, hf⟩ := bnd_some hf
  refine aw_newI (atype := .int) (N := 8) 0 hC hW q181 rfl rfl (fun h => h) (cellI _ (by decide) rfl) (by decide) rfl (Nat.le_of_ble_eq_true rfl) (Nat.le_of_ble_eq_true rfl) (Nat.le_of_ble_eq_true rfl) dX7_init_7 (fun a7 H hE1 hW => ?_)
  have hE : EX a a7 N0 := hE.trans hE1 hN
  have hN := n_nw e7 hN
  have hW := aw_eq e7 hW
  have hl : lv_has ls 1 [(0, .ref (a7 o))] := by simp only [hE1 _ gr7]; exact hl
  refine W.eq (g2 := F0 m 9 ls [.ref (a7 s.1), .ref (a7 o)]) (by simp only [hE1 _ gr7]) ?_
  refine W.widen (k := 1) (n := 8) (Nat.le_of_ble_eq_true rfl) (Nat.le_of_ble_eq_true rfl) ?_
  obtain ⟨g9, hf⟩ := gd_some hf
  obtain ⟨gq9, hf⟩ := gd_some hf
  obtain ⟨s9, e9, hf⟩ := bnd_some hf
  refine aw_pR e9 hC hW g9 gq9 fl_X7_9 (Or.inr ⟨hnm, ff_X7_9⟩) rfl dX7_init_9 (fun H locs hW => ?_)
  have hN := n_pR e9 hN
  have g9 := ko_pR e9 g9
  obtain ⟨e1, e2⟩ := so_inj hf
  exact aw_vret hC hW hr (p_eq (hP _ hE (e2 ▸ hN)) rfl e2) (Nat.le_of_ble_eq_true rfl) (Nat.le_of_ble_eq_true rfl) dX7_init_12
def f_X14_init (o : Nat) (s : ST) : Option (Unit × ST) :=
  gd (o < s.1) <|
  bnd (nw s 104 24 (fun _ => 0)) fun s7 =>
  gd (o < s7.1 ∧ (kd s7 o).1 = 14) <|
  gd (s.1 < s7.1) <|
  bnd (pR s7 o 2 (some s.1)) fun s9 =>
  gd (o < s9.1) <|
  bnd (nw s9 100 8 (fun _ => 0)) fun s15 =>
  gd (s9.1 < s15.1) <|
  bnd (pR s15 o 4 (some s9.1)) fun s17 =>
  gd (o < s17.1) <|
  bnd (nw s17 100 8 (fun _ => 0)) fun s23 =>
  gd (s17.1 < s23.1) <|
  bnd (pR s23 o 5 (some s17.1)) fun s25 =>
  gd (o < s25.1) <|
  bnd (nw s25 100 48 (fun _ => 0)) fun s31 =>
  gd (s25.1 < s31.1) <|
  bnd (pR s31 o 6 (some s25.1)) fun s33 =>
  gd (o < s33.1) <|
  bnd (nw s33 100 8 (fun _ => 0)) fun s39 =>
  gd (s33.1 < s39.1) <|
  bnd (pR s39 o 7 (some s33.1)) fun s41 =>
  bnd (pI s41 o 8 1) fun s46 =>
  gd (o < s46.1) <|
  bnd (nw s46 100 117 (fun _ => 0)) fun s52 =>
  gd (s46.1 < s52.1) <|
  bnd (pR s52 o 10 (some s46.1)) fun s54 =>
  gd (o < s54.1) <|
  bnd (nw s54 100 117 (fun _ => 0)) fun s60 =>
  gd (s54.1 < s60.1) <|
  bnd (pR s60 o 11 (some s54.1)) fun s62 =>
  gd (o < s62.1) <|
  bnd (nw s62 100 80 (fun _ => 0)) fun s68 =>
  gd (s62.1 < s68.1) <|
  bnd (pR s68 o 12 (some s62.1)) fun s70 =>
  gd (o < s70.1) <|
  bnd (nw s70 100 8 (fun _ => 0)) fun s76 =>
  gd (s70.1 < s76.1) <|
  bnd (pR s76 o 17 (some s70.1)) fun s78 =>
  gd (o < s78.1) <|
  bnd (nw s78 100 8 (fun _ => 0)) fun s84 =>
  gd (s78.1 < s84.1) <|
  bnd (pR s84 o 18 (some s78.1)) fun s86 =>
  gd (o < s86.1) <|
  bnd (nw s86 100 54 (fun _ => 0)) fun s92 =>
  gd (s86.1 < s92.1) <|
  bnd (pR s92 o 19 (some s86.1)) fun s94 =>
  gd (o < s94.1) <|
  bnd (nw s94 100 9 (fun _ => 0)) fun s100 =>
  gd (s94.1 < s100.1) <|
  bnd (pR s100 o 20 (some s94.1)) fun s102 =>
  gd (o < s102.1) <|
  bnd (nw s102 100 80 (fun _ => 0)) fun s108 =>
  gd (s102.1 < s108.1) <|
  bnd (pR s108 o 22 (some s102.1)) fun s110 =>
  gd (o < s110.1) <|
  bnd (nw s110 100 80 (fun _ => 0)) fun s116 =>
  gd (s110.1 < s116.1) <|
  bnd (pR s116 o 23 (some s110.1)) fun s118 =>
  gd (o < s118.1) <|
  bnd (nw s118 100 80 (fun _ => 0)) fun s124 =>
  gd (s118.1 < s124.1) <|
  bnd (pR s124 o 26 (some s118.1)) fun s126 =>
  gd (o < s126.1) <|
  bnd (nw s126 100 2340 (fun _ => 0)) fun s133 =>
  gd (s126.1 < s133.1) <|
  bnd (pR s133 o 29 (some s126.1)) fun s135 =>
  gd (o < s135.1) <|
  bnd (nw s135 100 61 (fun _ => 0)) fun s141 =>
  gd (s135.1 < s141.1) <|
  bnd (pR s141 o 30 (some s135.1)) fun s143 =>
  gd (o < s143.1) <|
  bnd (nw s143 100 8 (fun _ => 0)) fun s149 =>
  gd (s143.1 < s149.1) <|
  bnd (pR s149 o 32 (some s143.1)) fun s151 =>
  gd (o < s151.1) <|
  bnd (nw s151 100 8 (fun _ => 0)) fun s157 =>
  gd (s151.1 < s157.1) <|
  bnd (pR s157 o 33 (some s151.1)) fun s159 =>
  gd (o < s159.1) <|
  bnd (nw s159 100 12 (fun _ => 0)) fun s165 =>
  gd (s159.1 < s165.1) <|
  bnd (pR s165 o 35 (some s159.1)) fun s167 =>
  gd (o < s167.1) <|
  bnd (nw s167 100 12 (fun _ => 0)) fun s173 =>
  gd (s167.1 < s173.1) <|
  bnd (pR s173 o 36 (some s167.1)) fun s175 =>
  gd (o < s175.1) <|
  bnd (nw s175 100 10 (fun _ => 0)) fun s181 =>
  gd (s175.1 < s181.1) <|
  bnd (pR s181 o 38 (some s175.1)) fun s183 =>
  gd (o < s183.1) <|
  bnd (nw s183 100 10 (fun _ => 0)) fun s189 =>
  gd (s183.1 < s189.1) <|
  bnd (pR s189 o 39 (some s183.1)) fun s191 =>
  gd (o < s191.1) <|
  bnd (nw s191 104 9 (fun _ => 0)) fun s197 =>
  gd (s191.1 < s197.1) <|
  bnd (pR s197 o 40 (some s191.1)) fun s199 =>
  gd (o < s199.1) <|
  bnd (nw s199 104 9 (fun _ => 0)) fun s205 =>
  gd (s199.1 < s205.1) <|
  bnd (pR s205 o 41 (some s199.1)) fun s207 =>
  gd (o < s207.1) <|
  bnd (nw s207 100 117 (fun _ => 0)) fun s213 =>
  gd (s207.1 < s213.1) <|
  bnd (pR s213 o 42 (some s207.1)) fun s215 =>
  gd (o < s215.1) <|
  bnd (nw s215 103 3 (fun _ => 0)) fun s220 =>
  gd (s215.1 < s220.1) <|
  bnd (pR s220 o 43 (some s215.1)) fun s222 =>
  gd (o < s222.1) <|
  bnd (nw s222 100 3 (fun _ => 0)) fun s227 =>
  gd (s222.1 < s227.1) <|
  bnd (pR s227 o 44 (some s222.1)) fun s229 =>
  gd (o < s229.1) <|
  bnd (nw s229 100 351 (fun _ => 0)) fun s236 =>
  gd (s229.1 < s236.1) <|
  bnd (pR s236 o 45 (some s229.1)) fun s238 =>
  (gr s238 o 10).bind fun q242 =>
  gd (q242 < s238.1 ∧ (kd s238 q242).1 = 100 ∧ ¬ ((17 : Int32) < 0 ∨ (kd s238 q242).2 ≤ (17 : Int32).toNatClampNeg)) <|
  bnd (pI s238 q242 (17 : Int32).toNatClampNeg (-1)) fun s248 =>
  some ((), s248)
set_option maxHeartbeats 4000000 in
theorem cta_X14_init (l : Launch) (G : GM) (a : Nat → Nat) (o : Nat) (s : ST) (rv : Unit) (sf : ST) (hf : f_X14_init o s = some (rv, sf)) : MA l G yX14_init (ws_ yX14_init cX14_init 1 none) 1 29 3682 [.ref (a o)] a s (fun _ => none) sf := by
  refine ma_of (d := 1) (mc := 29) (ms := 3682) (lv := [(0, .ref (a o))]) (Or.inl (by decide)) (Nat.le_of_ble_eq_true rfl) rfl ?_
  intro p e s0 m args below meth c ls A P hP hC hr hnm hW hl
  have hx := hC.1
  have hb := hC.2.1
  have hts := hC.2.2.2.2.1
  obtain ⟨N0, hN0⟩ : ∃ N0, N0 = s.1 := ⟨_, rfl⟩
  rw [← hN0] at hP
  have hE : EX a a N0 := EX.rf
  have hN : N0 ≤ s.1 := Nat.le_of_eq hN0
  unfold f_X14_init at hf
  refine lv_aload_n hx hb dX14_init_0 rfl (lv_at hl 0 rfl) ?_
  refine W.objInit hx hb hC.2.2.2.1 (hts _ q1365) (hts _ q113) (hts _ q114) rfl (by rw [hC.2.2.1]; exact hl.1) rfl dX14_init_1 (Nat.le_of_ble_eq_true rfl) (Nat.le_of_ble_eq_true rfl) ?_
  refine W.eq (g2 := F0 m 4 ls []) rfl ?_
  refine lv_aload_n hx hb dX14_init_4 rfl (lv_at hl 0 rfl) ?_
  refine lv_bipush (v := 24) hx hb dX14_init_5 (by decide) ?_
  obtain ⟨gr7, hf⟩ := gd_some hf
  obtain ⟨s7, e7, hf⟩ := bnd_some hf
  refine aw_newI (atype := .long) (N := 24) 4 hC hW q210 rfl rfl (fun h => h) (cellL _) (by decide) rfl (Nat.le_of_ble_eq_true rfl) (Nat.le_of_ble_eq_true rfl) (Nat.le_of_ble_eq_true rfl) dX14_init_7 (fun a7 H hE1 hW => ?_)
  have hE : EX a a7 N0 := hE.trans hE1 hN
  have hN := n_nw e7 hN
  have hW := aw_eq e7 hW
  have hl : lv_has ls 1 [(0, .ref (a7 o))] := by simp only [hE1 _ gr7]; exact hl
  refine W.eq (g2 := F0 m 9 ls [.ref (a7 s.1), .ref (a7 o)]) (by simp only [hE1 _ gr7]) ?_
  refine W.widen (k := 1) (n := 24) (Nat.le_of_ble_eq_true rfl) (Nat.le_of_ble_eq_true rfl) ?_
  obtain ⟨g9, hf⟩ := gd_some hf
  obtain ⟨gq9, hf⟩ := gd_some hf
  obtain ⟨s9, e9, hf⟩ := bnd_some hf
  refine aw_pR e9 hC hW g9 gq9 fl_X14_11 (Or.inr ⟨hnm, ff_X14_11⟩) rfl dX14_init_9 (fun H locs hW => ?_)
  have hN := n_pR e9 hN
  have g9 := ko_pR e9 g9
  refine lv_aload_n hx hb dX14_init_12 rfl (lv_at hl 0 rfl) ?_
  refine lv_bipush (v := 8) hx hb dX14_init_13 (by decide) ?_
  obtain ⟨gr15, hf⟩ := gd_some hf
  obtain ⟨s15, e15, hf⟩ := bnd_some hf
  refine aw_newI (atype := .int) (N := 8) 0 hC hW q181 rfl rfl (fun h => h) (cellI _ (by decide) rfl) (by decide) rfl (Nat.le_of_ble_eq_true rfl) (Nat.le_of_ble_eq_true rfl) (Nat.le_of_ble_eq_true rfl) dX14_init_15 (fun a15 H hE1 hW => ?_)
  have hE : EX a a15 N0 := hE.trans hE1 hN
  have hN := n_nw e15 hN
  have g9 := ko_nw e15 g9
  have hW := aw_eq e15 hW
  have hl : lv_has ls 1 [(0, .ref (a15 o))] := by simp only [hE1 _ gr15]; exact hl
  refine W.eq (g2 := F0 m 17 ls [.ref (a15 s9.1), .ref (a15 o)]) (by simp only [hE1 _ gr15]) ?_
  refine W.widen (k := 2) (n := 32) (Nat.le_of_ble_eq_true rfl) (Nat.le_of_ble_eq_true rfl) ?_
  obtain ⟨gq17, hf⟩ := gd_some hf
  obtain ⟨s17, e17, hf⟩ := bnd_some hf
  refine aw_pR e17 hC hW g9 gq17 fl_X14_28 (Or.inr ⟨hnm, ff_X14_28⟩) rfl dX14_init_17 (fun H locs hW => ?_)
  have hN := n_pR e17 hN
  have g9 := ko_pR e17 g9
  refine lv_aload_n hx hb dX14_init_20 rfl (lv_at hl 0 rfl) ?_
  refine lv_bipush (v := 8) hx hb dX14_init_21 (by decide) ?_
  obtain ⟨gr23, hf⟩ := gd_some hf
  obtain ⟨s23, e23, hf⟩ := bnd_some hf
  refine aw_newI (atype := .int) (N := 8) 0 hC hW q181 rfl rfl (fun h => h) (cellI _ (by decide) rfl) (by decide) rfl (Nat.le_of_ble_eq_true rfl) (Nat.le_of_ble_eq_true rfl) (Nat.le_of_ble_eq_true rfl) dX14_init_23 (fun a23 H hE1 hW => ?_)
  have hE : EX a a23 N0 := hE.trans hE1 hN
  have hN := n_nw e23 hN
  have g9 := ko_nw e23 g9
  have hW := aw_eq e23 hW
  have hl : lv_has ls 1 [(0, .ref (a23 o))] := by simp only [hE1 _ gr23]; exact hl
  refine W.eq (g2 := F0 m 25 ls [.ref (a23 s17.1), .ref (a23 o)]) (by simp only [hE1 _ gr23]) ?_
  refine W.widen (k := 3) (n := 40) (Nat.le_of_ble_eq_true rfl) (Nat.le_of_ble_eq_true rfl) ?_
  obtain ⟨gq25, hf⟩ := gd_some hf
  obtain ⟨s25, e25, hf⟩ := bnd_some hf
  refine aw_pR e25 hC hW g9 gq25 fl_X14_32 (Or.inr ⟨hnm, ff_X14_32⟩) rfl dX14_init_25 (fun H locs hW => ?_)
  have hN := n_pR e25 hN
  have g9 := ko_pR e25 g9
  refine lv_aload_n hx hb dX14_init_28 rfl (lv_at hl 0 rfl) ?_
  refine lv_bipush (v := 48) hx hb dX14_init_29 (by decide) ?_
  obtain ⟨gr31, hf⟩ := gd_some hf
  obtain ⟨s31, e31, hf⟩ := bnd_some hf
  refine aw_newI (atype := .int) (N := 48) 0 hC hW q181 rfl rfl (fun h => h) (cellI _ (by decide) rfl) (by decide) rfl (Nat.le_of_ble_eq_true rfl) (Nat.le_of_ble_eq_true rfl) (Nat.le_of_ble_eq_true rfl) dX14_init_31 (fun a31 H hE1 hW => ?_)
  have hE : EX a a31 N0 := hE.trans hE1 hN
  have hN := n_nw e31 hN
  have g9 := ko_nw e31 g9
  have hW := aw_eq e31 hW
  have hl : lv_has ls 1 [(0, .ref (a31 o))] := by simp only [hE1 _ gr31]; exact hl
  refine W.eq (g2 := F0 m 33 ls [.ref (a31 s25.1), .ref (a31 o)]) (by simp only [hE1 _ gr31]) ?_
  refine W.widen (k := 4) (n := 88) (Nat.le_of_ble_eq_true rfl) (Nat.le_of_ble_eq_true rfl) ?_
  obtain ⟨gq33, hf⟩ := gd_some hf
  obtain ⟨s33, e33, hf⟩ := bnd_some hf
  refine aw_pR e33 hC hW g9 gq33 fl_X14_35 (Or.inr ⟨hnm, ff_X14_35⟩) rfl dX14_init_33 (fun H locs hW => ?_)
  have hN := n_pR e33 hN
  have g9 := ko_pR e33 g9
  refine lv_aload_n hx hb dX14_init_36 rfl (lv_at hl 0 rfl) ?_
  refine lv_bipush (v := 8) hx hb dX14_init_37 (by decide) ?_
  obtain ⟨gr39, hf⟩ := gd_some hf
  obtain ⟨s39, e39, hf⟩ := bnd_some hf
  refine aw_newI (atype := .int) (N := 8) 0 hC hW q181 rfl rfl (fun h => h) (cellI _ (by decide) rfl) (by decide) rfl (Nat.le_of_ble_eq_true rfl) (Nat.le_of_ble_eq_true rfl) (Nat.le_of_ble_eq_true rfl) dX14_init_39 (fun a39 H hE1 hW => ?_)
  have hE : EX a a39 N0 := hE.trans hE1 hN
  have hN := n_nw e39 hN
  have g9 := ko_nw e39 g9
  have hW := aw_eq e39 hW
  have hl : lv_has ls 1 [(0, .ref (a39 o))] := by simp only [hE1 _ gr39]; exact hl
  refine W.eq (g2 := F0 m 41 ls [.ref (a39 s33.1), .ref (a39 o)]) (by simp only [hE1 _ gr39]) ?_
  refine W.widen (k := 5) (n := 96) (Nat.le_of_ble_eq_true rfl) (Nat.le_of_ble_eq_true rfl) ?_
  obtain ⟨gq41, hf⟩ := gd_some hf
  obtain ⟨s41, e41, hf⟩ := bnd_some hf
  refine aw_pR e41 hC hW g9 gq41 fl_X14_38 (Or.inr ⟨hnm, ff_X14_38⟩) rfl dX14_init_41 (fun H locs hW => ?_)
  have hN := n_pR e41 hN
  have g9 := ko_pR e41 g9
  refine lv_aload_n hx hb dX14_init_44 rfl (lv_at hl 0 rfl) ?_
  refine lv_iconst (v := 1) hx hb dX14_init_45 (by decide) ?_
  obtain ⟨s46, e46, hf⟩ := bnd_some hf
  refine aw_pI e46 hC hW g9 fl_X14_41 (Or.inl fn_13_8) rfl rfl rfl dX14_init_46 (fun H locs hW => ?_)
  have hN := n_pI e46 hN
  have g9 := ko_pI e46 g9
  refine lv_aload_n hx hb dX14_init_49 rfl (lv_at hl 0 rfl) ?_
  refine lv_bipush (v := 117) hx hb dX14_init_50 (by decide) ?_
  obtain ⟨gr52, hf⟩ := gd_some hf
  obtain ⟨s52, e52, hf⟩ := bnd_some hf
  refine aw_newI (atype := .int) (N := 117) 0 hC hW q181 rfl rfl (fun h => h) (cellI _ (by decide) rfl) (by decide) rfl (Nat.le_of_ble_eq_true rfl) (Nat.le_of_ble_eq_true rfl) (Nat.le_of_ble_eq_true rfl) dX14_init_52 (fun a52 H hE1 hW => ?_)
  have hE : EX a a52 N0 := hE.trans hE1 hN
  have hN := n_nw e52 hN
  have g9 := ko_nw e52 g9
  have hW := aw_eq e52 hW
  have hl : lv_has ls 1 [(0, .ref (a52 o))] := by simp only [hE1 _ gr52]; exact hl
  refine W.eq (g2 := F0 m 54 ls [.ref (a52 s46.1), .ref (a52 o)]) (by simp only [hE1 _ gr52]) ?_
  refine W.widen (k := 6) (n := 213) (Nat.le_of_ble_eq_true rfl) (Nat.le_of_ble_eq_true rfl) ?_
  obtain ⟨gq54, hf⟩ := gd_some hf
  obtain ⟨s54, e54, hf⟩ := bnd_some hf
  refine aw_pR e54 hC hW g9 gq54 fl_X14_44 (Or.inr ⟨hnm, ff_X14_44⟩) rfl dX14_init_54 (fun H locs hW => ?_)
  have hN := n_pR e54 hN
  have g9 := ko_pR e54 g9
  refine lv_aload_n hx hb dX14_init_57 rfl (lv_at hl 0 rfl) ?_
  refine lv_bipush (v := 117) hx hb dX14_init_58 (by decide) ?_
  obtain ⟨gr60, hf⟩ := gd_some hf
  obtain ⟨s60, e60, hf⟩ := bnd_some hf
  refine aw_newI (atype := .int) (N := 117) 0 hC hW q181 rfl rfl (fun h => h) (cellI _ (by decide) rfl) (by decide) rfl (Nat.le_of_ble_eq_true rfl) (Nat.le_of_ble_eq_true rfl) (Nat.le_of_ble_eq_true rfl) dX14_init_60 (fun a60 H hE1 hW => ?_)
  have hE : EX a a60 N0 := hE.trans hE1 hN
  have hN := n_nw e60 hN
  have g9 := ko_nw e60 g9
  have hW := aw_eq e60 hW
  have hl : lv_has ls 1 [(0, .ref (a60 o))] := by simp only [hE1 _ gr60]; exact hl
  refine W.eq (g2 := F0 m 62 ls [.ref (a60 s54.1), .ref (a60 o)]) (by simp only [hE1 _ gr60]) ?_
  refine W.widen (k := 7) (n := 330) (Nat.le_of_ble_eq_true rfl) (Nat.le_of_ble_eq_true rfl) ?_
  obtain ⟨gq62, hf⟩ := gd_some hf
  obtain ⟨s62, e62, hf⟩ := bnd_some hf
  refine aw_pR e62 hC hW g9 gq62 fl_X14_47 (Or.inr ⟨hnm, ff_X14_47⟩) rfl dX14_init_62 (fun H locs hW => ?_)
  have hN := n_pR e62 hN
  have g9 := ko_pR e62 g9
  refine lv_aload_n hx hb dX14_init_65 rfl (lv_at hl 0 rfl) ?_
  refine lv_bipush (v := 80) hx hb dX14_init_66 (by decide) ?_
  obtain ⟨gr68, hf⟩ := gd_some hf
  obtain ⟨s68, e68, hf⟩ := bnd_some hf
  refine aw_newI (atype := .int) (N := 80) 0 hC hW q181 rfl rfl (fun h => h) (cellI _ (by decide) rfl) (by decide) rfl (Nat.le_of_ble_eq_true rfl) (Nat.le_of_ble_eq_true rfl) (Nat.le_of_ble_eq_true rfl) dX14_init_68 (fun a68 H hE1 hW => ?_)
  have hE : EX a a68 N0 := hE.trans hE1 hN
  have hN := n_nw e68 hN
  have g9 := ko_nw e68 g9
  have hW := aw_eq e68 hW
  have hl : lv_has ls 1 [(0, .ref (a68 o))] := by simp only [hE1 _ gr68]; exact hl
  refine W.eq (g2 := F0 m 70 ls [.ref (a68 s62.1), .ref (a68 o)]) (by simp only [hE1 _ gr68]) ?_
  refine W.widen (k := 8) (n := 410) (Nat.le_of_ble_eq_true rfl) (Nat.le_of_ble_eq_true rfl) ?_
  obtain ⟨gq70, hf⟩ := gd_some hf
  obtain ⟨s70, e70, hf⟩ := bnd_some hf
  refine aw_pR e70 hC hW g9 gq70 fl_X14_50 (Or.inr ⟨hnm, ff_X14_50⟩) rfl dX14_init_70 (fun H locs hW => ?_)
  have hN := n_pR e70 hN
  have g9 := ko_pR e70 g9
  refine lv_aload_n hx hb dX14_init_73 rfl (lv_at hl 0 rfl) ?_
  refine lv_bipush (v := 8) hx hb dX14_init_74 (by decide) ?_
  obtain ⟨gr76, hf⟩ := gd_some hf
  obtain ⟨s76, e76, hf⟩ := bnd_some hf
  refine aw_newI (atype := .int) (N := 8) 0 hC hW q181 rfl rfl (fun h => h) (cellI _ (by decide) rfl) (by decide) rfl (Nat.le_of_ble_eq_true rfl) (Nat.le_of_ble_eq_true rfl) (Nat.le_of_ble_eq_true rfl) dX14_init_76 (fun a76 H hE1 hW => ?_)
  have hE : EX a a76 N0 := hE.trans hE1 hN
  have hN := n_nw e76 hN
  have g9 := ko_nw e76 g9
  have hW := aw_eq e76 hW
  have hl : lv_has ls 1 [(0, .ref (a76 o))] := by simp only [hE1 _ gr76]; exact hl
  refine W.eq (g2 := F0 m 78 ls [.ref (a76 s70.1), .ref (a76 o)]) (by simp only [hE1 _ gr76]) ?_
  refine W.widen (k := 9) (n := 418) (Nat.le_of_ble_eq_true rfl) (Nat.le_of_ble_eq_true rfl) ?_
  obtain ⟨gq78, hf⟩ := gd_some hf
  obtain ⟨s78, e78, hf⟩ := bnd_some hf
  refine aw_pR e78 hC hW g9 gq78 fl_X14_53 (Or.inr ⟨hnm, ff_X14_53⟩) rfl dX14_init_78 (fun H locs hW => ?_)
  have hN := n_pR e78 hN
  have g9 := ko_pR e78 g9
  refine lv_aload_n hx hb dX14_init_81 rfl (lv_at hl 0 rfl) ?_
  refine lv_bipush (v := 8) hx hb dX14_init_82 (by decide) ?_
  obtain ⟨gr84, hf⟩ := gd_some hf
  obtain ⟨s84, e84, hf⟩ := bnd_some hf
  refine aw_newI (atype := .int) (N := 8) 0 hC hW q181 rfl rfl (fun h => h) (cellI _ (by decide) rfl) (by decide) rfl (Nat.le_of_ble_eq_true rfl) (Nat.le_of_ble_eq_true rfl) (Nat.le_of_ble_eq_true rfl) dX14_init_84 (fun a84 H hE1 hW => ?_)
  have hE : EX a a84 N0 := hE.trans hE1 hN
  have hN := n_nw e84 hN
  have g9 := ko_nw e84 g9
  have hW := aw_eq e84 hW
  have hl : lv_has ls 1 [(0, .ref (a84 o))] := by simp only [hE1 _ gr84]; exact hl
  refine W.eq (g2 := F0 m 86 ls [.ref (a84 s78.1), .ref (a84 o)]) (by simp only [hE1 _ gr84]) ?_
  refine W.widen (k := 10) (n := 426) (Nat.le_of_ble_eq_true rfl) (Nat.le_of_ble_eq_true rfl) ?_
  obtain ⟨gq86, hf⟩ := gd_some hf
  obtain ⟨s86, e86, hf⟩ := bnd_some hf
  refine aw_pR e86 hC hW g9 gq86 fl_X14_56 (Or.inr ⟨hnm, ff_X14_56⟩) rfl dX14_init_86 (fun H locs hW => ?_)
  have hN := n_pR e86 hN
  have g9 := ko_pR e86 g9
  refine lv_aload_n hx hb dX14_init_89 rfl (lv_at hl 0 rfl) ?_
  refine lv_bipush (v := 54) hx hb dX14_init_90 (by decide) ?_
  obtain ⟨gr92, hf⟩ := gd_some hf
  obtain ⟨s92, e92, hf⟩ := bnd_some hf
  refine aw_newI (atype := .int) (N := 54) 0 hC hW q181 rfl rfl (fun h => h) (cellI _ (by decide) rfl) (by decide) rfl (Nat.le_of_ble_eq_true rfl) (Nat.le_of_ble_eq_true rfl) (Nat.le_of_ble_eq_true rfl) dX14_init_92 (fun a92 H hE1 hW => ?_)
  have hE : EX a a92 N0 := hE.trans hE1 hN
  have hN := n_nw e92 hN
  have g9 := ko_nw e92 g9
  have hW := aw_eq e92 hW
  have hl : lv_has ls 1 [(0, .ref (a92 o))] := by simp only [hE1 _ gr92]; exact hl
  refine W.eq (g2 := F0 m 94 ls [.ref (a92 s86.1), .ref (a92 o)]) (by simp only [hE1 _ gr92]) ?_
  refine W.widen (k := 11) (n := 480) (Nat.le_of_ble_eq_true rfl) (Nat.le_of_ble_eq_true rfl) ?_
  obtain ⟨gq94, hf⟩ := gd_some hf
  obtain ⟨s94, e94, hf⟩ := bnd_some hf
  refine aw_pR e94 hC hW g9 gq94 fl_X14_59 (Or.inr ⟨hnm, ff_X14_59⟩) rfl dX14_init_94 (fun H locs hW => ?_)
  have hN := n_pR e94 hN
  have g9 := ko_pR e94 g9
  refine lv_aload_n hx hb dX14_init_97 rfl (lv_at hl 0 rfl) ?_
  refine lv_bipush (v := 9) hx hb dX14_init_98 (by decide) ?_
  obtain ⟨gr100, hf⟩ := gd_some hf
  obtain ⟨s100, e100, hf⟩ := bnd_some hf
  refine aw_newI (atype := .int) (N := 9) 0 hC hW q181 rfl rfl (fun h => h) (cellI _ (by decide) rfl) (by decide) rfl (Nat.le_of_ble_eq_true rfl) (Nat.le_of_ble_eq_true rfl) (Nat.le_of_ble_eq_true rfl) dX14_init_100 (fun a100 H hE1 hW => ?_)
  have hE : EX a a100 N0 := hE.trans hE1 hN
  have hN := n_nw e100 hN
  have g9 := ko_nw e100 g9
  have hW := aw_eq e100 hW
  have hl : lv_has ls 1 [(0, .ref (a100 o))] := by simp only [hE1 _ gr100]; exact hl
  refine W.eq (g2 := F0 m 102 ls [.ref (a100 s94.1), .ref (a100 o)]) (by simp only [hE1 _ gr100]) ?_
  refine W.widen (k := 12) (n := 489) (Nat.le_of_ble_eq_true rfl) (Nat.le_of_ble_eq_true rfl) ?_
  obtain ⟨gq102, hf⟩ := gd_some hf
  obtain ⟨s102, e102, hf⟩ := bnd_some hf
  refine aw_pR e102 hC hW g9 gq102 fl_X14_62 (Or.inr ⟨hnm, ff_X14_62⟩) rfl dX14_init_102 (fun H locs hW => ?_)
  have hN := n_pR e102 hN
  have g9 := ko_pR e102 g9
  refine lv_aload_n hx hb dX14_init_105 rfl (lv_at hl 0 rfl) ?_
  refine lv_bipush (v := 80) hx hb dX14_init_106 (by decide) ?_
  obtain ⟨gr108, hf⟩ := gd_some hf
  obtain ⟨s108, e108, hf⟩ := bnd_some hf
  refine aw_newI (atype := .int) (N := 80) 0 hC hW q181 rfl rfl (fun h => h) (cellI _ (by decide) rfl) (by decide) rfl (Nat.le_of_ble_eq_true rfl) (Nat.le_of_ble_eq_true rfl) (Nat.le_of_ble_eq_true rfl) dX14_init_108 (fun a108 H hE1 hW => ?_)
  have hE : EX a a108 N0 := hE.trans hE1 hN
  have hN := n_nw e108 hN
  have g9 := ko_nw e108 g9
  have hW := aw_eq e108 hW
  have hl : lv_has ls 1 [(0, .ref (a108 o))] := by simp only [hE1 _ gr108]; exact hl
  refine W.eq (g2 := F0 m 110 ls [.ref (a108 s102.1), .ref (a108 o)]) (by simp only [hE1 _ gr108]) ?_
  refine W.widen (k := 13) (n := 569) (Nat.le_of_ble_eq_true rfl) (Nat.le_of_ble_eq_true rfl) ?_
  obtain ⟨gq110, hf⟩ := gd_some hf
  obtain ⟨s110, e110, hf⟩ := bnd_some hf
  refine aw_pR e110 hC hW g9 gq110 fl_X14_65 (Or.inr ⟨hnm, ff_X14_65⟩) rfl dX14_init_110 (fun H locs hW => ?_)
  have hN := n_pR e110 hN
  have g9 := ko_pR e110 g9
  refine lv_aload_n hx hb dX14_init_113 rfl (lv_at hl 0 rfl) ?_
  refine lv_bipush (v := 80) hx hb dX14_init_114 (by decide) ?_
  obtain ⟨gr116, hf⟩ := gd_some hf
  obtain ⟨s116, e116, hf⟩ := bnd_some hf
  refine aw_newI (atype := .int) (N := 80) 0 hC hW q181 rfl rfl (fun h => h) (cellI _ (by decide) rfl) (by decide) rfl (Nat.le_of_ble_eq_true rfl) (Nat.le_of_ble_eq_true rfl) (Nat.le_of_ble_eq_true rfl) dX14_init_116 (fun a116 H hE1 hW => ?_)
  have hE : EX a a116 N0 := hE.trans hE1 hN
  have hN := n_nw e116 hN
  have g9 := ko_nw e116 g9
  have hW := aw_eq e116 hW
  have hl : lv_has ls 1 [(0, .ref (a116 o))] := by simp only [hE1 _ gr116]; exact hl
  refine W.eq (g2 := F0 m 118 ls [.ref (a116 s110.1), .ref (a116 o)]) (by simp only [hE1 _ gr116]) ?_
  refine W.widen (k := 14) (n := 649) (Nat.le_of_ble_eq_true rfl) (Nat.le_of_ble_eq_true rfl) ?_
  obtain ⟨gq118, hf⟩ := gd_some hf
  obtain ⟨s118, e118, hf⟩ := bnd_some hf
  refine aw_pR e118 hC hW g9 gq118 fl_X14_68 (Or.inr ⟨hnm, ff_X14_68⟩) rfl dX14_init_118 (fun H locs hW => ?_)
  have hN := n_pR e118 hN
  have g9 := ko_pR e118 g9
  refine lv_aload_n hx hb dX14_init_121 rfl (lv_at hl 0 rfl) ?_
  refine lv_bipush (v := 80) hx hb dX14_init_122 (by decide) ?_
  obtain ⟨gr124, hf⟩ := gd_some hf
  obtain ⟨s124, e124, hf⟩ := bnd_some hf
  refine aw_newI (atype := .int) (N := 80) 0 hC hW q181 rfl rfl (fun h => h) (cellI _ (by decide) rfl) (by decide) rfl (Nat.le_of_ble_eq_true rfl) (Nat.le_of_ble_eq_true rfl) (Nat.le_of_ble_eq_true rfl) dX14_init_124 (fun a124 H hE1 hW => ?_)
  have hE : EX a a124 N0 := hE.trans hE1 hN
  have hN := n_nw e124 hN
  have g9 := ko_nw e124 g9
  have hW := aw_eq e124 hW
  have hl : lv_has ls 1 [(0, .ref (a124 o))] := by simp only [hE1 _ gr124]; exact hl
  refine W.eq (g2 := F0 m 126 ls [.ref (a124 s118.1), .ref (a124 o)]) (by simp only [hE1 _ gr124]) ?_
  refine W.widen (k := 15) (n := 729) (Nat.le_of_ble_eq_true rfl) (Nat.le_of_ble_eq_true rfl) ?_
  obtain ⟨gq126, hf⟩ := gd_some hf
  obtain ⟨s126, e126, hf⟩ := bnd_some hf
  refine aw_pR e126 hC hW g9 gq126 fl_X14_71 (Or.inr ⟨hnm, ff_X14_71⟩) rfl dX14_init_126 (fun H locs hW => ?_)
  have hN := n_pR e126 hN
  have g9 := ko_pR e126 g9
  refine lv_aload_n hx hb dX14_init_129 rfl (lv_at hl 0 rfl) ?_
  refine lv_sipush (v := 2340) hx hb dX14_init_130 (by decide) ?_
  obtain ⟨gr133, hf⟩ := gd_some hf
  obtain ⟨s133, e133, hf⟩ := bnd_some hf
  refine aw_newI (atype := .int) (N := 2340) 0 hC hW q181 rfl rfl (fun h => h) (cellI _ (by decide) rfl) (by decide) rfl (Nat.le_of_ble_eq_true rfl) (Nat.le_of_ble_eq_true rfl) (Nat.le_of_ble_eq_true rfl) dX14_init_133 (fun a133 H hE1 hW => ?_)
  have hE : EX a a133 N0 := hE.trans hE1 hN
  have hN := n_nw e133 hN
  have g9 := ko_nw e133 g9
  have hW := aw_eq e133 hW
  have hl : lv_has ls 1 [(0, .ref (a133 o))] := by simp only [hE1 _ gr133]; exact hl
  refine W.eq (g2 := F0 m 135 ls [.ref (a133 s126.1), .ref (a133 o)]) (by simp only [hE1 _ gr133]) ?_
  refine W.widen (k := 16) (n := 3069) (Nat.le_of_ble_eq_true rfl) (Nat.le_of_ble_eq_true rfl) ?_
  obtain ⟨gq135, hf⟩ := gd_some hf
  obtain ⟨s135, e135, hf⟩ := bnd_some hf
  refine aw_pR e135 hC hW g9 gq135 fl_X14_74 (Or.inr ⟨hnm, ff_X14_74⟩) rfl dX14_init_135 (fun H locs hW => ?_)
  have hN := n_pR e135 hN
  have g9 := ko_pR e135 g9
  refine lv_aload_n hx hb dX14_init_138 rfl (lv_at hl 0 rfl) ?_
  refine lv_bipush (v := 61) hx hb dX14_init_139 (by decide) ?_
  obtain ⟨gr141, hf⟩ := gd_some hf
  obtain ⟨s141, e141, hf⟩ := bnd_some hf
  refine aw_newI (atype := .int) (N := 61) 0 hC hW q181 rfl rfl (fun h => h) (cellI _ (by decide) rfl) (by decide) rfl (Nat.le_of_ble_eq_true rfl) (Nat.le_of_ble_eq_true rfl) (Nat.le_of_ble_eq_true rfl) dX14_init_141 (fun a141 H hE1 hW => ?_)
  have hE : EX a a141 N0 := hE.trans hE1 hN
  have hN := n_nw e141 hN
  have g9 := ko_nw e141 g9
  have hW := aw_eq e141 hW
  have hl : lv_has ls 1 [(0, .ref (a141 o))] := by simp only [hE1 _ gr141]; exact hl
  refine W.eq (g2 := F0 m 143 ls [.ref (a141 s135.1), .ref (a141 o)]) (by simp only [hE1 _ gr141]) ?_
  refine W.widen (k := 17) (n := 3130) (Nat.le_of_ble_eq_true rfl) (Nat.le_of_ble_eq_true rfl) ?_
  obtain ⟨gq143, hf⟩ := gd_some hf
  obtain ⟨s143, e143, hf⟩ := bnd_some hf
  refine aw_pR e143 hC hW g9 gq143 fl_X14_77 (Or.inr ⟨hnm, ff_X14_77⟩) rfl dX14_init_143 (fun H locs hW => ?_)
  have hN := n_pR e143 hN
  have g9 := ko_pR e143 g9
  refine lv_aload_n hx hb dX14_init_146 rfl (lv_at hl 0 rfl) ?_
  refine lv_bipush (v := 8) hx hb dX14_init_147 (by decide) ?_
  obtain ⟨gr149, hf⟩ := gd_some hf
  obtain ⟨s149, e149, hf⟩ := bnd_some hf
  refine aw_newI (atype := .int) (N := 8) 0 hC hW q181 rfl rfl (fun h => h) (cellI _ (by decide) rfl) (by decide) rfl (Nat.le_of_ble_eq_true rfl) (Nat.le_of_ble_eq_true rfl) (Nat.le_of_ble_eq_true rfl) dX14_init_149 (fun a149 H hE1 hW => ?_)
  have hE : EX a a149 N0 := hE.trans hE1 hN
  have hN := n_nw e149 hN
  have g9 := ko_nw e149 g9
  have hW := aw_eq e149 hW
  have hl : lv_has ls 1 [(0, .ref (a149 o))] := by simp only [hE1 _ gr149]; exact hl
  refine W.eq (g2 := F0 m 151 ls [.ref (a149 s143.1), .ref (a149 o)]) (by simp only [hE1 _ gr149]) ?_
  refine W.widen (k := 18) (n := 3138) (Nat.le_of_ble_eq_true rfl) (Nat.le_of_ble_eq_true rfl) ?_
  obtain ⟨gq151, hf⟩ := gd_some hf
  obtain ⟨s151, e151, hf⟩ := bnd_some hf
  refine aw_pR e151 hC hW g9 gq151 fl_X14_80 (Or.inr ⟨hnm, ff_X14_80⟩) rfl dX14_init_151 (fun H locs hW => ?_)
  have hN := n_pR e151 hN
  have g9 := ko_pR e151 g9
  refine lv_aload_n hx hb dX14_init_154 rfl (lv_at hl 0 rfl) ?_
  refine lv_bipush (v := 8) hx hb dX14_init_155 (by decide) ?_
  obtain ⟨gr157, hf⟩ := gd_some hf
  obtain ⟨s157, e157, hf⟩ := bnd_some hf
  refine aw_newI (atype := .int) (N := 8) 0 hC hW q181 rfl rfl (fun h => h) (cellI _ (by decide) rfl) (by decide) rfl (Nat.le_of_ble_eq_true rfl) (Nat.le_of_ble_eq_true rfl) (Nat.le_of_ble_eq_true rfl) dX14_init_157 (fun a157 H hE1 hW => ?_)
  have hE : EX a a157 N0 := hE.trans hE1 hN
  have hN := n_nw e157 hN
  have g9 := ko_nw e157 g9
  have hW := aw_eq e157 hW
  have hl : lv_has ls 1 [(0, .ref (a157 o))] := by simp only [hE1 _ gr157]; exact hl
  refine W.eq (g2 := F0 m 159 ls [.ref (a157 s151.1), .ref (a157 o)]) (by simp only [hE1 _ gr157]) ?_
  refine W.widen (k := 19) (n := 3146) (Nat.le_of_ble_eq_true rfl) (Nat.le_of_ble_eq_true rfl) ?_
  obtain ⟨gq159, hf⟩ := gd_some hf
  obtain ⟨s159, e159, hf⟩ := bnd_some hf
  refine aw_pR e159 hC hW g9 gq159 fl_X14_83 (Or.inr ⟨hnm, ff_X14_83⟩) rfl dX14_init_159 (fun H locs hW => ?_)
  have hN := n_pR e159 hN
  have g9 := ko_pR e159 g9
  refine lv_aload_n hx hb dX14_init_162 rfl (lv_at hl 0 rfl) ?_
  refine lv_bipush (v := 12) hx hb dX14_init_163 (by decide) ?_
  obtain ⟨gr165, hf⟩ := gd_some hf
  obtain ⟨s165, e165, hf⟩ := bnd_some hf
  refine aw_newI (atype := .int) (N := 12) 0 hC hW q181 rfl rfl (fun h => h) (cellI _ (by decide) rfl) (by decide) rfl (Nat.le_of_ble_eq_true rfl) (Nat.le_of_ble_eq_true rfl) (Nat.le_of_ble_eq_true rfl) dX14_init_165 (fun a165 H hE1 hW => ?_)
  have hE : EX a a165 N0 := hE.trans hE1 hN
  have hN := n_nw e165 hN
  have g9 := ko_nw e165 g9
  have hW := aw_eq e165 hW
  have hl : lv_has ls 1 [(0, .ref (a165 o))] := by simp only [hE1 _ gr165]; exact hl
  refine W.eq (g2 := F0 m 167 ls [.ref (a165 s159.1), .ref (a165 o)]) (by simp only [hE1 _ gr165]) ?_
  refine W.widen (k := 20) (n := 3158) (Nat.le_of_ble_eq_true rfl) (Nat.le_of_ble_eq_true rfl) ?_
  obtain ⟨gq167, hf⟩ := gd_some hf
  obtain ⟨s167, e167, hf⟩ := bnd_some hf
  refine aw_pR e167 hC hW g9 gq167 fl_X14_86 (Or.inr ⟨hnm, ff_X14_86⟩) rfl dX14_init_167 (fun H locs hW => ?_)
  have hN := n_pR e167 hN
  have g9 := ko_pR e167 g9
  refine lv_aload_n hx hb dX14_init_170 rfl (lv_at hl 0 rfl) ?_
  refine lv_bipush (v := 12) hx hb dX14_init_171 (by decide) ?_
  obtain ⟨gr173, hf⟩ := gd_some hf
  obtain ⟨s173, e173, hf⟩ := bnd_some hf
  refine aw_newI (atype := .int) (N := 12) 0 hC hW q181 rfl rfl (fun h => h) (cellI _ (by decide) rfl) (by decide) rfl (Nat.le_of_ble_eq_true rfl) (Nat.le_of_ble_eq_true rfl) (Nat.le_of_ble_eq_true rfl) dX14_init_173 (fun a173 H hE1 hW => ?_)
  have hE : EX a a173 N0 := hE.trans hE1 hN
  have hN := n_nw e173 hN
  have g9 := ko_nw e173 g9
  have hW := aw_eq e173 hW
  have hl : lv_has ls 1 [(0, .ref (a173 o))] := by simp only [hE1 _ gr173]; exact hl
  refine W.eq (g2 := F0 m 175 ls [.ref (a173 s167.1), .ref (a173 o)]) (by simp only [hE1 _ gr173]) ?_
  refine W.widen (k := 21) (n := 3170) (Nat.le_of_ble_eq_true rfl) (Nat.le_of_ble_eq_true rfl) ?_
  obtain ⟨gq175, hf⟩ := gd_some hf
  obtain ⟨s175, e175, hf⟩ := bnd_some hf
  refine aw_pR e175 hC hW g9 gq175 fl_X14_89 (Or.inr ⟨hnm, ff_X14_89⟩) rfl dX14_init_175 (fun H locs hW => ?_)
  have hN := n_pR e175 hN
  have g9 := ko_pR e175 g9
  refine lv_aload_n hx hb dX14_init_178 rfl (lv_at hl 0 rfl) ?_
  refine lv_bipush (v := 10) hx hb dX14_init_179 (by decide) ?_
  obtain ⟨gr181, hf⟩ := gd_some hf
  obtain ⟨s181, e181, hf⟩ := bnd_some hf
  refine aw_newI (atype := .int) (N := 10) 0 hC hW q181 rfl rfl (fun h => h) (cellI _ (by decide) rfl) (by decide) rfl (Nat.le_of_ble_eq_true rfl) (Nat.le_of_ble_eq_true rfl) (Nat.le_of_ble_eq_true rfl) dX14_init_181 (fun a181 H hE1 hW => ?_)
  have hE : EX a a181 N0 := hE.trans hE1 hN
  have hN := n_nw e181 hN
  have g9 := ko_nw e181 g9
  have hW := aw_eq e181 hW
  have hl : lv_has ls 1 [(0, .ref (a181 o))] := by simp only [hE1 _ gr181]; exact hl
  refine W.eq (g2 := F0 m 183 ls [.ref (a181 s175.1), .ref (a181 o)]) (by simp only [hE1 _ gr181]) ?_
  refine W.widen (k := 22) (n := 3180) (Nat.le_of_ble_eq_true rfl) (Nat.le_of_ble_eq_true rfl) ?_
  obtain ⟨gq183, hf⟩ := gd_some hf
  obtain ⟨s183, e183, hf⟩ := bnd_some hf
  refine aw_pR e183 hC hW g9 gq183 fl_X14_92 (Or.inr ⟨hnm, ff_X14_92⟩) rfl dX14_init_183 (fun H locs hW => ?_)
  have hN := n_pR e183 hN
  have g9 := ko_pR e183 g9
  refine lv_aload_n hx hb dX14_init_186 rfl (lv_at hl 0 rfl) ?_
  refine lv_bipush (v := 10) hx hb dX14_init_187 (by decide) ?_
  obtain ⟨gr189, hf⟩ := gd_some hf
  obtain ⟨s189, e189, hf⟩ := bnd_some hf
  refine aw_newI (atype := .int) (N := 10) 0 hC hW q181 rfl rfl (fun h => h) (cellI _ (by decide) rfl) (by decide) rfl (Nat.le_of_ble_eq_true rfl) (Nat.le_of_ble_eq_true rfl) (Nat.le_of_ble_eq_true rfl) dX14_init_189 (fun a189 H hE1 hW => ?_)
  have hE : EX a a189 N0 := hE.trans hE1 hN
  have hN := n_nw e189 hN
  have g9 := ko_nw e189 g9
  have hW := aw_eq e189 hW
  have hl : lv_has ls 1 [(0, .ref (a189 o))] := by simp only [hE1 _ gr189]; exact hl
  refine W.eq (g2 := F0 m 191 ls [.ref (a189 s183.1), .ref (a189 o)]) (by simp only [hE1 _ gr189]) ?_
  refine W.widen (k := 23) (n := 3190) (Nat.le_of_ble_eq_true rfl) (Nat.le_of_ble_eq_true rfl) ?_
  obtain ⟨gq191, hf⟩ := gd_some hf
  obtain ⟨s191, e191, hf⟩ := bnd_some hf
  refine aw_pR e191 hC hW g9 gq191 fl_X14_95 (Or.inr ⟨hnm, ff_X14_95⟩) rfl dX14_init_191 (fun H locs hW => ?_)
  have hN := n_pR e191 hN
  have g9 := ko_pR e191 g9
  refine lv_aload_n hx hb dX14_init_194 rfl (lv_at hl 0 rfl) ?_
  refine lv_bipush (v := 9) hx hb dX14_init_195 (by decide) ?_
  obtain ⟨gr197, hf⟩ := gd_some hf
  obtain ⟨s197, e197, hf⟩ := bnd_some hf
  refine aw_newI (atype := .long) (N := 9) 4 hC hW q210 rfl rfl (fun h => h) (cellL _) (by decide) rfl (Nat.le_of_ble_eq_true rfl) (Nat.le_of_ble_eq_true rfl) (Nat.le_of_ble_eq_true rfl) dX14_init_197 (fun a197 H hE1 hW => ?_)
  have hE : EX a a197 N0 := hE.trans hE1 hN
  have hN := n_nw e197 hN
  have g9 := ko_nw e197 g9
  have hW := aw_eq e197 hW
  have hl : lv_has ls 1 [(0, .ref (a197 o))] := by simp only [hE1 _ gr197]; exact hl
  refine W.eq (g2 := F0 m 199 ls [.ref (a197 s191.1), .ref (a197 o)]) (by simp only [hE1 _ gr197]) ?_
  refine W.widen (k := 24) (n := 3199) (Nat.le_of_ble_eq_true rfl) (Nat.le_of_ble_eq_true rfl) ?_
  obtain ⟨gq199, hf⟩ := gd_some hf
  obtain ⟨s199, e199, hf⟩ := bnd_some hf
  refine aw_pR e199 hC hW g9 gq199 fl_X14_98 (Or.inr ⟨hnm, ff_X14_98⟩) rfl dX14_init_199 (fun H locs hW => ?_)
  have hN := n_pR e199 hN
  have g9 := ko_pR e199 g9
  refine lv_aload_n hx hb dX14_init_202 rfl (lv_at hl 0 rfl) ?_
  refine lv_bipush (v := 9) hx hb dX14_init_203 (by decide) ?_
  obtain ⟨gr205, hf⟩ := gd_some hf
  obtain ⟨s205, e205, hf⟩ := bnd_some hf
  refine aw_newI (atype := .long) (N := 9) 4 hC hW q210 rfl rfl (fun h => h) (cellL _) (by decide) rfl (Nat.le_of_ble_eq_true rfl) (Nat.le_of_ble_eq_true rfl) (Nat.le_of_ble_eq_true rfl) dX14_init_205 (fun a205 H hE1 hW => ?_)
  have hE : EX a a205 N0 := hE.trans hE1 hN
  have hN := n_nw e205 hN
  have g9 := ko_nw e205 g9
  have hW := aw_eq e205 hW
  have hl : lv_has ls 1 [(0, .ref (a205 o))] := by simp only [hE1 _ gr205]; exact hl
  refine W.eq (g2 := F0 m 207 ls [.ref (a205 s199.1), .ref (a205 o)]) (by simp only [hE1 _ gr205]) ?_
  refine W.widen (k := 25) (n := 3208) (Nat.le_of_ble_eq_true rfl) (Nat.le_of_ble_eq_true rfl) ?_
  obtain ⟨gq207, hf⟩ := gd_some hf
  obtain ⟨s207, e207, hf⟩ := bnd_some hf
  refine aw_pR e207 hC hW g9 gq207 fl_X14_101 (Or.inr ⟨hnm, ff_X14_101⟩) rfl dX14_init_207 (fun H locs hW => ?_)
  have hN := n_pR e207 hN
  have g9 := ko_pR e207 g9
  refine lv_aload_n hx hb dX14_init_210 rfl (lv_at hl 0 rfl) ?_
  refine lv_bipush (v := 117) hx hb dX14_init_211 (by decide) ?_
  obtain ⟨gr213, hf⟩ := gd_some hf
  obtain ⟨s213, e213, hf⟩ := bnd_some hf
  refine aw_newI (atype := .int) (N := 117) 0 hC hW q181 rfl rfl (fun h => h) (cellI _ (by decide) rfl) (by decide) rfl (Nat.le_of_ble_eq_true rfl) (Nat.le_of_ble_eq_true rfl) (Nat.le_of_ble_eq_true rfl) dX14_init_213 (fun a213 H hE1 hW => ?_)
  have hE : EX a a213 N0 := hE.trans hE1 hN
  have hN := n_nw e213 hN
  have g9 := ko_nw e213 g9
  have hW := aw_eq e213 hW
  have hl : lv_has ls 1 [(0, .ref (a213 o))] := by simp only [hE1 _ gr213]; exact hl
  refine W.eq (g2 := F0 m 215 ls [.ref (a213 s207.1), .ref (a213 o)]) (by simp only [hE1 _ gr213]) ?_
  refine W.widen (k := 26) (n := 3325) (Nat.le_of_ble_eq_true rfl) (Nat.le_of_ble_eq_true rfl) ?_
  obtain ⟨gq215, hf⟩ := gd_some hf
  obtain ⟨s215, e215, hf⟩ := bnd_some hf
  refine aw_pR e215 hC hW g9 gq215 fl_X14_104 (Or.inr ⟨hnm, ff_X14_104⟩) rfl dX14_init_215 (fun H locs hW => ?_)
  have hN := n_pR e215 hN
  have g9 := ko_pR e215 g9
  refine lv_aload_n hx hb dX14_init_218 rfl (lv_at hl 0 rfl) ?_
  refine lv_iconst (v := 3) hx hb dX14_init_219 (by decide) ?_
  obtain ⟨gr220, hf⟩ := gd_some hf
  obtain ⟨s220, e220, hf⟩ := bnd_some hf
  refine aw_newI (atype := .boolean) (N := 3) 3 hC hW q1505 rfl rfl (fun h => h) (cellI _ (by decide) rfl) (by decide) rfl (Nat.le_of_ble_eq_true rfl) (Nat.le_of_ble_eq_true rfl) (Nat.le_of_ble_eq_true rfl) dX14_init_220 (fun a220 H hE1 hW => ?_)
  have hE : EX a a220 N0 := hE.trans hE1 hN
  have hN := n_nw e220 hN
  have g9 := ko_nw e220 g9
  have hW := aw_eq e220 hW
  have hl : lv_has ls 1 [(0, .ref (a220 o))] := by simp only [hE1 _ gr220]; exact hl
  refine W.eq (g2 := F0 m 222 ls [.ref (a220 s215.1), .ref (a220 o)]) (by simp only [hE1 _ gr220]) ?_
  refine W.widen (k := 27) (n := 3328) (Nat.le_of_ble_eq_true rfl) (Nat.le_of_ble_eq_true rfl) ?_
  obtain ⟨gq222, hf⟩ := gd_some hf
  obtain ⟨s222, e222, hf⟩ := bnd_some hf
  refine aw_pR e222 hC hW g9 gq222 fl_X14_107 (Or.inr ⟨hnm, ff_X14_107⟩) rfl dX14_init_222 (fun H locs hW => ?_)
  have hN := n_pR e222 hN
  have g9 := ko_pR e222 g9
  refine lv_aload_n hx hb dX14_init_225 rfl (lv_at hl 0 rfl) ?_
  refine lv_iconst (v := 3) hx hb dX14_init_226 (by decide) ?_
  obtain ⟨gr227, hf⟩ := gd_some hf
  obtain ⟨s227, e227, hf⟩ := bnd_some hf
  refine aw_newI (atype := .int) (N := 3) 0 hC hW q181 rfl rfl (fun h => h) (cellI _ (by decide) rfl) (by decide) rfl (Nat.le_of_ble_eq_true rfl) (Nat.le_of_ble_eq_true rfl) (Nat.le_of_ble_eq_true rfl) dX14_init_227 (fun a227 H hE1 hW => ?_)
  have hE : EX a a227 N0 := hE.trans hE1 hN
  have hN := n_nw e227 hN
  have g9 := ko_nw e227 g9
  have hW := aw_eq e227 hW
  have hl : lv_has ls 1 [(0, .ref (a227 o))] := by simp only [hE1 _ gr227]; exact hl
  refine W.eq (g2 := F0 m 229 ls [.ref (a227 s222.1), .ref (a227 o)]) (by simp only [hE1 _ gr227]) ?_
  refine W.widen (k := 28) (n := 3331) (Nat.le_of_ble_eq_true rfl) (Nat.le_of_ble_eq_true rfl) ?_
  obtain ⟨gq229, hf⟩ := gd_some hf
  obtain ⟨s229, e229, hf⟩ := bnd_some hf
  refine aw_pR e229 hC hW g9 gq229 fl_X14_111 (Or.inr ⟨hnm, ff_X14_111⟩) rfl dX14_init_229 (fun H locs hW => ?_)
  have hN := n_pR e229 hN
  have g9 := ko_pR e229 g9
  refine lv_aload_n hx hb dX14_init_232 rfl (lv_at hl 0 rfl) ?_
  refine lv_sipush (v := 351) hx hb dX14_init_233 (by decide) ?_
  obtain ⟨gr236, hf⟩ := gd_some hf
  obtain ⟨s236, e236, hf⟩ := bnd_some hf
  refine aw_newI (atype := .int) (N := 351) 0 hC hW q181 rfl rfl (fun h => h) (cellI _ (by decide) rfl) (by decide) rfl (Nat.le_of_ble_eq_true rfl) (Nat.le_of_ble_eq_true rfl) (Nat.le_of_ble_eq_true rfl) dX14_init_236 (fun a236 H hE1 hW => ?_)
  have hE : EX a a236 N0 := hE.trans hE1 hN
  have hN := n_nw e236 hN
  have g9 := ko_nw e236 g9
  have hW := aw_eq e236 hW
  have hl : lv_has ls 1 [(0, .ref (a236 o))] := by simp only [hE1 _ gr236]; exact hl
  refine W.eq (g2 := F0 m 238 ls [.ref (a236 s229.1), .ref (a236 o)]) (by simp only [hE1 _ gr236]) ?_
  refine W.widen (k := 29) (n := 3682) (Nat.le_of_ble_eq_true rfl) (Nat.le_of_ble_eq_true rfl) ?_
  obtain ⟨gq238, hf⟩ := gd_some hf
  obtain ⟨s238, e238, hf⟩ := bnd_some hf
  refine aw_pR e238 hC hW g9 gq238 fl_X14_114 (Or.inr ⟨hnm, ff_X14_114⟩) rfl dX14_init_238 (fun H locs hW => ?_)
  have hN := n_pR e238 hN
  have g9 := ko_pR e238 g9
  refine lv_aload_n hx hb dX14_init_241 rfl (lv_at hl 0 rfl) ?_
  obtain ⟨q242, hq242, hf⟩ := bi_some hf
  refine aw_gR hC hW g9 fl_X14_44 rfl hq242 dX14_init_242 ?_
  refine lv_bipush (v := 17) hx hb dX14_init_245 (by decide) ?_
  refine lv_iconst (v := (-1)) hx hb dX14_init_247 (by decide) ?_
  obtain ⟨g248, hf⟩ := gd_some hf
  obtain ⟨s248, e248, hf⟩ := bnd_some hf
  refine aw_iast e248 hC hW g248 dX14_init_248 (fun H locs hW => ?_)
  have hN := n_pI e248 hN
  have g9 := ko_pI e248 g9
  obtain ⟨e1, e2⟩ := so_inj hf
  exact aw_vret hC hW hr (p_eq (hP _ hE (e2 ▸ hN)) rfl e2) (Nat.le_of_ble_eq_true rfl) (Nat.le_of_ble_eq_true rfl) dX14_init_249
def f_X18_init (o : Nat) (r1 : Nat) (s : ST) : Option (Unit × ST) :=
  gd (o < s.1 ∧ (kd s o).1 = 18) <|
  gd (r1 < s.1) <|
  bnd (pR s o 2 (some r1)) fun s2 =>
  gd (o < s2.1) <|
  gd (r1 < s2.1) <|
  bnd (nw s2 2 0 (fun _ => 0)) fun s10 =>
  gd (o < s10.1) <|
  gd (r1 < s10.1) <|
  gd (s2.1 < s10.1) <|
  ob (f_X2_init s2.1 s10) fun _ s14 =>
  gd (o < s14.1 ∧ (kd s14 o).1 = 18) <|
  gd (s2.1 < s14.1) <|
  bnd (pR s14 o 0 (some s2.1)) fun s17 =>
  (gr s17 o 2).bind fun q22 =>
  gd (q22 < s17.1 ∧ (kd s17 q22).1 = 1) <|
  bnd (pI s17 o 1 (gi s17 q22 5)) fun s28 =>
  (gr s28 o 0).bind fun q32 =>
  gd (r1 < s28.1 ∧ (kd s28 r1).1 = 1) <|
  (gr s28 r1 1).bind fun q36 =>
  gd (q32 < s28.1 ∧ (kd s28 q32).1 = 2) <|
  ob (f_X2_be q32 q36 s28) fun _ s39 =>
  gd (s28.1 ≤ s39.1) <|
  some ((), s39)
set_option maxHeartbeats 4000000 in
theorem cta_X18_init (l : Launch) (G : GM) (a : Nat → Nat) (o : Nat) (r1 : Nat) (s : ST) (rv : Unit) (sf : ST) (hf : f_X18_init o r1 s = some (rv, sf)) : MA l G yX18_init (ws_ yX18_init cX18_init 2 none) 2 7 123 [.ref (a o), .ref (a r1)] a s (fun _ => none) sf := by
  refine ma_of (d := 2) (mc := 7) (ms := 123) (lv := [(0, .ref (a o)), (1, .ref (a r1))]) (Or.inl (by decide)) (Nat.le_of_ble_eq_true rfl) rfl ?_
  intro p e s0 m args below meth c ls A P hP hC hr hnm hW hl
  have hx := hC.1
  have hb := hC.2.1
  have hts := hC.2.2.2.2.1
  obtain ⟨N0, hN0⟩ : ∃ N0, N0 = s.1 := ⟨_, rfl⟩
  rw [← hN0] at hP
  have hE : EX a a N0 := EX.rf
  have hN : N0 ≤ s.1 := Nat.le_of_eq hN0
  unfold f_X18_init at hf
  refine lv_aload_n hx hb dX18_init_0 rfl (lv_at hl 0 rfl) ?_
  refine lv_aload_n hx hb dX18_init_1 rfl (lv_at hl 1 rfl) ?_
  obtain ⟨g2, hf⟩ := gd_some hf
  obtain ⟨gq2, hf⟩ := gd_some hf
  obtain ⟨s2, e2, hf⟩ := bnd_some hf
  refine aw_pR e2 hC hW g2 gq2 fl_X18_1 (Or.inr ⟨hnm, ff_X18_1⟩) rfl dX18_init_2 (fun H locs hW => ?_)
  have hN := n_pR e2 hN
  have g2 := ko_pR e2 g2
  refine lv_aload_n hx hb dX18_init_5 rfl (lv_at hl 0 rfl) ?_
  refine W.objInit hx hb hC.2.2.2.1 (hts _ q1276) (hts _ q113) (hts _ q114) rfl (by rw [hC.2.2.1]; exact hl.1) rfl dX18_init_6 (Nat.le_of_ble_eq_true rfl) (Nat.le_of_ble_eq_true rfl) ?_
  refine W.eq (g2 := F0 m 9 ls []) rfl ?_
  refine lv_aload_n hx hb dX18_init_9 rfl (lv_at hl 0 rfl) ?_
  obtain ⟨gr10, hf⟩ := gd_some hf
  obtain ⟨gr10_1, hf⟩ := gd_some hf
  obtain ⟨s10, e10, hf⟩ := bnd_some hf
  refine aw_new (q := (RX2, TX2, 11)) (ci := 1) hC hW rfl q1277 q118 q76 okT_X2 (Nat.le_of_ble_eq_true rfl) (Nat.le_of_ble_eq_true rfl) dX18_init_10 (fun a10 H hE1 hW => ?_)
  have hE : EX a a10 N0 := hE.trans hE1 hN
  have hN := n_nw e10 hN
  have g2 := ko_nw e10 g2
  have hW := aw_eq e10 hW
  have hl : lv_has ls 2 [(0, .ref (a10 o)), (1, .ref (a10 r1))] := by simp only [hE1 _ gr10, hE1 _ gr10_1]; exact hl
  refine W.eq (g2 := F0 m 13 ls [.ref (a10 s2.1), .ref (a10 o)]) (by simp only [hE1 _ gr10, hE1 _ gr10_1]) ?_
  refine W.widen (k := 1) (n := 11) (Nat.le_of_ble_eq_true rfl) (Nat.le_of_ble_eq_true rfl) ?_
  have gn10 := ko_new e10
  refine lv_dup hx hb dX18_init_13 rfl ?_
  obtain ⟨gr14, hf⟩ := gd_some hf
  obtain ⟨gr14_1, hf⟩ := gd_some hf
  obtain ⟨gr14_2, hf⟩ := gd_some hf
  obtain ⟨_, s14, h14, hf⟩ := ob_some hf
  refine aw_run hC hW (aw_runI hC hW hl.1 (r := s2.1) (As := []) (rest := [.ref (a10 s2.1), .ref (a10 o)]) (cta_X2_init l G a10 s2.1 s10 () s14 h14) iy_X2_init (Or.inr ⟨_, q1278⟩) rfl rfl (Nat.le_of_ble_eq_true rfl) ⟨Nat.le_of_ble_eq_true rfl, Nat.le_of_ble_eq_true rfl⟩ ⟨Nat.le_of_ble_eq_true rfl, Nat.le_of_ble_eq_true rfl⟩ dX18_init_14) (fun v9 a14 s9 H locs hp9 hW => ?_)
  obtain ⟨rfl, h9s, hE1, hN1⟩ := hp9
  rw [h9s] at hW
  have hE : EX a a14 N0 := hE.trans hE1 hN
  have hN := Nat.le_trans hN hN1
  have hl : lv_has ls 2 [(0, .ref (a14 o)), (1, .ref (a14 r1))] := by simp only [hE1 _ gr14, hE1 _ gr14_1, hE1 _ gr14_2]; exact hl
  refine W.eq (g2 := F0 m 17 ls [.ref (a14 s2.1), .ref (a14 o)]) (by show F0 m 17 ls [.ref (a10 s2.1), .ref (a10 o)] = _; simp only [hE1 _ gr14, hE1 _ gr14_1, hE1 _ gr14_2]) ?_
  refine W.widen (k := 7) (n := 123) (Nat.le_of_ble_eq_true rfl) (Nat.le_of_ble_eq_true rfl) ?_
  obtain ⟨g17, hf⟩ := gd_some hf
  obtain ⟨gq17, hf⟩ := gd_some hf
  obtain ⟨s17, e17, hf⟩ := bnd_some hf
  refine aw_pR e17 hC hW g17 gq17 fl_X18_16 (Or.inr ⟨hnm, ff_X18_16⟩) rfl dX18_init_17 (fun H locs hW => ?_)
  have hN := n_pR e17 hN
  have g17 := ko_pR e17 g17
  refine lv_aload_n hx hb dX18_init_20 rfl (lv_at hl 0 rfl) ?_
  refine lv_aload_n hx hb dX18_init_21 rfl (lv_at hl 0 rfl) ?_
  obtain ⟨q22, hq22, hf⟩ := bi_some hf
  refine aw_gR hC hW g17 fl_X18_1 rfl hq22 dX18_init_22 ?_
  obtain ⟨g25, hf⟩ := gd_some hf
  refine aw_gI hC hW g25 fl_X18_20 rfl dX18_init_25 ?_
  obtain ⟨s28, e28, hf⟩ := bnd_some hf
  refine aw_pI e28 hC hW g17 fl_X18_26 (Or.inr ⟨hnm, ff_X18_26⟩) rfl rfl rfl dX18_init_28 (fun H locs hW => ?_)
  have hN := n_pI e28 hN
  have g17 := ko_pI e28 g17
  have g25 := ko_pI e28 g25
  refine lv_aload_n hx hb dX18_init_31 rfl (lv_at hl 0 rfl) ?_
  obtain ⟨q32, hq32, hf⟩ := bi_some hf
  refine aw_gR hC hW g17 fl_X18_16 rfl hq32 dX18_init_32 ?_
  refine lv_aload_n hx hb dX18_init_35 rfl (lv_at hl 1 rfl) ?_
  obtain ⟨g36, hf⟩ := gd_some hf
  obtain ⟨q36, hq36, hf⟩ := bi_some hf
  refine aw_gR hC hW g36 fl_X18_29 rfl hq36 dX18_init_36 ?_
  obtain ⟨g39, hf⟩ := gd_some hf
  obtain ⟨_, s39, h39, hf⟩ := ob_some hf
  obtain ⟨hN1, hf⟩ := gd_some hf
  have hN := Nat.le_trans hN hN1
  refine aw_dV0 (r := q32) (As := [.ref (a14 q36)]) (rest := []) (ct_X2_be l G a14 q32 q36 s28 () s39 h39) hC hW hl.1 vy_X2_be (Or.inl q1279) g39 rfl rfl rfl rfl (Nat.le_of_ble_eq_true rfl) ⟨Nat.le_of_ble_eq_true rfl, Nat.le_of_ble_eq_true rfl⟩ ⟨Nat.le_of_ble_eq_true rfl, Nat.le_of_ble_eq_true rfl⟩ dX18_init_39 (fun H locs hW => ?_)
  obtain ⟨e1, e2⟩ := so_inj hf
  exact aw_vret hC hW hr (p_eq (hP _ hE (e2 ▸ hN)) rfl e2) (Nat.le_of_ble_eq_true rfl) (Nat.le_of_ble_eq_true rfl) dX18_init_42
def f_X1_words (o : Nat) (x1 : Int32) (s : ST) : Option (Nat × ST) :=
  gd (o < s.1) <|
  bnd (nw s 15 0 (fun _ => 0)) fun s0z =>
  gd (o < s0z.1 ∧ (kd s0z o).1 = 1) <|
  (gr s0z o 9).bind fun q5 =>
  ob (f_X15_init s.1 q5 (gi s0z o 10) x1 s0z) fun _ s13 =>
  gd (s0z.1 ≤ s13.1) <|
  gd (o < s13.1 ∧ (kd s13 o).1 = 1) <|
  bnd (pI s13 o 10 0) fun s19 =>
  some (s.1, s19)
set_option maxHeartbeats 4000000 in
theorem cta_X1_words (l : Launch) (G : GM) (a : Nat → Nat) (o : Nat) (x1 : Int32) (s : ST) (rv : Nat) (sf : ST) (hf : f_X1_words o x1 s = some (rv, sf)) : MA l G yX1_words (ws_ yX1_words cX1_words 3 (some (.object "HeavierServes$Words"))) 2 1 4 [.ref (a o), .int x1] a s (fun a' => (some (.ref (a' rv)))) sf := by
  refine ma_of (d := 2) (mc := 1) (ms := 4) (lv := [(0, .ref (a o)), (1, .int x1)]) (Or.inl (by decide)) (Nat.le_of_ble_eq_true rfl) rfl ?_
  intro p e s0 m args below meth c ls A P hP hC hr hnm hW hl
  have hx := hC.1
  have hb := hC.2.1
  have hts := hC.2.2.2.2.1
  obtain ⟨N0, hN0⟩ : ∃ N0, N0 = s.1 := ⟨_, rfl⟩
  rw [← hN0] at hP
  have hE : EX a a N0 := EX.rf
  have hN : N0 ≤ s.1 := Nat.le_of_eq hN0
  unfold f_X1_words at hf
  obtain ⟨gr0, hf⟩ := gd_some hf
  obtain ⟨s0z, e0, hf⟩ := bnd_some hf
  refine aw_new (q := (RX15, TX15, 4)) (ci := 14) hC hW rfl q526 q527 q89 okT_X15 (Nat.le_of_ble_eq_true rfl) (Nat.le_of_ble_eq_true rfl) dX1_words_0 (fun a0 H hE1 hW => ?_)
  have hE : EX a a0 N0 := hE.trans hE1 hN
  have hN := n_nw e0 hN
  have hW := aw_eq e0 hW
  have hl : lv_has ls 3 [(0, .ref (a0 o)), (1, .int x1)] := by simp only [hE1 _ gr0]; exact hl
  refine W.eq (g2 := F0 m 3 ls [.ref (a0 s.1)]) rfl ?_
  refine W.widen (k := 1) (n := 4) (Nat.le_of_ble_eq_true rfl) (Nat.le_of_ble_eq_true rfl) ?_
  have gn0 := ko_new e0
  refine lv_dup hx hb dX1_words_3 rfl ?_
  refine lv_aload_n hx hb dX1_words_4 rfl (lv_at hl 0 rfl) ?_
  obtain ⟨g5, hf⟩ := gd_some hf
  obtain ⟨q5, hq5, hf⟩ := bi_some hf
  refine aw_gR hC hW g5 fl_X1_33 rfl hq5 dX1_words_5 ?_
  refine lv_aload_n hx hb dX1_words_8 rfl (lv_at hl 0 rfl) ?_
  refine aw_gI hC hW g5 fl_X1_186 rfl dX1_words_9 ?_
  refine lv_iload_n hx hb dX1_words_12 rfl (lv_at hl 1 rfl) ?_
  obtain ⟨_, s13, h13, hf⟩ := ob_some hf
  obtain ⟨hN1, hf⟩ := gd_some hf
  have hN := Nat.le_trans hN hN1
  refine aw_dI0 (r := s.1) (As := [.ref (a0 q5), .int (gi s0z o 10), .int x1]) (rest := [.ref (a0 s.1)]) (ct_X15_init l G a0 s.1 q5 (gi s0z o 10) x1 s0z () s13 h13) hC hW hl.1 iy_X15_init (Or.inl q528) rfl rfl (Nat.le_of_ble_eq_true rfl) ⟨Nat.le_of_ble_eq_true rfl, Nat.le_of_ble_eq_true rfl⟩ ⟨Nat.le_of_ble_eq_true rfl, Nat.le_of_ble_eq_true rfl⟩ dX1_words_13 (fun H locs hW => ?_)
  refine lv_astore_n (lv' := [(2, .ref (a0 s.1)), (0, .ref (a0 o)), (1, .int x1)]) hx hb dX1_words_16 rfl hl (by decide) rfl (fun ls hl => ?_)
  refine lv_aload_n hx hb dX1_words_17 rfl (lv_at hl 1 rfl) ?_
  refine lv_iconst (v := 0) hx hb dX1_words_18 (by decide) ?_
  obtain ⟨g19, hf⟩ := gd_some hf
  obtain ⟨s19, e19, hf⟩ := bnd_some hf
  refine aw_pI e19 hC hW g19 fl_X1_186 (Or.inl fn_0_10) rfl rfl rfl dX1_words_19 (fun H locs hW => ?_)
  have hN := n_pI e19 hN
  have g19 := ko_pI e19 g19
  refine lv_aload_n hx hb dX1_words_22 rfl (lv_at hl 0 rfl) ?_
  obtain ⟨e1, e2⟩ := so_inj hf
  exact aw_aret hC hW hr (Or.inl ⟨_, rfl⟩) (p_eq (hP _ hE (e2 ▸ hN)) (congrArg (fun z => some (Value.ref (a0 z))) e1) e2) (Nat.le_of_ble_eq_true rfl) (Nat.le_of_ble_eq_true rfl) dX1_words_23
def f_X1_keep (o : Nat) (x1 : Int32) (s : ST) : Option (Int32 × ST) :=
  bnd (p_in ((x1 : Int32).toInt64) 0 2) fun v6 =>
  if v6 = 0 then (some (0, s)) else gd (o < s.1 ∧ (kd s o).1 = 1) <|
  (gr s o 39).bind fun q15 =>
  gd (o < s.1) <|
  gd (q15 < s.1) <|
  bnd (nw s 18 0 (fun _ => 0)) fun s19 =>
  gd (o < s19.1) <|
  gd (s.1 < s19.1) <|
  gd (q15 < s19.1) <|
  ob (f_X18_init s.1 o s19) fun _ s24 =>
  gd (q15 < s24.1 ∧ (kd s24 q15).1 = 107 ∧ ¬ ((x1 : Int32) < 0 ∨ (kd s24 q15).2 ≤ (x1 : Int32).toNatClampNeg)) <|
  gd (s.1 < s24.1 ∧ (kd s24 s.1).1 = 18) <|
  bnd (pR s24 q15 (x1 : Int32).toNatClampNeg (some s.1)) fun s27 =>
  some (1, s27)
set_option maxHeartbeats 4000000 in
theorem cta_X1_keep (l : Launch) (G : GM) (a : Nat → Nat) (o : Nat) (x1 : Int32) (s : ST) (rv : Int32) (sf : ST) (hf : f_X1_keep o x1 s = some (rv, sf)) : MA l G yX1_keep (ws_ yX1_keep cX1_keep 2 (some .boolean)) 3 8 126 [.ref (a o), .int x1] a s (fun _ => (some (.int rv))) sf := by
  refine ma_of (d := 3) (mc := 8) (ms := 126) (lv := [(0, .ref (a o)), (1, .int x1)]) (Or.inl (by decide)) (Nat.le_of_ble_eq_true rfl) rfl ?_
  intro p e s0 m args below meth c ls A P hP hC hr hnm hW hl
  have hx := hC.1
  have hb := hC.2.1
  have hts := hC.2.2.2.2.1
  obtain ⟨N0, hN0⟩ : ∃ N0, N0 = s.1 := ⟨_, rfl⟩
  rw [← hN0] at hP
  have hE : EX a a N0 := EX.rf
  have hN : N0 ≤ s.1 := Nat.le_of_eq hN0
  unfold f_X1_keep at hf
  refine lv_iload_n hx hb dX1_keep_0 rfl (lv_at hl 1 rfl) ?_
  refine lv_i2l (v := (x1 : Int32).toInt64) hx hb dX1_keep_1 rfl ?_
  refine lv_lconst (v := 0) hx hb dX1_keep_2 (by decide) ?_
  refine lv_ldc2 (v := 2) hx hb hC.2.2.2.1 (hts _ q1242) dX1_keep_3 ?_
  obtain ⟨v6, ev6, hf⟩ := bnd_some hf
  refine aw_dS1 (As := [.long ((x1 : Int32).toInt64), .long 0, .long 2]) (rest := []) (pc_X1_in l G a ((x1 : Int32).toInt64) 0 2 s) hC hW hl.1 sy_X1_in (Or.inl q514) rfl rfl (Nat.le_of_ble_eq_true rfl) ⟨Nat.le_of_ble_eq_true rfl, Nat.le_of_ble_eq_true rfl⟩ ⟨Nat.le_of_ble_eq_true rfl, Nat.le_of_ble_eq_true rfl⟩ dX1_keep_6 (fun H locs hW => ?_)
  refine top_i ev6 ?_
  refine lv_if_ne (tgt := 14) hx hb dX1_keep_9 (by decide) (fun c9 => ?_) (fun c9 => ?_)
  · have hf := ifn c9 hf
    refine lv_aload_n hx hb dX1_keep_14 rfl (lv_at hl 0 rfl) ?_
    obtain ⟨g15, hf⟩ := gd_some hf
    obtain ⟨q15, hq15, hf⟩ := bi_some hf
    refine aw_gR hC hW g15 fl_X1_150 rfl hq15 dX1_keep_15 ?_
    refine lv_iload_n hx hb dX1_keep_18 rfl (lv_at hl 1 rfl) ?_
    obtain ⟨gr19, hf⟩ := gd_some hf
    obtain ⟨gr19_1, hf⟩ := gd_some hf
    obtain ⟨s19, e19, hf⟩ := bnd_some hf
    refine aw_new (q := (RX18, TX18, 3)) (ci := 17) hC hW rfl q366 q1272 q106 okT_X18 (Nat.le_of_ble_eq_true rfl) (Nat.le_of_ble_eq_true rfl) dX1_keep_19 (fun a19 H hE1 hW => ?_)
    have hE : EX a a19 N0 := hE.trans hE1 hN
    have hN := n_nw e19 hN
    have g15 := ko_nw e19 g15
    have hW := aw_eq e19 hW
    have hl : lv_has ls 2 [(0, .ref (a19 o)), (1, .int x1)] := by simp only [hE1 _ gr19, hE1 _ gr19_1]; exact hl
    refine W.eq (g2 := F0 m 22 ls [.ref (a19 s.1), .int x1, .ref (a19 q15)]) (by simp only [hE1 _ gr19, hE1 _ gr19_1]) ?_
    refine W.widen (k := 1) (n := 3) (Nat.le_of_ble_eq_true rfl) (Nat.le_of_ble_eq_true rfl) ?_
    have gn19 := ko_new e19
    refine lv_dup hx hb dX1_keep_22 rfl ?_
    refine lv_aload_n hx hb dX1_keep_23 rfl (lv_at hl 0 rfl) ?_
    obtain ⟨gr24, hf⟩ := gd_some hf
    obtain ⟨gr24_1, hf⟩ := gd_some hf
    obtain ⟨gr24_2, hf⟩ := gd_some hf
    obtain ⟨_, s24, h24, hf⟩ := ob_some hf
    refine aw_run hC hW (aw_runI hC hW hl.1 (r := s.1) (As := [.ref (a19 o)]) (rest := [.ref (a19 s.1), .int x1, .ref (a19 q15)]) (cta_X18_init l G a19 s.1 o s19 () s24 h24) iy_X18_init (Or.inl q1273) rfl rfl (Nat.le_of_ble_eq_true rfl) ⟨Nat.le_of_ble_eq_true rfl, Nat.le_of_ble_eq_true rfl⟩ ⟨Nat.le_of_ble_eq_true rfl, Nat.le_of_ble_eq_true rfl⟩ dX1_keep_24) (fun v9 a24 s9 H locs hp9 hW => ?_)
    obtain ⟨rfl, h9s, hE1, hN1⟩ := hp9
    rw [h9s] at hW
    have hE : EX a a24 N0 := hE.trans hE1 hN
    have hN := Nat.le_trans hN hN1
    have hl : lv_has ls 2 [(0, .ref (a24 o)), (1, .int x1)] := by simp only [hE1 _ gr24, hE1 _ gr24_1, hE1 _ gr24_2]; exact hl
    refine W.eq (g2 := F0 m 27 ls [.ref (a24 s.1), .int x1, .ref (a24 q15)]) (by show F0 m 27 ls [.ref (a19 s.1), .int x1, .ref (a19 q15)] = _; simp only [hE1 _ gr24, hE1 _ gr24_1, hE1 _ gr24_2]) ?_
    refine W.widen (k := 8) (n := 126) (Nat.le_of_ble_eq_true rfl) (Nat.le_of_ble_eq_true rfl) ?_
    obtain ⟨g27, hf⟩ := gd_some hf
    obtain ⟨g27_1, hf⟩ := gd_some hf
    obtain ⟨s27, e27, hf⟩ := bnd_some hf
    refine aw_aast (j := 2) e27 hC hW (by decide) g27 g27_1 dX1_keep_27 (fun H locs hW => ?_)
    have hN := n_pR e27 hN
    have g27_1 := ko_pR e27 g27_1
    refine lv_iconst (v := 1) hx hb dX1_keep_28 (by decide) ?_
    obtain ⟨e1, e2⟩ := so_inj hf
    exact aw_iret hC hW hr rfl (p_eq (hP _ hE (e2 ▸ hN)) (congrArg (fun z => some (Value.int z)) e1) e2) (Nat.le_of_ble_eq_true rfl) (Nat.le_of_ble_eq_true rfl) dX1_keep_29
  · have hf := ifp c9 hf
    refine lv_iconst (v := 0) hx hb dX1_keep_12 (by decide) ?_
    obtain ⟨e1, e2⟩ := so_inj hf
    exact aw_iret hC hW hr rfl (p_eq (hP _ hE (e2 ▸ hN)) (congrArg (fun z => some (Value.int z)) e1) e2) (Nat.le_of_ble_eq_true rfl) (Nat.le_of_ble_eq_true rfl) dX1_keep_13
def f_X1_rowOf_b94 : Nat → Int32 → Int32 → Int32 → Nat → Int32 → ST → Option (Nat × ST)
  | 0, _, _, _, _, _, _ => none
  | n + 1, x1, x3, x4, r5, x6, s =>
  if x1 ≤ x6 then (some (r5, s)) else gd (r5 < s.1 ∧ (kd s r5).1 = 100 ∧ ¬ ((x6 : Int32) < 0 ∨ (kd s r5).2 ≤ (x6 : Int32).toNatClampNeg)) <|
  bnd (pI s r5 (x6 : Int32).toNatClampNeg x4) fun s106 =>
  bnd (x6 + 1 : Int32) fun v107 =>
  bnd ((x4 + x3) : Int32) fun v114 =>
  f_X1_rowOf_b94 n x1 x3 v114 r5 v107 s106
def f_X1_rowOf_b57 : Nat → Int32 → Int32 → Int32 → Nat → Int32 → ST → Option (Nat × ST)
  | 0, _, _, _, _, _, _ => none
  | n + 1, x1, x3, x4, r5, x6, s =>
  if x1 ≤ x6 then (some (r5, s)) else gd (r5 < s.1 ∧ (kd s r5).1 = 102 ∧ ¬ ((x6 : Int32) < 0 ∨ (kd s r5).2 ≤ (x6 : Int32).toNatClampNeg)) <|
  bnd (pI s r5 (x6 : Int32).toNatClampNeg (vp_nar .short ((x4 : Int32).toInt16.toInt32))) fun s70 =>
  bnd (x6 + 1 : Int32) fun v71 =>
  bnd ((x4 + x3) : Int32) fun v78 =>
  f_X1_rowOf_b57 n x1 x3 v78 r5 v71 s70
def f_X1_rowOf_b15 : Nat → Int32 → Int32 → Int32 → Nat → Int32 → ST → Option (Nat × ST)
  | 0, _, _, _, _, _, _ => none
  | n + 1, x1, x3, x4, r5, x6, s =>
  if x1 ≤ x6 then (some (r5, s)) else gd (r5 < s.1 ∧ (kd s r5).1 = 101 ∧ ¬ ((x6 : Int32) < 0 ∨ (kd s r5).2 ≤ (x6 : Int32).toNatClampNeg)) <|
  bnd (pI s r5 (x6 : Int32).toNatClampNeg (vp_nar .byte ((x4 : Int32).toInt8.toInt32))) fun s28 =>
  bnd (x6 + 1 : Int32) fun v29 =>
  bnd ((x4 + x3) : Int32) fun v36 =>
  f_X1_rowOf_b15 n x1 x3 v36 r5 v29 s28
def f_X1_rowOf (x0 : Int32) (x1 : Int32) (x2 : Int32) (x3 : Int32) (s : ST) : Option (Nat × ST) :=
  if x0 = 0 then (gd (¬ (x1 : Int32) < 0 ∧ (x1 : Int32).toNatClampNeg ≤ 8) <|
  bnd (nw s 101 ((x1 : Int32).toNatClampNeg) (fun _ => 0)) fun s8 =>
  f_X1_rowOf_b15 fuel x1 x3 x2 s.1 0 s8) else if x0 = 1 then (gd (¬ (x1 : Int32) < 0 ∧ (x1 : Int32).toNatClampNeg ≤ 8) <|
  bnd (nw s 102 ((x1 : Int32).toNatClampNeg) (fun _ => 0)) fun s50 =>
  f_X1_rowOf_b57 fuel x1 x3 x2 s.1 0 s50) else gd (¬ (x1 : Int32) < 0 ∧ (x1 : Int32).toNatClampNeg ≤ 8) <|
  bnd (nw s 100 ((x1 : Int32).toNatClampNeg) (fun _ => 0)) fun s87 =>
  f_X1_rowOf_b94 fuel x1 x3 x2 s.1 0 s87
set_option maxHeartbeats 4000000 in
theorem cta_X1_rowOf (l : Launch) (G : GM) (a : Nat → Nat) (x0 : Int32) (x1 : Int32) (x2 : Int32) (x3 : Int32) (s : ST) (rv : Nat) (sf : ST) (hf : f_X1_rowOf x0 x1 x2 x3 s = some (rv, sf)) : MA l G yX1_rowOf (ws_ yX1_rowOf cX1_rowOf 7 (some (.object "java/lang/Object"))) 0 3 24 [.int x0, .int x1, .int x2, .int x3] a s (fun a' => (some (.ref (a' rv)))) sf := by
  refine ma_of (d := 0) (mc := 3) (ms := 24) (lv := [(0, .int x0), (1, .int x1), (2, .int x2), (3, .int x3)]) (Or.inl (by decide)) (Nat.le_of_ble_eq_true rfl) rfl ?_
  intro p e s0 m args below meth c ls A P hP hC hr hnm hW hl
  have hx := hC.1
  have hb := hC.2.1
  have hts := hC.2.2.2.2.1
  obtain ⟨N0, hN0⟩ : ∃ N0, N0 = s.1 := ⟨_, rfl⟩
  rw [← hN0] at hP
  have hE : EX a a N0 := EX.rf
  have hN : N0 ≤ s.1 := Nat.le_of_eq hN0
  have B94 : ∀ (n : Nat), ∀ (ab : Nat → Nat) (hE : EX a ab N0) (x1 : Int32) (x3 : Int32) (x4 : Int32) (r5 : Nat) (x6 : Int32) (s : ST) (hN : N0 ≤ s.1), f_X1_rowOf_b94 n x1 x3 x4 r5 x6 s = some (rv, sf) → ∀ (H : Heap) (locs : List Loc) (ls : Array Slot), lv_has ls 7 [(1, .int x1), (3, .int x3), (4, .int x4), (5, .ref (ab r5)), (6, .int x6)] → AW G ab A s s0.heap H locs → WBA p l e (rmA 0 3 24) s0 m args below meth c H locs G A P 3 24 3 24 94 ls [] := by
    intro n
    induction n with
    | zero => intro ab hE x1 x3 x4 r5 x6 s hN hf; cases hf
    | succ n ih =>
      intro ab hE x1 x3 x4 r5 x6 s hN hf H locs ls hl hW
      rw [f_X1_rowOf_b94] at hf
      refine lv_iload hx hb dX1_rowOf_94 (lv_at hl 4 rfl) ?_
      refine lv_iload_n hx hb dX1_rowOf_96 rfl (lv_at hl 0 rfl) ?_
      refine lv_icmp_ge (tgt := 119) hx hb dX1_rowOf_97 (by decide) (fun c97 => ?_) (fun c97 => ?_)
      · have hf := ifp c97 hf
        refine lv_aload hx hb dX1_rowOf_119 (lv_at hl 3 rfl) ?_
        obtain ⟨e1, e2⟩ := so_inj hf
        exact aw_aret hC hW hr (Or.inl ⟨_, rfl⟩) (p_eq (hP _ hE (e2 ▸ hN)) (congrArg (fun z => some (Value.ref (ab z))) e1) e2) (Nat.le_of_ble_eq_true rfl) (Nat.le_of_ble_eq_true rfl) dX1_rowOf_121
      · have hf := ifn c97 hf
        refine lv_aload hx hb dX1_rowOf_100 (lv_at hl 3 rfl) ?_
        refine lv_iload hx hb dX1_rowOf_102 (lv_at hl 4 rfl) ?_
        refine lv_iload hx hb dX1_rowOf_104 (lv_at hl 2 rfl) ?_
        obtain ⟨g106, hf⟩ := gd_some hf
        obtain ⟨s106, e106, hf⟩ := bnd_some hf
        refine aw_iast e106 hC hW g106 dX1_rowOf_106 (fun H locs hW => ?_)
        have hN := n_pI e106 hN
        obtain ⟨v107, ev107, hf⟩ := bnd_some hf
        refine lv_iinc (v := v107) (lv' := [(6, .int v107), (1, .int x1), (3, .int x3), (4, .int x4), (5, .ref (ab r5))]) hx hb dX1_rowOf_107 hl (k := 4) rfl (by rw [ev107]; rfl) (by decide) rfl (fun ls hl => ?_)
        refine lv_iload hx hb dX1_rowOf_110 (lv_at hl 3 rfl) ?_
        refine lv_iload_n hx hb dX1_rowOf_112 rfl (lv_at hl 2 rfl) ?_
        refine lv_iadd hx hb dX1_rowOf_113 ?_
        obtain ⟨v114, ev114, hf⟩ := bnd_some hf
        refine top_i ev114 ?_
        refine lv_istore (lv' := [(4, .int v114), (6, .int v107), (1, .int x1), (3, .int x3), (5, .ref (ab r5))]) hx hb dX1_rowOf_114 hl (by decide) rfl (fun ls hl => ?_)
        refine lv_goto (tgt := 94) hx hb dX1_rowOf_116 (by decide) ?_
        exact ih ab hE x1 x3 v114 r5 v107 s106 hN hf _ _ _ (lv_sub hl [2, 3, 0, 4, 1] rfl) hW
  have B57 : ∀ (n : Nat), ∀ (ab : Nat → Nat) (hE : EX a ab N0) (x1 : Int32) (x3 : Int32) (x4 : Int32) (r5 : Nat) (x6 : Int32) (s : ST) (hN : N0 ≤ s.1), f_X1_rowOf_b57 n x1 x3 x4 r5 x6 s = some (rv, sf) → ∀ (H : Heap) (locs : List Loc) (ls : Array Slot), lv_has ls 7 [(1, .int x1), (3, .int x3), (4, .int x4), (5, .ref (ab r5)), (6, .int x6)] → AW G ab A s s0.heap H locs → WBA p l e (rmA 0 3 24) s0 m args below meth c H locs G A P 3 24 3 24 57 ls [] := by
    intro n
    induction n with
    | zero => intro ab hE x1 x3 x4 r5 x6 s hN hf; cases hf
    | succ n ih =>
      intro ab hE x1 x3 x4 r5 x6 s hN hf H locs ls hl hW
      rw [f_X1_rowOf_b57] at hf
      refine lv_iload hx hb dX1_rowOf_57 (lv_at hl 4 rfl) ?_
      refine lv_iload_n hx hb dX1_rowOf_59 rfl (lv_at hl 0 rfl) ?_
      refine lv_icmp_ge (tgt := 83) hx hb dX1_rowOf_60 (by decide) (fun c60 => ?_) (fun c60 => ?_)
      · have hf := ifp c60 hf
        refine lv_aload hx hb dX1_rowOf_83 (lv_at hl 3 rfl) ?_
        obtain ⟨e1, e2⟩ := so_inj hf
        exact aw_aret hC hW hr (Or.inl ⟨_, rfl⟩) (p_eq (hP _ hE (e2 ▸ hN)) (congrArg (fun z => some (Value.ref (ab z))) e1) e2) (Nat.le_of_ble_eq_true rfl) (Nat.le_of_ble_eq_true rfl) dX1_rowOf_85
      · have hf := ifn c60 hf
        refine lv_aload hx hb dX1_rowOf_63 (lv_at hl 3 rfl) ?_
        refine lv_iload hx hb dX1_rowOf_65 (lv_at hl 4 rfl) ?_
        refine lv_iload hx hb dX1_rowOf_67 (lv_at hl 2 rfl) ?_
        refine lv_i2s (v := (x4 : Int32).toInt16.toInt32) hx hb dX1_rowOf_69 rfl ?_
        obtain ⟨g70, hf⟩ := gd_some hf
        obtain ⟨s70, e70, hf⟩ := bnd_some hf
        refine aw_sast e70 hC hW g70 dX1_rowOf_70 (fun H locs hW => ?_)
        have hN := n_pI e70 hN
        obtain ⟨v71, ev71, hf⟩ := bnd_some hf
        refine lv_iinc (v := v71) (lv' := [(6, .int v71), (1, .int x1), (3, .int x3), (4, .int x4), (5, .ref (ab r5))]) hx hb dX1_rowOf_71 hl (k := 4) rfl (by rw [ev71]; rfl) (by decide) rfl (fun ls hl => ?_)
        refine lv_iload hx hb dX1_rowOf_74 (lv_at hl 3 rfl) ?_
        refine lv_iload_n hx hb dX1_rowOf_76 rfl (lv_at hl 2 rfl) ?_
        refine lv_iadd hx hb dX1_rowOf_77 ?_
        obtain ⟨v78, ev78, hf⟩ := bnd_some hf
        refine top_i ev78 ?_
        refine lv_istore (lv' := [(4, .int v78), (6, .int v71), (1, .int x1), (3, .int x3), (5, .ref (ab r5))]) hx hb dX1_rowOf_78 hl (by decide) rfl (fun ls hl => ?_)
        refine lv_goto (tgt := 57) hx hb dX1_rowOf_80 (by decide) ?_
        exact ih ab hE x1 x3 v78 r5 v71 s70 hN hf _ _ _ (lv_sub hl [2, 3, 0, 4, 1] rfl) hW
  have B15 : ∀ (n : Nat), ∀ (ab : Nat → Nat) (hE : EX a ab N0) (x1 : Int32) (x3 : Int32) (x4 : Int32) (r5 : Nat) (x6 : Int32) (s : ST) (hN : N0 ≤ s.1), f_X1_rowOf_b15 n x1 x3 x4 r5 x6 s = some (rv, sf) → ∀ (H : Heap) (locs : List Loc) (ls : Array Slot), lv_has ls 7 [(1, .int x1), (3, .int x3), (4, .int x4), (5, .ref (ab r5)), (6, .int x6)] → AW G ab A s s0.heap H locs → WBA p l e (rmA 0 3 24) s0 m args below meth c H locs G A P 3 24 3 24 15 ls [] := by
    intro n
    induction n with
    | zero => intro ab hE x1 x3 x4 r5 x6 s hN hf; cases hf
    | succ n ih =>
      intro ab hE x1 x3 x4 r5 x6 s hN hf H locs ls hl hW
      rw [f_X1_rowOf_b15] at hf
      refine lv_iload hx hb dX1_rowOf_15 (lv_at hl 4 rfl) ?_
      refine lv_iload_n hx hb dX1_rowOf_17 rfl (lv_at hl 0 rfl) ?_
      refine lv_icmp_ge (tgt := 41) hx hb dX1_rowOf_18 (by decide) (fun c18 => ?_) (fun c18 => ?_)
      · have hf := ifp c18 hf
        refine lv_aload hx hb dX1_rowOf_41 (lv_at hl 3 rfl) ?_
        obtain ⟨e1, e2⟩ := so_inj hf
        exact aw_aret hC hW hr (Or.inl ⟨_, rfl⟩) (p_eq (hP _ hE (e2 ▸ hN)) (congrArg (fun z => some (Value.ref (ab z))) e1) e2) (Nat.le_of_ble_eq_true rfl) (Nat.le_of_ble_eq_true rfl) dX1_rowOf_43
      · have hf := ifn c18 hf
        refine lv_aload hx hb dX1_rowOf_21 (lv_at hl 3 rfl) ?_
        refine lv_iload hx hb dX1_rowOf_23 (lv_at hl 4 rfl) ?_
        refine lv_iload hx hb dX1_rowOf_25 (lv_at hl 2 rfl) ?_
        refine lv_i2b (v := (x4 : Int32).toInt8.toInt32) hx hb dX1_rowOf_27 rfl ?_
        obtain ⟨g28, hf⟩ := gd_some hf
        obtain ⟨s28, e28, hf⟩ := bnd_some hf
        refine aw_bast e28 hC hW g28 dX1_rowOf_28 (fun H locs hW => ?_)
        have hN := n_pI e28 hN
        obtain ⟨v29, ev29, hf⟩ := bnd_some hf
        refine lv_iinc (v := v29) (lv' := [(6, .int v29), (1, .int x1), (3, .int x3), (4, .int x4), (5, .ref (ab r5))]) hx hb dX1_rowOf_29 hl (k := 4) rfl (by rw [ev29]; rfl) (by decide) rfl (fun ls hl => ?_)
        refine lv_iload hx hb dX1_rowOf_32 (lv_at hl 3 rfl) ?_
        refine lv_iload_n hx hb dX1_rowOf_34 rfl (lv_at hl 2 rfl) ?_
        refine lv_iadd hx hb dX1_rowOf_35 ?_
        obtain ⟨v36, ev36, hf⟩ := bnd_some hf
        refine top_i ev36 ?_
        refine lv_istore (lv' := [(4, .int v36), (6, .int v29), (1, .int x1), (3, .int x3), (5, .ref (ab r5))]) hx hb dX1_rowOf_36 hl (by decide) rfl (fun ls hl => ?_)
        refine lv_goto (tgt := 15) hx hb dX1_rowOf_38 (by decide) ?_
        exact ih ab hE x1 x3 v36 r5 v29 s28 hN hf _ _ _ (lv_sub hl [2, 3, 0, 4, 1] rfl) hW
  unfold f_X1_rowOf at hf
  refine lv_iload_n hx hb dX1_rowOf_0 rfl (lv_at hl 2 rfl) ?_
  refine lv_istore (lv' := [(4, .int x2), (0, .int x0), (1, .int x1), (2, .int x2), (3, .int x3)]) hx hb dX1_rowOf_1 hl (by decide) rfl (fun ls hl => ?_)
  refine lv_iload_n hx hb dX1_rowOf_3 rfl (lv_at hl 1 rfl) ?_
  refine lv_if_ne (tgt := 44) hx hb dX1_rowOf_4 (by decide) (fun c4 => ?_) (fun c4 => ?_)
  · have hf := ifn c4 hf
    refine lv_iload_n hx hb dX1_rowOf_44 rfl (lv_at hl 1 rfl) ?_
    refine lv_iconst (v := 1) hx hb dX1_rowOf_45 (by decide) ?_
    refine lv_icmp_ne (tgt := 86) hx hb dX1_rowOf_46 (by decide) (fun c46 => ?_) (fun c46 => ?_)
    · have hf := ifn c46 hf
      refine lv_iload_n hx hb dX1_rowOf_86 rfl (lv_at hl 2 rfl) ?_
      obtain ⟨g87, hf⟩ := gd_some hf
      obtain ⟨s87, e87, hf⟩ := bnd_some hf
      refine aw_newI (atype := .int) (N := (x1 : Int32).toNatClampNeg) 0 hC hW q181 rfl rfl (fun h => h) (cellI _ (by decide) rfl) g87.1 rfl (by show _ * 4 ≤ 536870912; omega) (Nat.le_of_ble_eq_true rfl) (by show 0 + _ ≤ 24; omega) dX1_rowOf_87 (fun a87 H hE1 hW => ?_)
      have hE : EX a a87 N0 := hE.trans hE1 hN
      have hN := n_nw e87 hN
      have hW := aw_eq e87 hW
      refine W.eq (g2 := F0 m 89 ls [.ref (a87 s.1)]) rfl ?_
      refine W.widen (k := 1) (n := 8) (Nat.le_of_ble_eq_true rfl) (by show 0 + _ ≤ 8; omega) ?_
      refine lv_astore (lv' := [(5, .ref (a87 s.1)), (4, .int x2), (0, .int x0), (1, .int x1), (2, .int x2), (3, .int x3)]) hx hb dX1_rowOf_89 hl (by decide) rfl (fun ls hl => ?_)
      refine lv_iconst (v := 0) hx hb dX1_rowOf_91 (by decide) ?_
      refine lv_istore (lv' := [(6, .int 0), (5, .ref (a87 s.1)), (4, .int x2), (0, .int x0), (1, .int x1), (2, .int x2), (3, .int x3)]) hx hb dX1_rowOf_92 hl (by decide) rfl (fun ls hl => ?_)
      refine W.widen (k := 3) (n := 24) (Nat.le_of_ble_eq_true rfl) (Nat.le_of_ble_eq_true rfl) ?_
      exact B94 fuel a87 hE x1 x3 x2 s.1 0 s87 hN hf _ _ _ (lv_sub hl [4, 6, 2, 1, 0] rfl) hW
    · have hf := ifp c46 hf
      refine lv_iload_n hx hb dX1_rowOf_49 rfl (lv_at hl 2 rfl) ?_
      obtain ⟨g50, hf⟩ := gd_some hf
      obtain ⟨s50, e50, hf⟩ := bnd_some hf
      refine aw_newI (atype := .short) (N := (x1 : Int32).toNatClampNeg) 2 hC hW q908 rfl rfl (fun h => h) (cellI _ (by decide) rfl) g50.1 rfl (by show _ * 2 ≤ 536870912; omega) (Nat.le_of_ble_eq_true rfl) (by show 0 + _ ≤ 24; omega) dX1_rowOf_50 (fun a50 H hE1 hW => ?_)
      have hE : EX a a50 N0 := hE.trans hE1 hN
      have hN := n_nw e50 hN
      have hW := aw_eq e50 hW
      refine W.eq (g2 := F0 m 52 ls [.ref (a50 s.1)]) rfl ?_
      refine W.widen (k := 2) (n := 16) (Nat.le_of_ble_eq_true rfl) (by show 0 + _ ≤ 16; omega) ?_
      refine lv_astore (lv' := [(5, .ref (a50 s.1)), (4, .int x2), (0, .int x0), (1, .int x1), (2, .int x2), (3, .int x3)]) hx hb dX1_rowOf_52 hl (by decide) rfl (fun ls hl => ?_)
      refine lv_iconst (v := 0) hx hb dX1_rowOf_54 (by decide) ?_
      refine lv_istore (lv' := [(6, .int 0), (5, .ref (a50 s.1)), (4, .int x2), (0, .int x0), (1, .int x1), (2, .int x2), (3, .int x3)]) hx hb dX1_rowOf_55 hl (by decide) rfl (fun ls hl => ?_)
      refine W.widen (k := 3) (n := 24) (Nat.le_of_ble_eq_true rfl) (Nat.le_of_ble_eq_true rfl) ?_
      exact B57 fuel a50 hE x1 x3 x2 s.1 0 s50 hN hf _ _ _ (lv_sub hl [4, 6, 2, 1, 0] rfl) hW
  · have hf := ifp c4 hf
    refine lv_iload_n hx hb dX1_rowOf_7 rfl (lv_at hl 2 rfl) ?_
    obtain ⟨g8, hf⟩ := gd_some hf
    obtain ⟨s8, e8, hf⟩ := bnd_some hf
    refine aw_newI (atype := .byte) (N := (x1 : Int32).toNatClampNeg) 1 hC hW q209 rfl rfl (fun h => h) (cellI _ (by decide) rfl) g8.1 rfl (by show _ * 1 ≤ 536870912; omega) (Nat.le_of_ble_eq_true rfl) (by show 0 + _ ≤ 24; omega) dX1_rowOf_8 (fun a8 H hE1 hW => ?_)
    have hE : EX a a8 N0 := hE.trans hE1 hN
    have hN := n_nw e8 hN
    have hW := aw_eq e8 hW
    refine W.eq (g2 := F0 m 10 ls [.ref (a8 s.1)]) rfl ?_
    refine W.widen (k := 3) (n := 24) (Nat.le_of_ble_eq_true rfl) (by show 0 + _ ≤ 24; omega) ?_
    refine lv_astore (lv' := [(5, .ref (a8 s.1)), (4, .int x2), (0, .int x0), (1, .int x1), (2, .int x2), (3, .int x3)]) hx hb dX1_rowOf_10 hl (by decide) rfl (fun ls hl => ?_)
    refine lv_iconst (v := 0) hx hb dX1_rowOf_12 (by decide) ?_
    refine lv_istore (lv' := [(6, .int 0), (5, .ref (a8 s.1)), (4, .int x2), (0, .int x0), (1, .int x1), (2, .int x2), (3, .int x3)]) hx hb dX1_rowOf_13 hl (by decide) rfl (fun ls hl => ?_)
    refine W.widen (k := 3) (n := 24) (Nat.le_of_ble_eq_true rfl) (Nat.le_of_ble_eq_true rfl) ?_
    exact B15 fuel a8 hE x1 x3 x2 s.1 0 s8 hN hf _ _ _ (lv_sub hl [4, 6, 2, 1, 0] rfl) hW
def f_X1_init (o : Nat) (s : ST) : Option (Unit × ST) :=
  gd (o < s.1) <|
  bnd (nw s 105 8 (fun _ => 0)) fun s7 =>
  gd (o < s7.1 ∧ (kd s7 o).1 = 1) <|
  gd (s.1 < s7.1) <|
  bnd (pR s7 o 0 (some s.1)) fun s10 =>
  gd (o < s10.1) <|
  bnd (nw s10 2 0 (fun _ => 0)) fun s14 =>
  gd (o < s14.1) <|
  gd (s10.1 < s14.1) <|
  ob (f_X2_init s10.1 s14) fun _ s18 =>
  gd (o < s18.1 ∧ (kd s18 o).1 = 1) <|
  gd (s10.1 < s18.1) <|
  bnd (pR s18 o 1 (some s10.1)) fun s21 =>
  gd (o < s21.1) <|
  bnd (nw s21 2 0 (fun _ => 0)) fun s25 =>
  gd (o < s25.1) <|
  gd (s21.1 < s25.1) <|
  ob (f_X2_init s21.1 s25) fun _ s29 =>
  gd (o < s29.1 ∧ (kd s29 o).1 = 1) <|
  gd (s21.1 < s29.1) <|
  bnd (pR s29 o 2 (some s21.1)) fun s32 =>
  gd (o < s32.1) <|
  bnd (nw s32 106 20 (fun _ => 0)) fun s38 =>
  gd (s32.1 < s38.1) <|
  bnd (pR s38 o 3 (some s32.1)) fun s41 =>
  bnd (pI s41 o 7 1) fun s46 =>
  gd (o < s46.1) <|
  bnd (nw s46 101 80 (fun _ => 0)) fun s52 =>
  gd (s46.1 < s52.1) <|
  bnd (pR s52 o 9 (some s46.1)) fun s54 =>
  gd (o < s54.1) <|
  bnd (nw s54 104 16 (fun _ => 0)) fun s60 =>
  gd (s54.1 < s60.1) <|
  bnd (pR s60 o 11 (some s54.1)) fun s62 =>
  gd (o < s62.1) <|
  bnd (nw s62 105 8 (fun _ => 0)) fun s68 =>
  gd (o < s68.1) <|
  gd (s62.1 < s68.1) <|
  bnd (nw s68 3 0 (fun _ => 0)) fun s73 =>
  gd (o < s73.1) <|
  gd (s68.1 < s73.1) <|
  gd (s62.1 < s73.1) <|
  ob (f_X3_init s68.1 s73) fun _ s77 =>
  gd (s62.1 < s77.1 ∧ (kd s77 s62.1).1 = 105 ∧ ¬ ((0 : Int32) < 0 ∨ (kd s77 s62.1).2 ≤ (0 : Int32).toNatClampNeg)) <|
  gd (s68.1 < s77.1 ∧ (kd s77 s68.1).1 = 3) <|
  bnd (pR s77 s62.1 (0 : Int32).toNatClampNeg (some s68.1)) fun s80 =>
  gd (o < s80.1) <|
  gd (s62.1 < s80.1) <|
  bnd (nw s80 3 0 (fun _ => 0)) fun s83 =>
  gd (o < s83.1) <|
  gd (s80.1 < s83.1) <|
  gd (s62.1 < s83.1) <|
  ob (f_X3_init s80.1 s83) fun _ s87 =>
  gd (s62.1 < s87.1 ∧ (kd s87 s62.1).1 = 105 ∧ ¬ ((1 : Int32) < 0 ∨ (kd s87 s62.1).2 ≤ (1 : Int32).toNatClampNeg)) <|
  gd (s80.1 < s87.1 ∧ (kd s87 s80.1).1 = 3) <|
  bnd (pR s87 s62.1 (1 : Int32).toNatClampNeg (some s80.1)) fun s90 =>
  gd (o < s90.1) <|
  gd (s62.1 < s90.1) <|
  bnd (nw s90 3 0 (fun _ => 0)) fun s93 =>
  gd (o < s93.1) <|
  gd (s90.1 < s93.1) <|
  gd (s62.1 < s93.1) <|
  ob (f_X3_init s90.1 s93) fun _ s97 =>
  gd (s62.1 < s97.1 ∧ (kd s97 s62.1).1 = 105 ∧ ¬ ((2 : Int32) < 0 ∨ (kd s97 s62.1).2 ≤ (2 : Int32).toNatClampNeg)) <|
  gd (s90.1 < s97.1 ∧ (kd s97 s90.1).1 = 3) <|
  bnd (pR s97 s62.1 (2 : Int32).toNatClampNeg (some s90.1)) fun s100 =>
  gd (o < s100.1) <|
  gd (s62.1 < s100.1) <|
  bnd (nw s100 3 0 (fun _ => 0)) fun s103 =>
  gd (o < s103.1) <|
  gd (s100.1 < s103.1) <|
  gd (s62.1 < s103.1) <|
  ob (f_X3_init s100.1 s103) fun _ s107 =>
  gd (s62.1 < s107.1 ∧ (kd s107 s62.1).1 = 105 ∧ ¬ ((3 : Int32) < 0 ∨ (kd s107 s62.1).2 ≤ (3 : Int32).toNatClampNeg)) <|
  gd (s100.1 < s107.1 ∧ (kd s107 s100.1).1 = 3) <|
  bnd (pR s107 s62.1 (3 : Int32).toNatClampNeg (some s100.1)) fun s110 =>
  gd (o < s110.1) <|
  gd (s62.1 < s110.1) <|
  bnd (nw s110 3 0 (fun _ => 0)) fun s113 =>
  gd (o < s113.1) <|
  gd (s110.1 < s113.1) <|
  gd (s62.1 < s113.1) <|
  ob (f_X3_init s110.1 s113) fun _ s117 =>
  gd (s62.1 < s117.1 ∧ (kd s117 s62.1).1 = 105 ∧ ¬ ((4 : Int32) < 0 ∨ (kd s117 s62.1).2 ≤ (4 : Int32).toNatClampNeg)) <|
  gd (s110.1 < s117.1 ∧ (kd s117 s110.1).1 = 3) <|
  bnd (pR s117 s62.1 (4 : Int32).toNatClampNeg (some s110.1)) fun s120 =>
  gd (o < s120.1) <|
  gd (s62.1 < s120.1) <|
  bnd (nw s120 3 0 (fun _ => 0)) fun s123 =>
  gd (o < s123.1) <|
  gd (s120.1 < s123.1) <|
  gd (s62.1 < s123.1) <|
  ob (f_X3_init s120.1 s123) fun _ s127 =>
  gd (s62.1 < s127.1 ∧ (kd s127 s62.1).1 = 105 ∧ ¬ ((5 : Int32) < 0 ∨ (kd s127 s62.1).2 ≤ (5 : Int32).toNatClampNeg)) <|
  gd (s120.1 < s127.1 ∧ (kd s127 s120.1).1 = 3) <|
  bnd (pR s127 s62.1 (5 : Int32).toNatClampNeg (some s120.1)) fun s130 =>
  gd (o < s130.1) <|
  gd (s62.1 < s130.1) <|
  bnd (nw s130 3 0 (fun _ => 0)) fun s134 =>
  gd (o < s134.1) <|
  gd (s130.1 < s134.1) <|
  gd (s62.1 < s134.1) <|
  ob (f_X3_init s130.1 s134) fun _ s138 =>
  gd (s62.1 < s138.1 ∧ (kd s138 s62.1).1 = 105 ∧ ¬ ((6 : Int32) < 0 ∨ (kd s138 s62.1).2 ≤ (6 : Int32).toNatClampNeg)) <|
  gd (s130.1 < s138.1 ∧ (kd s138 s130.1).1 = 3) <|
  bnd (pR s138 s62.1 (6 : Int32).toNatClampNeg (some s130.1)) fun s141 =>
  gd (o < s141.1) <|
  gd (s62.1 < s141.1) <|
  bnd (nw s141 3 0 (fun _ => 0)) fun s145 =>
  gd (o < s145.1) <|
  gd (s141.1 < s145.1) <|
  gd (s62.1 < s145.1) <|
  ob (f_X3_init s141.1 s145) fun _ s149 =>
  gd (s62.1 < s149.1 ∧ (kd s149 s62.1).1 = 105 ∧ ¬ ((7 : Int32) < 0 ∨ (kd s149 s62.1).2 ≤ (7 : Int32).toNatClampNeg)) <|
  gd (s141.1 < s149.1 ∧ (kd s149 s141.1).1 = 3) <|
  bnd (pR s149 s62.1 (7 : Int32).toNatClampNeg (some s141.1)) fun s152 =>
  gd (o < s152.1 ∧ (kd s152 o).1 = 1) <|
  gd (s62.1 < s152.1) <|
  bnd (pR s152 o 13 (some s62.1)) fun s153 =>
  gd (o < s153.1) <|
  bnd (nw s153 100 8 (fun _ => 0)) fun s159 =>
  gd (s153.1 < s159.1) <|
  bnd (pR s159 o 14 (some s153.1)) fun s161 =>
  gd (o < s161.1) <|
  bnd (nw s161 4 0 (fun _ => 0)) fun s165 =>
  ob (f_X4_init s161.1 o s165) fun _ s170 =>
  gd (s165.1 ≤ s170.1) <|
  gd (o < s170.1 ∧ (kd s170 o).1 = 1) <|
  gd (s161.1 < s170.1) <|
  bnd (pR s170 o 16 (some s161.1)) fun s173 =>
  gd (o < s173.1) <|
  bnd (nw s173 5 0 (fun _ => 0)) fun s177 =>
  ob (f_X5_init s173.1 s177) fun _ s181 =>
  gd (s177.1 ≤ s181.1) <|
  gd (o < s181.1 ∧ (kd s181 o).1 = 1) <|
  gd (s173.1 < s181.1) <|
  bnd (pR s181 o 17 (some s173.1)) fun s184 =>
  gd (o < s184.1) <|
  bnd (nw s184 6 0 (fun _ => 0)) fun s188 =>
  ob (f_X6_init s184.1 o s188) fun _ s193 =>
  gd (s188.1 ≤ s193.1) <|
  gd (o < s193.1 ∧ (kd s193 o).1 = 1) <|
  gd (s184.1 < s193.1) <|
  bnd (pR s193 o 18 (some s184.1)) fun s196 =>
  gd (o < s196.1) <|
  bnd (nw s196 7 0 (fun _ => 0)) fun s200 =>
  gd (o < s200.1) <|
  gd (s196.1 < s200.1) <|
  ob (f_X7_init s196.1 s200) fun _ s204 =>
  gd (o < s204.1 ∧ (kd s204 o).1 = 1) <|
  gd (s196.1 < s204.1) <|
  bnd (pR s204 o 19 (some s196.1)) fun s207 =>
  gd (o < s207.1) <|
  bnd (nw s207 8 0 (fun _ => 0)) fun s211 =>
  ob (f_X8_init s207.1 o s211) fun _ s216 =>
  gd (s211.1 ≤ s216.1) <|
  gd (o < s216.1 ∧ (kd s216 o).1 = 1) <|
  gd (s207.1 < s216.1) <|
  bnd (pR s216 o 20 (some s207.1)) fun s219 =>
  gd (o < s219.1) <|
  bnd (nw s219 100 61 (fun _ => 0)) fun s225 =>
  gd (s219.1 < s225.1) <|
  bnd (pR s225 o 23 (some s219.1)) fun s227 =>
  gd (o < s227.1) <|
  bnd (nw s227 100 4 (fun _ => 0)) fun s232 =>
  gd (s227.1 < s232.1) <|
  bnd (pR s232 o 24 (some s227.1)) fun s234 =>
  gd (o < s234.1) <|
  bnd (nw s234 9 0 (fun _ => 0)) fun s238 =>
  ob (f_X9_init s234.1 o s238) fun _ s243 =>
  gd (s238.1 ≤ s243.1) <|
  gd (o < s243.1 ∧ (kd s243 o).1 = 1) <|
  gd (s234.1 < s243.1) <|
  bnd (pR s243 o 25 (some s234.1)) fun s246 =>
  gd (o < s246.1) <|
  bnd (nw s246 10 0 (fun _ => 0)) fun s250 =>
  ob (f_X10_init s246.1 o s250) fun _ s255 =>
  gd (s250.1 ≤ s255.1) <|
  gd (o < s255.1 ∧ (kd s255 o).1 = 1) <|
  gd (s246.1 < s255.1) <|
  bnd (pR s255 o 26 (some s246.1)) fun s258 =>
  gd (o < s258.1) <|
  bnd (nw s258 11 0 (fun _ => 0)) fun s262 =>
  ob (f_X11_init s258.1 o s262) fun _ s267 =>
  gd (s262.1 ≤ s267.1) <|
  gd (o < s267.1 ∧ (kd s267 o).1 = 1) <|
  gd (s258.1 < s267.1) <|
  bnd (pR s267 o 27 (some s258.1)) fun s270 =>
  gd (o < s270.1) <|
  bnd (nw s270 12 0 (fun _ => 0)) fun s274 =>
  ob (f_X12_init s270.1 o s274) fun _ s279 =>
  gd (s274.1 ≤ s279.1) <|
  gd (o < s279.1 ∧ (kd s279 o).1 = 1) <|
  gd (s270.1 < s279.1) <|
  bnd (pR s279 o 28 (some s270.1)) fun s282 =>
  gd (o < s282.1) <|
  bnd (nw s282 13 0 (fun _ => 0)) fun s286 =>
  ob (f_X13_init s282.1 o s286) fun _ s291 =>
  gd (s286.1 ≤ s291.1) <|
  gd (o < s291.1 ∧ (kd s291 o).1 = 1) <|
  gd (s282.1 < s291.1) <|
  bnd (pR s291 o 29 (some s282.1)) fun s294 =>
  gd (o < s294.1) <|
  bnd (nw s294 100 12 (fun _ => 0)) fun s300 =>
  gd (s294.1 < s300.1) <|
  bnd (pR s300 o 30 (some s294.1)) fun s302 =>
  gd (o < s302.1) <|
  bnd (nw s302 100 12 (fun _ => 0)) fun s308 =>
  gd (s302.1 < s308.1) <|
  bnd (pR s308 o 31 (some s302.1)) fun s310 =>
  gd (o < s310.1) <|
  bnd (nw s310 100 10 (fun _ => 0)) fun s316 =>
  gd (s310.1 < s316.1) <|
  bnd (pR s316 o 33 (some s310.1)) fun s318 =>
  gd (o < s318.1) <|
  bnd (nw s318 100 10 (fun _ => 0)) fun s324 =>
  gd (s318.1 < s324.1) <|
  bnd (pR s324 o 34 (some s318.1)) fun s326 =>
  gd (o < s326.1) <|
  bnd (nw s326 106 3 (fun _ => 0)) fun s331 =>
  gd (o < s331.1) <|
  gd (s326.1 < s331.1) <|
  bnd (nw s331 2 0 (fun _ => 0)) fun s336 =>
  gd (o < s336.1) <|
  gd (s331.1 < s336.1) <|
  gd (s326.1 < s336.1) <|
  ob (f_X2_init s331.1 s336) fun _ s340 =>
  gd (s326.1 < s340.1 ∧ (kd s340 s326.1).1 = 106 ∧ ¬ ((0 : Int32) < 0 ∨ (kd s340 s326.1).2 ≤ (0 : Int32).toNatClampNeg)) <|
  gd (s331.1 < s340.1 ∧ (kd s340 s331.1).1 = 2) <|
  bnd (pR s340 s326.1 (0 : Int32).toNatClampNeg (some s331.1)) fun s343 =>
  gd (o < s343.1) <|
  gd (s326.1 < s343.1) <|
  bnd (nw s343 2 0 (fun _ => 0)) fun s346 =>
  gd (o < s346.1) <|
  gd (s343.1 < s346.1) <|
  gd (s326.1 < s346.1) <|
  ob (f_X2_init s343.1 s346) fun _ s350 =>
  gd (s326.1 < s350.1 ∧ (kd s350 s326.1).1 = 106 ∧ ¬ ((1 : Int32) < 0 ∨ (kd s350 s326.1).2 ≤ (1 : Int32).toNatClampNeg)) <|
  gd (s343.1 < s350.1 ∧ (kd s350 s343.1).1 = 2) <|
  bnd (pR s350 s326.1 (1 : Int32).toNatClampNeg (some s343.1)) fun s353 =>
  gd (o < s353.1) <|
  gd (s326.1 < s353.1) <|
  bnd (nw s353 2 0 (fun _ => 0)) fun s356 =>
  gd (o < s356.1) <|
  gd (s353.1 < s356.1) <|
  gd (s326.1 < s356.1) <|
  ob (f_X2_init s353.1 s356) fun _ s360 =>
  gd (s326.1 < s360.1 ∧ (kd s360 s326.1).1 = 106 ∧ ¬ ((2 : Int32) < 0 ∨ (kd s360 s326.1).2 ≤ (2 : Int32).toNatClampNeg)) <|
  gd (s353.1 < s360.1 ∧ (kd s360 s353.1).1 = 2) <|
  bnd (pR s360 s326.1 (2 : Int32).toNatClampNeg (some s353.1)) fun s363 =>
  gd (o < s363.1 ∧ (kd s363 o).1 = 1) <|
  gd (s326.1 < s363.1) <|
  bnd (pR s363 o 36 (some s326.1)) fun s364 =>
  gd (o < s364.1) <|
  bnd (nw s364 104 9 (fun _ => 0)) fun s370 =>
  gd (s364.1 < s370.1) <|
  bnd (pR s370 o 37 (some s364.1)) fun s372 =>
  gd (o < s372.1) <|
  bnd (nw s372 104 9 (fun _ => 0)) fun s378 =>
  gd (s372.1 < s378.1) <|
  bnd (pR s378 o 38 (some s372.1)) fun s380 =>
  gd (o < s380.1) <|
  bnd (nw s380 107 3 (fun _ => 0)) fun s385 =>
  gd (s380.1 < s385.1) <|
  bnd (pR s385 o 39 (some s380.1)) fun s388 =>
  (gr s388 o 0).bind fun q400 =>
  gd (o < s388.1) <|
  gd (q400 < s388.1) <|
  bnd (nw s388 3 0 (fun _ => 0)) fun s404 =>
  gd (o < s404.1) <|
  gd (s388.1 < s404.1) <|
  gd (q400 < s404.1) <|
  ob (f_X3_init s388.1 s404) fun _ s408 =>
  gd (q400 < s408.1 ∧ (kd s408 q400).1 = 105 ∧ ¬ ((0 : Int32) < 0 ∨ (kd s408 q400).2 ≤ (0 : Int32).toNatClampNeg)) <|
  gd (s388.1 < s408.1 ∧ (kd s408 s388.1).1 = 3) <|
  bnd (pR s408 q400 (0 : Int32).toNatClampNeg (some s388.1)) fun s411 =>
  gd (o < s411.1 ∧ (kd s411 o).1 = 1) <|
  (gr s411 o 0).bind fun q400_1 =>
  gd (o < s411.1) <|
  gd (q400_1 < s411.1) <|
  bnd (nw s411 3 0 (fun _ => 0)) fun s404_1 =>
  gd (o < s404_1.1) <|
  gd (s411.1 < s404_1.1) <|
  gd (q400_1 < s404_1.1) <|
  ob (f_X3_init s411.1 s404_1) fun _ s408_1 =>
  gd (q400_1 < s408_1.1 ∧ (kd s408_1 q400_1).1 = 105 ∧ ¬ ((1 : Int32) < 0 ∨ (kd s408_1 q400_1).2 ≤ (1 : Int32).toNatClampNeg)) <|
  gd (s411.1 < s408_1.1 ∧ (kd s408_1 s411.1).1 = 3) <|
  bnd (pR s408_1 q400_1 (1 : Int32).toNatClampNeg (some s411.1)) fun s411_1 =>
  gd (o < s411_1.1 ∧ (kd s411_1 o).1 = 1) <|
  (gr s411_1 o 0).bind fun q400_2 =>
  gd (o < s411_1.1) <|
  gd (q400_2 < s411_1.1) <|
  bnd (nw s411_1 3 0 (fun _ => 0)) fun s404_2 =>
  gd (o < s404_2.1) <|
  gd (s411_1.1 < s404_2.1) <|
  gd (q400_2 < s404_2.1) <|
  ob (f_X3_init s411_1.1 s404_2) fun _ s408_2 =>
  gd (q400_2 < s408_2.1 ∧ (kd s408_2 q400_2).1 = 105 ∧ ¬ ((2 : Int32) < 0 ∨ (kd s408_2 q400_2).2 ≤ (2 : Int32).toNatClampNeg)) <|
  gd (s411_1.1 < s408_2.1 ∧ (kd s408_2 s411_1.1).1 = 3) <|
  bnd (pR s408_2 q400_2 (2 : Int32).toNatClampNeg (some s411_1.1)) fun s411_2 =>
  gd (o < s411_2.1 ∧ (kd s411_2 o).1 = 1) <|
  (gr s411_2 o 0).bind fun q400_3 =>
  gd (o < s411_2.1) <|
  gd (q400_3 < s411_2.1) <|
  bnd (nw s411_2 3 0 (fun _ => 0)) fun s404_3 =>
  gd (o < s404_3.1) <|
  gd (s411_2.1 < s404_3.1) <|
  gd (q400_3 < s404_3.1) <|
  ob (f_X3_init s411_2.1 s404_3) fun _ s408_3 =>
  gd (q400_3 < s408_3.1 ∧ (kd s408_3 q400_3).1 = 105 ∧ ¬ ((3 : Int32) < 0 ∨ (kd s408_3 q400_3).2 ≤ (3 : Int32).toNatClampNeg)) <|
  gd (s411_2.1 < s408_3.1 ∧ (kd s408_3 s411_2.1).1 = 3) <|
  bnd (pR s408_3 q400_3 (3 : Int32).toNatClampNeg (some s411_2.1)) fun s411_3 =>
  gd (o < s411_3.1 ∧ (kd s411_3 o).1 = 1) <|
  (gr s411_3 o 0).bind fun q400_4 =>
  gd (o < s411_3.1) <|
  gd (q400_4 < s411_3.1) <|
  bnd (nw s411_3 3 0 (fun _ => 0)) fun s404_4 =>
  gd (o < s404_4.1) <|
  gd (s411_3.1 < s404_4.1) <|
  gd (q400_4 < s404_4.1) <|
  ob (f_X3_init s411_3.1 s404_4) fun _ s408_4 =>
  gd (q400_4 < s408_4.1 ∧ (kd s408_4 q400_4).1 = 105 ∧ ¬ ((4 : Int32) < 0 ∨ (kd s408_4 q400_4).2 ≤ (4 : Int32).toNatClampNeg)) <|
  gd (s411_3.1 < s408_4.1 ∧ (kd s408_4 s411_3.1).1 = 3) <|
  bnd (pR s408_4 q400_4 (4 : Int32).toNatClampNeg (some s411_3.1)) fun s411_4 =>
  gd (o < s411_4.1 ∧ (kd s411_4 o).1 = 1) <|
  (gr s411_4 o 0).bind fun q400_5 =>
  gd (o < s411_4.1) <|
  gd (q400_5 < s411_4.1) <|
  bnd (nw s411_4 3 0 (fun _ => 0)) fun s404_5 =>
  gd (o < s404_5.1) <|
  gd (s411_4.1 < s404_5.1) <|
  gd (q400_5 < s404_5.1) <|
  ob (f_X3_init s411_4.1 s404_5) fun _ s408_5 =>
  gd (q400_5 < s408_5.1 ∧ (kd s408_5 q400_5).1 = 105 ∧ ¬ ((5 : Int32) < 0 ∨ (kd s408_5 q400_5).2 ≤ (5 : Int32).toNatClampNeg)) <|
  gd (s411_4.1 < s408_5.1 ∧ (kd s408_5 s411_4.1).1 = 3) <|
  bnd (pR s408_5 q400_5 (5 : Int32).toNatClampNeg (some s411_4.1)) fun s411_5 =>
  gd (o < s411_5.1 ∧ (kd s411_5 o).1 = 1) <|
  (gr s411_5 o 0).bind fun q400_6 =>
  gd (o < s411_5.1) <|
  gd (q400_6 < s411_5.1) <|
  bnd (nw s411_5 3 0 (fun _ => 0)) fun s404_6 =>
  gd (o < s404_6.1) <|
  gd (s411_5.1 < s404_6.1) <|
  gd (q400_6 < s404_6.1) <|
  ob (f_X3_init s411_5.1 s404_6) fun _ s408_6 =>
  gd (q400_6 < s408_6.1 ∧ (kd s408_6 q400_6).1 = 105 ∧ ¬ ((6 : Int32) < 0 ∨ (kd s408_6 q400_6).2 ≤ (6 : Int32).toNatClampNeg)) <|
  gd (s411_5.1 < s408_6.1 ∧ (kd s408_6 s411_5.1).1 = 3) <|
  bnd (pR s408_6 q400_6 (6 : Int32).toNatClampNeg (some s411_5.1)) fun s411_6 =>
  gd (o < s411_6.1 ∧ (kd s411_6 o).1 = 1) <|
  (gr s411_6 o 0).bind fun q400_7 =>
  gd (o < s411_6.1) <|
  gd (q400_7 < s411_6.1) <|
  bnd (nw s411_6 3 0 (fun _ => 0)) fun s404_7 =>
  gd (o < s404_7.1) <|
  gd (s411_6.1 < s404_7.1) <|
  gd (q400_7 < s404_7.1) <|
  ob (f_X3_init s411_6.1 s404_7) fun _ s408_7 =>
  gd (q400_7 < s408_7.1 ∧ (kd s408_7 q400_7).1 = 105 ∧ ¬ ((7 : Int32) < 0 ∨ (kd s408_7 q400_7).2 ≤ (7 : Int32).toNatClampNeg)) <|
  gd (s411_6.1 < s408_7.1 ∧ (kd s408_7 s411_6.1).1 = 3) <|
  bnd (pR s408_7 q400_7 (7 : Int32).toNatClampNeg (some s411_6.1)) fun s411_7 =>
  gd (o < s411_7.1 ∧ (kd s411_7 o).1 = 1) <|
  (gr s411_7 o 3).bind fun q427 =>
  gd (o < s411_7.1) <|
  gd (q427 < s411_7.1) <|
  bnd (nw s411_7 2 0 (fun _ => 0)) fun s431 =>
  gd (o < s431.1) <|
  gd (s411_7.1 < s431.1) <|
  gd (q427 < s431.1) <|
  ob (f_X2_init s411_7.1 s431) fun _ s435 =>
  gd (q427 < s435.1 ∧ (kd s435 q427).1 = 106 ∧ ¬ ((0 : Int32) < 0 ∨ (kd s435 q427).2 ≤ (0 : Int32).toNatClampNeg)) <|
  gd (s411_7.1 < s435.1 ∧ (kd s435 s411_7.1).1 = 2) <|
  bnd (pR s435 q427 (0 : Int32).toNatClampNeg (some s411_7.1)) fun s438 =>
  gd (o < s438.1 ∧ (kd s438 o).1 = 1) <|
  (gr s438 o 3).bind fun q427_1 =>
  gd (o < s438.1) <|
  gd (q427_1 < s438.1) <|
  bnd (nw s438 2 0 (fun _ => 0)) fun s431_1 =>
  gd (o < s431_1.1) <|
  gd (s438.1 < s431_1.1) <|
  gd (q427_1 < s431_1.1) <|
  ob (f_X2_init s438.1 s431_1) fun _ s435_1 =>
  gd (q427_1 < s435_1.1 ∧ (kd s435_1 q427_1).1 = 106 ∧ ¬ ((1 : Int32) < 0 ∨ (kd s435_1 q427_1).2 ≤ (1 : Int32).toNatClampNeg)) <|
  gd (s438.1 < s435_1.1 ∧ (kd s435_1 s438.1).1 = 2) <|
  bnd (pR s435_1 q427_1 (1 : Int32).toNatClampNeg (some s438.1)) fun s438_1 =>
  gd (o < s438_1.1 ∧ (kd s438_1 o).1 = 1) <|
  (gr s438_1 o 3).bind fun q427_2 =>
  gd (o < s438_1.1) <|
  gd (q427_2 < s438_1.1) <|
  bnd (nw s438_1 2 0 (fun _ => 0)) fun s431_2 =>
  gd (o < s431_2.1) <|
  gd (s438_1.1 < s431_2.1) <|
  gd (q427_2 < s431_2.1) <|
  ob (f_X2_init s438_1.1 s431_2) fun _ s435_2 =>
  gd (q427_2 < s435_2.1 ∧ (kd s435_2 q427_2).1 = 106 ∧ ¬ ((2 : Int32) < 0 ∨ (kd s435_2 q427_2).2 ≤ (2 : Int32).toNatClampNeg)) <|
  gd (s438_1.1 < s435_2.1 ∧ (kd s435_2 s438_1.1).1 = 2) <|
  bnd (pR s435_2 q427_2 (2 : Int32).toNatClampNeg (some s438_1.1)) fun s438_2 =>
  gd (o < s438_2.1 ∧ (kd s438_2 o).1 = 1) <|
  (gr s438_2 o 3).bind fun q427_3 =>
  gd (o < s438_2.1) <|
  gd (q427_3 < s438_2.1) <|
  bnd (nw s438_2 2 0 (fun _ => 0)) fun s431_3 =>
  gd (o < s431_3.1) <|
  gd (s438_2.1 < s431_3.1) <|
  gd (q427_3 < s431_3.1) <|
  ob (f_X2_init s438_2.1 s431_3) fun _ s435_3 =>
  gd (q427_3 < s435_3.1 ∧ (kd s435_3 q427_3).1 = 106 ∧ ¬ ((3 : Int32) < 0 ∨ (kd s435_3 q427_3).2 ≤ (3 : Int32).toNatClampNeg)) <|
  gd (s438_2.1 < s435_3.1 ∧ (kd s435_3 s438_2.1).1 = 2) <|
  bnd (pR s435_3 q427_3 (3 : Int32).toNatClampNeg (some s438_2.1)) fun s438_3 =>
  gd (o < s438_3.1 ∧ (kd s438_3 o).1 = 1) <|
  (gr s438_3 o 3).bind fun q427_4 =>
  gd (o < s438_3.1) <|
  gd (q427_4 < s438_3.1) <|
  bnd (nw s438_3 2 0 (fun _ => 0)) fun s431_4 =>
  gd (o < s431_4.1) <|
  gd (s438_3.1 < s431_4.1) <|
  gd (q427_4 < s431_4.1) <|
  ob (f_X2_init s438_3.1 s431_4) fun _ s435_4 =>
  gd (q427_4 < s435_4.1 ∧ (kd s435_4 q427_4).1 = 106 ∧ ¬ ((4 : Int32) < 0 ∨ (kd s435_4 q427_4).2 ≤ (4 : Int32).toNatClampNeg)) <|
  gd (s438_3.1 < s435_4.1 ∧ (kd s435_4 s438_3.1).1 = 2) <|
  bnd (pR s435_4 q427_4 (4 : Int32).toNatClampNeg (some s438_3.1)) fun s438_4 =>
  gd (o < s438_4.1 ∧ (kd s438_4 o).1 = 1) <|
  (gr s438_4 o 3).bind fun q427_5 =>
  gd (o < s438_4.1) <|
  gd (q427_5 < s438_4.1) <|
  bnd (nw s438_4 2 0 (fun _ => 0)) fun s431_5 =>
  gd (o < s431_5.1) <|
  gd (s438_4.1 < s431_5.1) <|
  gd (q427_5 < s431_5.1) <|
  ob (f_X2_init s438_4.1 s431_5) fun _ s435_5 =>
  gd (q427_5 < s435_5.1 ∧ (kd s435_5 q427_5).1 = 106 ∧ ¬ ((5 : Int32) < 0 ∨ (kd s435_5 q427_5).2 ≤ (5 : Int32).toNatClampNeg)) <|
  gd (s438_4.1 < s435_5.1 ∧ (kd s435_5 s438_4.1).1 = 2) <|
  bnd (pR s435_5 q427_5 (5 : Int32).toNatClampNeg (some s438_4.1)) fun s438_5 =>
  gd (o < s438_5.1 ∧ (kd s438_5 o).1 = 1) <|
  (gr s438_5 o 3).bind fun q427_6 =>
  gd (o < s438_5.1) <|
  gd (q427_6 < s438_5.1) <|
  bnd (nw s438_5 2 0 (fun _ => 0)) fun s431_6 =>
  gd (o < s431_6.1) <|
  gd (s438_5.1 < s431_6.1) <|
  gd (q427_6 < s431_6.1) <|
  ob (f_X2_init s438_5.1 s431_6) fun _ s435_6 =>
  gd (q427_6 < s435_6.1 ∧ (kd s435_6 q427_6).1 = 106 ∧ ¬ ((6 : Int32) < 0 ∨ (kd s435_6 q427_6).2 ≤ (6 : Int32).toNatClampNeg)) <|
  gd (s438_5.1 < s435_6.1 ∧ (kd s435_6 s438_5.1).1 = 2) <|
  bnd (pR s435_6 q427_6 (6 : Int32).toNatClampNeg (some s438_5.1)) fun s438_6 =>
  gd (o < s438_6.1 ∧ (kd s438_6 o).1 = 1) <|
  (gr s438_6 o 3).bind fun q427_7 =>
  gd (o < s438_6.1) <|
  gd (q427_7 < s438_6.1) <|
  bnd (nw s438_6 2 0 (fun _ => 0)) fun s431_7 =>
  gd (o < s431_7.1) <|
  gd (s438_6.1 < s431_7.1) <|
  gd (q427_7 < s431_7.1) <|
  ob (f_X2_init s438_6.1 s431_7) fun _ s435_7 =>
  gd (q427_7 < s435_7.1 ∧ (kd s435_7 q427_7).1 = 106 ∧ ¬ ((7 : Int32) < 0 ∨ (kd s435_7 q427_7).2 ≤ (7 : Int32).toNatClampNeg)) <|
  gd (s438_6.1 < s435_7.1 ∧ (kd s435_7 s438_6.1).1 = 2) <|
  bnd (pR s435_7 q427_7 (7 : Int32).toNatClampNeg (some s438_6.1)) fun s438_7 =>
  gd (o < s438_7.1 ∧ (kd s438_7 o).1 = 1) <|
  (gr s438_7 o 3).bind fun q427_8 =>
  gd (o < s438_7.1) <|
  gd (q427_8 < s438_7.1) <|
  bnd (nw s438_7 2 0 (fun _ => 0)) fun s431_8 =>
  gd (o < s431_8.1) <|
  gd (s438_7.1 < s431_8.1) <|
  gd (q427_8 < s431_8.1) <|
  ob (f_X2_init s438_7.1 s431_8) fun _ s435_8 =>
  gd (q427_8 < s435_8.1 ∧ (kd s435_8 q427_8).1 = 106 ∧ ¬ ((8 : Int32) < 0 ∨ (kd s435_8 q427_8).2 ≤ (8 : Int32).toNatClampNeg)) <|
  gd (s438_7.1 < s435_8.1 ∧ (kd s435_8 s438_7.1).1 = 2) <|
  bnd (pR s435_8 q427_8 (8 : Int32).toNatClampNeg (some s438_7.1)) fun s438_8 =>
  gd (o < s438_8.1 ∧ (kd s438_8 o).1 = 1) <|
  (gr s438_8 o 3).bind fun q427_9 =>
  gd (o < s438_8.1) <|
  gd (q427_9 < s438_8.1) <|
  bnd (nw s438_8 2 0 (fun _ => 0)) fun s431_9 =>
  gd (o < s431_9.1) <|
  gd (s438_8.1 < s431_9.1) <|
  gd (q427_9 < s431_9.1) <|
  ob (f_X2_init s438_8.1 s431_9) fun _ s435_9 =>
  gd (q427_9 < s435_9.1 ∧ (kd s435_9 q427_9).1 = 106 ∧ ¬ ((9 : Int32) < 0 ∨ (kd s435_9 q427_9).2 ≤ (9 : Int32).toNatClampNeg)) <|
  gd (s438_8.1 < s435_9.1 ∧ (kd s435_9 s438_8.1).1 = 2) <|
  bnd (pR s435_9 q427_9 (9 : Int32).toNatClampNeg (some s438_8.1)) fun s438_9 =>
  gd (o < s438_9.1 ∧ (kd s438_9 o).1 = 1) <|
  (gr s438_9 o 3).bind fun q427_10 =>
  gd (o < s438_9.1) <|
  gd (q427_10 < s438_9.1) <|
  bnd (nw s438_9 2 0 (fun _ => 0)) fun s431_10 =>
  gd (o < s431_10.1) <|
  gd (s438_9.1 < s431_10.1) <|
  gd (q427_10 < s431_10.1) <|
  ob (f_X2_init s438_9.1 s431_10) fun _ s435_10 =>
  gd (q427_10 < s435_10.1 ∧ (kd s435_10 q427_10).1 = 106 ∧ ¬ ((10 : Int32) < 0 ∨ (kd s435_10 q427_10).2 ≤ (10 : Int32).toNatClampNeg)) <|
  gd (s438_9.1 < s435_10.1 ∧ (kd s435_10 s438_9.1).1 = 2) <|
  bnd (pR s435_10 q427_10 (10 : Int32).toNatClampNeg (some s438_9.1)) fun s438_10 =>
  gd (o < s438_10.1 ∧ (kd s438_10 o).1 = 1) <|
  (gr s438_10 o 3).bind fun q427_11 =>
  gd (o < s438_10.1) <|
  gd (q427_11 < s438_10.1) <|
  bnd (nw s438_10 2 0 (fun _ => 0)) fun s431_11 =>
  gd (o < s431_11.1) <|
  gd (s438_10.1 < s431_11.1) <|
  gd (q427_11 < s431_11.1) <|
  ob (f_X2_init s438_10.1 s431_11) fun _ s435_11 =>
  gd (q427_11 < s435_11.1 ∧ (kd s435_11 q427_11).1 = 106 ∧ ¬ ((11 : Int32) < 0 ∨ (kd s435_11 q427_11).2 ≤ (11 : Int32).toNatClampNeg)) <|
  gd (s438_10.1 < s435_11.1 ∧ (kd s435_11 s438_10.1).1 = 2) <|
  bnd (pR s435_11 q427_11 (11 : Int32).toNatClampNeg (some s438_10.1)) fun s438_11 =>
  gd (o < s438_11.1 ∧ (kd s438_11 o).1 = 1) <|
  (gr s438_11 o 3).bind fun q427_12 =>
  gd (o < s438_11.1) <|
  gd (q427_12 < s438_11.1) <|
  bnd (nw s438_11 2 0 (fun _ => 0)) fun s431_12 =>
  gd (o < s431_12.1) <|
  gd (s438_11.1 < s431_12.1) <|
  gd (q427_12 < s431_12.1) <|
  ob (f_X2_init s438_11.1 s431_12) fun _ s435_12 =>
  gd (q427_12 < s435_12.1 ∧ (kd s435_12 q427_12).1 = 106 ∧ ¬ ((12 : Int32) < 0 ∨ (kd s435_12 q427_12).2 ≤ (12 : Int32).toNatClampNeg)) <|
  gd (s438_11.1 < s435_12.1 ∧ (kd s435_12 s438_11.1).1 = 2) <|
  bnd (pR s435_12 q427_12 (12 : Int32).toNatClampNeg (some s438_11.1)) fun s438_12 =>
  gd (o < s438_12.1 ∧ (kd s438_12 o).1 = 1) <|
  (gr s438_12 o 3).bind fun q427_13 =>
  gd (o < s438_12.1) <|
  gd (q427_13 < s438_12.1) <|
  bnd (nw s438_12 2 0 (fun _ => 0)) fun s431_13 =>
  gd (o < s431_13.1) <|
  gd (s438_12.1 < s431_13.1) <|
  gd (q427_13 < s431_13.1) <|
  ob (f_X2_init s438_12.1 s431_13) fun _ s435_13 =>
  gd (q427_13 < s435_13.1 ∧ (kd s435_13 q427_13).1 = 106 ∧ ¬ ((13 : Int32) < 0 ∨ (kd s435_13 q427_13).2 ≤ (13 : Int32).toNatClampNeg)) <|
  gd (s438_12.1 < s435_13.1 ∧ (kd s435_13 s438_12.1).1 = 2) <|
  bnd (pR s435_13 q427_13 (13 : Int32).toNatClampNeg (some s438_12.1)) fun s438_13 =>
  gd (o < s438_13.1 ∧ (kd s438_13 o).1 = 1) <|
  (gr s438_13 o 3).bind fun q427_14 =>
  gd (o < s438_13.1) <|
  gd (q427_14 < s438_13.1) <|
  bnd (nw s438_13 2 0 (fun _ => 0)) fun s431_14 =>
  gd (o < s431_14.1) <|
  gd (s438_13.1 < s431_14.1) <|
  gd (q427_14 < s431_14.1) <|
  ob (f_X2_init s438_13.1 s431_14) fun _ s435_14 =>
  gd (q427_14 < s435_14.1 ∧ (kd s435_14 q427_14).1 = 106 ∧ ¬ ((14 : Int32) < 0 ∨ (kd s435_14 q427_14).2 ≤ (14 : Int32).toNatClampNeg)) <|
  gd (s438_13.1 < s435_14.1 ∧ (kd s435_14 s438_13.1).1 = 2) <|
  bnd (pR s435_14 q427_14 (14 : Int32).toNatClampNeg (some s438_13.1)) fun s438_14 =>
  gd (o < s438_14.1 ∧ (kd s438_14 o).1 = 1) <|
  (gr s438_14 o 3).bind fun q427_15 =>
  gd (o < s438_14.1) <|
  gd (q427_15 < s438_14.1) <|
  bnd (nw s438_14 2 0 (fun _ => 0)) fun s431_15 =>
  gd (o < s431_15.1) <|
  gd (s438_14.1 < s431_15.1) <|
  gd (q427_15 < s431_15.1) <|
  ob (f_X2_init s438_14.1 s431_15) fun _ s435_15 =>
  gd (q427_15 < s435_15.1 ∧ (kd s435_15 q427_15).1 = 106 ∧ ¬ ((15 : Int32) < 0 ∨ (kd s435_15 q427_15).2 ≤ (15 : Int32).toNatClampNeg)) <|
  gd (s438_14.1 < s435_15.1 ∧ (kd s435_15 s438_14.1).1 = 2) <|
  bnd (pR s435_15 q427_15 (15 : Int32).toNatClampNeg (some s438_14.1)) fun s438_15 =>
  gd (o < s438_15.1 ∧ (kd s438_15 o).1 = 1) <|
  (gr s438_15 o 3).bind fun q427_16 =>
  gd (o < s438_15.1) <|
  gd (q427_16 < s438_15.1) <|
  bnd (nw s438_15 2 0 (fun _ => 0)) fun s431_16 =>
  gd (o < s431_16.1) <|
  gd (s438_15.1 < s431_16.1) <|
  gd (q427_16 < s431_16.1) <|
  ob (f_X2_init s438_15.1 s431_16) fun _ s435_16 =>
  gd (q427_16 < s435_16.1 ∧ (kd s435_16 q427_16).1 = 106 ∧ ¬ ((16 : Int32) < 0 ∨ (kd s435_16 q427_16).2 ≤ (16 : Int32).toNatClampNeg)) <|
  gd (s438_15.1 < s435_16.1 ∧ (kd s435_16 s438_15.1).1 = 2) <|
  bnd (pR s435_16 q427_16 (16 : Int32).toNatClampNeg (some s438_15.1)) fun s438_16 =>
  gd (o < s438_16.1 ∧ (kd s438_16 o).1 = 1) <|
  (gr s438_16 o 3).bind fun q427_17 =>
  gd (o < s438_16.1) <|
  gd (q427_17 < s438_16.1) <|
  bnd (nw s438_16 2 0 (fun _ => 0)) fun s431_17 =>
  gd (o < s431_17.1) <|
  gd (s438_16.1 < s431_17.1) <|
  gd (q427_17 < s431_17.1) <|
  ob (f_X2_init s438_16.1 s431_17) fun _ s435_17 =>
  gd (q427_17 < s435_17.1 ∧ (kd s435_17 q427_17).1 = 106 ∧ ¬ ((17 : Int32) < 0 ∨ (kd s435_17 q427_17).2 ≤ (17 : Int32).toNatClampNeg)) <|
  gd (s438_16.1 < s435_17.1 ∧ (kd s435_17 s438_16.1).1 = 2) <|
  bnd (pR s435_17 q427_17 (17 : Int32).toNatClampNeg (some s438_16.1)) fun s438_17 =>
  gd (o < s438_17.1 ∧ (kd s438_17 o).1 = 1) <|
  (gr s438_17 o 3).bind fun q427_18 =>
  gd (o < s438_17.1) <|
  gd (q427_18 < s438_17.1) <|
  bnd (nw s438_17 2 0 (fun _ => 0)) fun s431_18 =>
  gd (o < s431_18.1) <|
  gd (s438_17.1 < s431_18.1) <|
  gd (q427_18 < s431_18.1) <|
  ob (f_X2_init s438_17.1 s431_18) fun _ s435_18 =>
  gd (q427_18 < s435_18.1 ∧ (kd s435_18 q427_18).1 = 106 ∧ ¬ ((18 : Int32) < 0 ∨ (kd s435_18 q427_18).2 ≤ (18 : Int32).toNatClampNeg)) <|
  gd (s438_17.1 < s435_18.1 ∧ (kd s435_18 s438_17.1).1 = 2) <|
  bnd (pR s435_18 q427_18 (18 : Int32).toNatClampNeg (some s438_17.1)) fun s438_18 =>
  gd (o < s438_18.1 ∧ (kd s438_18 o).1 = 1) <|
  (gr s438_18 o 3).bind fun q427_19 =>
  gd (o < s438_18.1) <|
  gd (q427_19 < s438_18.1) <|
  bnd (nw s438_18 2 0 (fun _ => 0)) fun s431_19 =>
  gd (o < s431_19.1) <|
  gd (s438_18.1 < s431_19.1) <|
  gd (q427_19 < s431_19.1) <|
  ob (f_X2_init s438_18.1 s431_19) fun _ s435_19 =>
  gd (q427_19 < s435_19.1 ∧ (kd s435_19 q427_19).1 = 106 ∧ ¬ ((19 : Int32) < 0 ∨ (kd s435_19 q427_19).2 ≤ (19 : Int32).toNatClampNeg)) <|
  gd (s438_18.1 < s435_19.1 ∧ (kd s435_19 s438_18.1).1 = 2) <|
  bnd (pR s435_19 q427_19 (19 : Int32).toNatClampNeg (some s438_18.1)) fun s438_19 =>
  some ((), s438_19)
set_option maxHeartbeats 4000000 in
theorem cta_X1_init (l : Launch) (G : GM) (a : Nat → Nat) (o : Nat) (s : ST) (rv : Unit) (sf : ST) (hf : f_X1_init o s = some (rv, sf)) : MA l G yX1_init (ws_ yX1_init cX1_init 2 none) 2 234 3539 [.ref (a o)] a s (fun _ => none) sf := by
  refine ma_of (d := 2) (mc := 234) (ms := 3539) (lv := [(0, .ref (a o))]) (Or.inl (by decide)) (Nat.le_of_ble_eq_true rfl) rfl ?_
  intro p e s0 m args below meth c ls A P hP hC hr hnm hW hl
  have hx := hC.1
  have hb := hC.2.1
  have hts := hC.2.2.2.2.1
  obtain ⟨N0, hN0⟩ : ∃ N0, N0 = s.1 := ⟨_, rfl⟩
  rw [← hN0] at hP
  have hE : EX a a N0 := EX.rf
  have hN : N0 ≤ s.1 := Nat.le_of_eq hN0
  unfold f_X1_init at hf
  refine lv_aload_n hx hb dX1_init_0 rfl (lv_at hl 0 rfl) ?_
  refine W.objInit hx hb hC.2.2.2.1 (hts _ q112) (hts _ q113) (hts _ q114) rfl (by rw [hC.2.2.1]; exact hl.1) rfl dX1_init_1 (Nat.le_of_ble_eq_true rfl) (Nat.le_of_ble_eq_true rfl) ?_
  refine W.eq (g2 := F0 m 4 ls []) rfl ?_
  refine lv_aload_n hx hb dX1_init_4 rfl (lv_at hl 0 rfl) ?_
  refine lv_bipush (v := 8) hx hb dX1_init_5 (by decide) ?_
  obtain ⟨gr7, hf⟩ := gd_some hf
  obtain ⟨s7, e7, hf⟩ := bnd_some hf
  refine aw_newQ (N := 8) 0 hC hW (by decide) q115 (by decide) rfl (Nat.le_of_ble_eq_true rfl) (Nat.le_of_ble_eq_true rfl) (Nat.le_of_ble_eq_true rfl) dX1_init_7 (fun a7 H hE1 hW => ?_)
  have hE : EX a a7 N0 := hE.trans hE1 hN
  have hN := n_nw e7 hN
  have hW := aw_eq e7 hW
  have hl : lv_has ls 2 [(0, .ref (a7 o))] := by simp only [hE1 _ gr7]; exact hl
  refine W.eq (g2 := F0 m 10 ls [.ref (a7 s.1), .ref (a7 o)]) (by simp only [hE1 _ gr7]) ?_
  refine W.widen (k := 1) (n := 8) (Nat.le_of_ble_eq_true rfl) (Nat.le_of_ble_eq_true rfl) ?_
  obtain ⟨g10, hf⟩ := gd_some hf
  obtain ⟨gq10, hf⟩ := gd_some hf
  obtain ⟨s10, e10, hf⟩ := bnd_some hf
  refine aw_pR e10 hC hW g10 gq10 fl_X1_11 (Or.inr ⟨hnm, ff_X1_11⟩) rfl dX1_init_10 (fun H locs hW => ?_)
  have hN := n_pR e10 hN
  have g10 := ko_pR e10 g10
  refine lv_aload_n hx hb dX1_init_13 rfl (lv_at hl 0 rfl) ?_
  obtain ⟨gr14, hf⟩ := gd_some hf
  obtain ⟨s14, e14, hf⟩ := bnd_some hf
  refine aw_new (q := (RX2, TX2, 11)) (ci := 1) hC hW rfl q117 q118 q76 okT_X2 (Nat.le_of_ble_eq_true rfl) (Nat.le_of_ble_eq_true rfl) dX1_init_14 (fun a14 H hE1 hW => ?_)
  have hE : EX a a14 N0 := hE.trans hE1 hN
  have hN := n_nw e14 hN
  have g10 := ko_nw e14 g10
  have hW := aw_eq e14 hW
  have hl : lv_has ls 2 [(0, .ref (a14 o))] := by simp only [hE1 _ gr14]; exact hl
  refine W.eq (g2 := F0 m 17 ls [.ref (a14 s10.1), .ref (a14 o)]) (by simp only [hE1 _ gr14]) ?_
  refine W.widen (k := 2) (n := 19) (Nat.le_of_ble_eq_true rfl) (Nat.le_of_ble_eq_true rfl) ?_
  have gn14 := ko_new e14
  refine lv_dup hx hb dX1_init_17 rfl ?_
  obtain ⟨gr18, hf⟩ := gd_some hf
  obtain ⟨gr18_1, hf⟩ := gd_some hf
  obtain ⟨_, s18, h18, hf⟩ := ob_some hf
  refine aw_run hC hW (aw_runI hC hW hl.1 (r := s10.1) (As := []) (rest := [.ref (a14 s10.1), .ref (a14 o)]) (cta_X2_init l G a14 s10.1 s14 () s18 h18) iy_X2_init (Or.inr ⟨_, q119⟩) rfl rfl (Nat.le_of_ble_eq_true rfl) ⟨Nat.le_of_ble_eq_true rfl, Nat.le_of_ble_eq_true rfl⟩ ⟨Nat.le_of_ble_eq_true rfl, Nat.le_of_ble_eq_true rfl⟩ dX1_init_18) (fun v9 a18 s9 H locs hp9 hW => ?_)
  obtain ⟨rfl, h9s, hE1, hN1⟩ := hp9
  rw [h9s] at hW
  have hE : EX a a18 N0 := hE.trans hE1 hN
  have hN := Nat.le_trans hN hN1
  have hl : lv_has ls 2 [(0, .ref (a18 o))] := by simp only [hE1 _ gr18, hE1 _ gr18_1]; exact hl
  refine W.eq (g2 := F0 m 21 ls [.ref (a18 s10.1), .ref (a18 o)]) (by show F0 m 21 ls [.ref (a14 s10.1), .ref (a14 o)] = _; simp only [hE1 _ gr18, hE1 _ gr18_1]) ?_
  refine W.widen (k := 8) (n := 131) (Nat.le_of_ble_eq_true rfl) (Nat.le_of_ble_eq_true rfl) ?_
  obtain ⟨g21, hf⟩ := gd_some hf
  obtain ⟨gq21, hf⟩ := gd_some hf
  obtain ⟨s21, e21, hf⟩ := bnd_some hf
  refine aw_pR e21 hC hW g21 gq21 fl_X1_18 (Or.inr ⟨hnm, ff_X1_18⟩) rfl dX1_init_21 (fun H locs hW => ?_)
  have hN := n_pR e21 hN
  have g21 := ko_pR e21 g21
  refine lv_aload_n hx hb dX1_init_24 rfl (lv_at hl 0 rfl) ?_
  obtain ⟨gr25, hf⟩ := gd_some hf
  obtain ⟨s25, e25, hf⟩ := bnd_some hf
  refine aw_new (q := (RX2, TX2, 11)) (ci := 1) hC hW rfl q117 q118 q76 okT_X2 (Nat.le_of_ble_eq_true rfl) (Nat.le_of_ble_eq_true rfl) dX1_init_25 (fun a25 H hE1 hW => ?_)
  have hE : EX a a25 N0 := hE.trans hE1 hN
  have hN := n_nw e25 hN
  have g21 := ko_nw e25 g21
  have hW := aw_eq e25 hW
  have hl : lv_has ls 2 [(0, .ref (a25 o))] := by simp only [hE1 _ gr25]; exact hl
  refine W.eq (g2 := F0 m 28 ls [.ref (a25 s21.1), .ref (a25 o)]) (by simp only [hE1 _ gr25]) ?_
  refine W.widen (k := 9) (n := 142) (Nat.le_of_ble_eq_true rfl) (Nat.le_of_ble_eq_true rfl) ?_
  have gn25 := ko_new e25
  refine lv_dup hx hb dX1_init_28 rfl ?_
  obtain ⟨gr29, hf⟩ := gd_some hf
  obtain ⟨gr29_1, hf⟩ := gd_some hf
  obtain ⟨_, s29, h29, hf⟩ := ob_some hf
  refine aw_run hC hW (aw_runI hC hW hl.1 (r := s21.1) (As := []) (rest := [.ref (a25 s21.1), .ref (a25 o)]) (cta_X2_init l G a25 s21.1 s25 () s29 h29) iy_X2_init (Or.inr ⟨_, q119⟩) rfl rfl (Nat.le_of_ble_eq_true rfl) ⟨Nat.le_of_ble_eq_true rfl, Nat.le_of_ble_eq_true rfl⟩ ⟨Nat.le_of_ble_eq_true rfl, Nat.le_of_ble_eq_true rfl⟩ dX1_init_29) (fun v9 a29 s9 H locs hp9 hW => ?_)
  obtain ⟨rfl, h9s, hE1, hN1⟩ := hp9
  rw [h9s] at hW
  have hE : EX a a29 N0 := hE.trans hE1 hN
  have hN := Nat.le_trans hN hN1
  have hl : lv_has ls 2 [(0, .ref (a29 o))] := by simp only [hE1 _ gr29, hE1 _ gr29_1]; exact hl
  refine W.eq (g2 := F0 m 32 ls [.ref (a29 s21.1), .ref (a29 o)]) (by show F0 m 32 ls [.ref (a25 s21.1), .ref (a25 o)] = _; simp only [hE1 _ gr29, hE1 _ gr29_1]) ?_
  refine W.widen (k := 15) (n := 254) (Nat.le_of_ble_eq_true rfl) (Nat.le_of_ble_eq_true rfl) ?_
  obtain ⟨g32, hf⟩ := gd_some hf
  obtain ⟨gq32, hf⟩ := gd_some hf
  obtain ⟨s32, e32, hf⟩ := bnd_some hf
  refine aw_pR e32 hC hW g32 gq32 fl_X1_22 (Or.inr ⟨hnm, ff_X1_22⟩) rfl dX1_init_32 (fun H locs hW => ?_)
  have hN := n_pR e32 hN
  have g32 := ko_pR e32 g32
  refine lv_aload_n hx hb dX1_init_35 rfl (lv_at hl 0 rfl) ?_
  refine lv_bipush (v := 20) hx hb dX1_init_36 (by decide) ?_
  obtain ⟨gr38, hf⟩ := gd_some hf
  obtain ⟨s38, e38, hf⟩ := bnd_some hf
  refine aw_newQ (N := 20) 1 hC hW (by decide) q117 (by decide) rfl (Nat.le_of_ble_eq_true rfl) (Nat.le_of_ble_eq_true rfl) (Nat.le_of_ble_eq_true rfl) dX1_init_38 (fun a38 H hE1 hW => ?_)
  have hE : EX a a38 N0 := hE.trans hE1 hN
  have hN := n_nw e38 hN
  have g32 := ko_nw e38 g32
  have hW := aw_eq e38 hW
  have hl : lv_has ls 2 [(0, .ref (a38 o))] := by simp only [hE1 _ gr38]; exact hl
  refine W.eq (g2 := F0 m 41 ls [.ref (a38 s32.1), .ref (a38 o)]) (by simp only [hE1 _ gr38]) ?_
  refine W.widen (k := 16) (n := 274) (Nat.le_of_ble_eq_true rfl) (Nat.le_of_ble_eq_true rfl) ?_
  obtain ⟨gq41, hf⟩ := gd_some hf
  obtain ⟨s41, e41, hf⟩ := bnd_some hf
  refine aw_pR e41 hC hW g32 gq41 fl_X1_25 (Or.inr ⟨hnm, ff_X1_25⟩) rfl dX1_init_41 (fun H locs hW => ?_)
  have hN := n_pR e41 hN
  have g32 := ko_pR e41 g32
  refine lv_aload_n hx hb dX1_init_44 rfl (lv_at hl 0 rfl) ?_
  refine lv_iconst (v := 1) hx hb dX1_init_45 (by decide) ?_
  obtain ⟨s46, e46, hf⟩ := bnd_some hf
  refine aw_pI e46 hC hW g32 fl_X1_29 (Or.inl fn_0_7) rfl rfl rfl dX1_init_46 (fun H locs hW => ?_)
  have hN := n_pI e46 hN
  have g32 := ko_pI e46 g32
  refine lv_aload_n hx hb dX1_init_49 rfl (lv_at hl 0 rfl) ?_
  refine lv_bipush (v := 80) hx hb dX1_init_50 (by decide) ?_
  obtain ⟨gr52, hf⟩ := gd_some hf
  obtain ⟨s52, e52, hf⟩ := bnd_some hf
  refine aw_newI (atype := .byte) (N := 80) 1 hC hW q209 rfl rfl (fun h => h) (cellI _ (by decide) rfl) (by decide) rfl (Nat.le_of_ble_eq_true rfl) (Nat.le_of_ble_eq_true rfl) (Nat.le_of_ble_eq_true rfl) dX1_init_52 (fun a52 H hE1 hW => ?_)
  have hE : EX a a52 N0 := hE.trans hE1 hN
  have hN := n_nw e52 hN
  have g32 := ko_nw e52 g32
  have hW := aw_eq e52 hW
  have hl : lv_has ls 2 [(0, .ref (a52 o))] := by simp only [hE1 _ gr52]; exact hl
  refine W.eq (g2 := F0 m 54 ls [.ref (a52 s46.1), .ref (a52 o)]) (by simp only [hE1 _ gr52]) ?_
  refine W.widen (k := 17) (n := 354) (Nat.le_of_ble_eq_true rfl) (Nat.le_of_ble_eq_true rfl) ?_
  obtain ⟨gq54, hf⟩ := gd_some hf
  obtain ⟨s54, e54, hf⟩ := bnd_some hf
  refine aw_pR e54 hC hW g32 gq54 fl_X1_33 (Or.inr ⟨hnm, ff_X1_33⟩) rfl dX1_init_54 (fun H locs hW => ?_)
  have hN := n_pR e54 hN
  have g32 := ko_pR e54 g32
  refine lv_aload_n hx hb dX1_init_57 rfl (lv_at hl 0 rfl) ?_
  refine lv_bipush (v := 16) hx hb dX1_init_58 (by decide) ?_
  obtain ⟨gr60, hf⟩ := gd_some hf
  obtain ⟨s60, e60, hf⟩ := bnd_some hf
  refine aw_newI (atype := .long) (N := 16) 4 hC hW q210 rfl rfl (fun h => h) (cellL _) (by decide) rfl (Nat.le_of_ble_eq_true rfl) (Nat.le_of_ble_eq_true rfl) (Nat.le_of_ble_eq_true rfl) dX1_init_60 (fun a60 H hE1 hW => ?_)
  have hE : EX a a60 N0 := hE.trans hE1 hN
  have hN := n_nw e60 hN
  have g32 := ko_nw e60 g32
  have hW := aw_eq e60 hW
  have hl : lv_has ls 2 [(0, .ref (a60 o))] := by simp only [hE1 _ gr60]; exact hl
  refine W.eq (g2 := F0 m 62 ls [.ref (a60 s54.1), .ref (a60 o)]) (by simp only [hE1 _ gr60]) ?_
  refine W.widen (k := 18) (n := 370) (Nat.le_of_ble_eq_true rfl) (Nat.le_of_ble_eq_true rfl) ?_
  obtain ⟨gq62, hf⟩ := gd_some hf
  obtain ⟨s62, e62, hf⟩ := bnd_some hf
  refine aw_pR e62 hC hW g32 gq62 fl_X1_37 (Or.inr ⟨hnm, ff_X1_37⟩) rfl dX1_init_62 (fun H locs hW => ?_)
  have hN := n_pR e62 hN
  have g32 := ko_pR e62 g32
  refine lv_aload_n hx hb dX1_init_65 rfl (lv_at hl 0 rfl) ?_
  refine lv_bipush (v := 8) hx hb dX1_init_66 (by decide) ?_
  obtain ⟨gr68, hf⟩ := gd_some hf
  obtain ⟨s68, e68, hf⟩ := bnd_some hf
  refine aw_newQ (N := 8) 0 hC hW (by decide) q115 (by decide) rfl (Nat.le_of_ble_eq_true rfl) (Nat.le_of_ble_eq_true rfl) (Nat.le_of_ble_eq_true rfl) dX1_init_68 (fun a68 H hE1 hW => ?_)
  have hE : EX a a68 N0 := hE.trans hE1 hN
  have hN := n_nw e68 hN
  have g32 := ko_nw e68 g32
  have hW := aw_eq e68 hW
  have hl : lv_has ls 2 [(0, .ref (a68 o))] := by simp only [hE1 _ gr68]; exact hl
  refine W.eq (g2 := F0 m 71 ls [.ref (a68 s62.1), .ref (a68 o)]) (by simp only [hE1 _ gr68]) ?_
  refine W.widen (k := 19) (n := 378) (Nat.le_of_ble_eq_true rfl) (Nat.le_of_ble_eq_true rfl) ?_
  refine lv_dup hx hb dX1_init_71 rfl ?_
  refine lv_iconst (v := 0) hx hb dX1_init_72 (by decide) ?_
  obtain ⟨gr73, hf⟩ := gd_some hf
  obtain ⟨gr73_1, hf⟩ := gd_some hf
  obtain ⟨s73, e73, hf⟩ := bnd_some hf
  refine aw_new (q := (RX3, TX3, 4)) (ci := 2) hC hW rfl q115 q183 q77 okT_X3 (Nat.le_of_ble_eq_true rfl) (Nat.le_of_ble_eq_true rfl) dX1_init_73 (fun a73 H hE1 hW => ?_)
  have hE : EX a a73 N0 := hE.trans hE1 hN
  have hN := n_nw e73 hN
  have g32 := ko_nw e73 g32
  have hW := aw_eq e73 hW
  have hl : lv_has ls 2 [(0, .ref (a73 o))] := by simp only [hE1 _ gr73, hE1 _ gr73_1]; exact hl
  refine W.eq (g2 := F0 m 76 ls [.ref (a73 s68.1), .int 0, .ref (a73 s62.1), .ref (a73 s62.1), .ref (a73 o)]) (by simp only [hE1 _ gr73, hE1 _ gr73_1]) ?_
  refine W.widen (k := 20) (n := 382) (Nat.le_of_ble_eq_true rfl) (Nat.le_of_ble_eq_true rfl) ?_
  have gn73 := ko_new e73
  refine lv_dup hx hb dX1_init_76 rfl ?_
  obtain ⟨gr77, hf⟩ := gd_some hf
  obtain ⟨gr77_1, hf⟩ := gd_some hf
  obtain ⟨gr77_2, hf⟩ := gd_some hf
  obtain ⟨_, s77, h77, hf⟩ := ob_some hf
  refine aw_run hC hW (aw_runI hC hW hl.1 (r := s68.1) (As := []) (rest := [.ref (a73 s68.1), .int 0, .ref (a73 s62.1), .ref (a73 s62.1), .ref (a73 o)]) (cta_X3_init l G a73 s68.1 s73 () s77 h77) iy_X3_init (Or.inr ⟨_, q184⟩) rfl rfl (Nat.le_of_ble_eq_true rfl) ⟨Nat.le_of_ble_eq_true rfl, Nat.le_of_ble_eq_true rfl⟩ ⟨Nat.le_of_ble_eq_true rfl, Nat.le_of_ble_eq_true rfl⟩ dX1_init_77) (fun v9 a77 s9 H locs hp9 hW => ?_)
  obtain ⟨rfl, h9s, hE1, hN1⟩ := hp9
  rw [h9s] at hW
  have hE : EX a a77 N0 := hE.trans hE1 hN
  have hN := Nat.le_trans hN hN1
  have hl : lv_has ls 2 [(0, .ref (a77 o))] := by simp only [hE1 _ gr77, hE1 _ gr77_1, hE1 _ gr77_2]; exact hl
  refine W.eq (g2 := F0 m 80 ls [.ref (a77 s68.1), .int 0, .ref (a77 s62.1), .ref (a77 s62.1), .ref (a77 o)]) (by show F0 m 80 ls [.ref (a73 s68.1), .int 0, .ref (a73 s62.1), .ref (a73 s62.1), .ref (a73 o)] = _; simp only [hE1 _ gr77, hE1 _ gr77_1, hE1 _ gr77_2]) ?_
  refine W.widen (k := 21) (n := 388) (Nat.le_of_ble_eq_true rfl) (Nat.le_of_ble_eq_true rfl) ?_
  obtain ⟨g80, hf⟩ := gd_some hf
  obtain ⟨g80_1, hf⟩ := gd_some hf
  obtain ⟨s80, e80, hf⟩ := bnd_some hf
  refine aw_aast (j := 0) e80 hC hW (by decide) g80 g80_1 dX1_init_80 (fun H locs hW => ?_)
  have hN := n_pR e80 hN
  have g80_1 := ko_pR e80 g80_1
  refine lv_dup hx hb dX1_init_81 rfl ?_
  refine lv_iconst (v := 1) hx hb dX1_init_82 (by decide) ?_
  obtain ⟨gr83, hf⟩ := gd_some hf
  obtain ⟨gr83_1, hf⟩ := gd_some hf
  obtain ⟨s83, e83, hf⟩ := bnd_some hf
  refine aw_new (q := (RX3, TX3, 4)) (ci := 2) hC hW rfl q115 q183 q77 okT_X3 (Nat.le_of_ble_eq_true rfl) (Nat.le_of_ble_eq_true rfl) dX1_init_83 (fun a83 H hE1 hW => ?_)
  have hE : EX a a83 N0 := hE.trans hE1 hN
  have hN := n_nw e83 hN
  have g80_1 := ko_nw e83 g80_1
  have hW := aw_eq e83 hW
  have hl : lv_has ls 2 [(0, .ref (a83 o))] := by simp only [hE1 _ gr83, hE1 _ gr83_1]; exact hl
  refine W.eq (g2 := F0 m 86 ls [.ref (a83 s80.1), .int 1, .ref (a83 s62.1), .ref (a83 s62.1), .ref (a83 o)]) (by simp only [hE1 _ gr83, hE1 _ gr83_1]) ?_
  refine W.widen (k := 22) (n := 392) (Nat.le_of_ble_eq_true rfl) (Nat.le_of_ble_eq_true rfl) ?_
  have gn83 := ko_new e83
  refine lv_dup hx hb dX1_init_86 rfl ?_
  obtain ⟨gr87, hf⟩ := gd_some hf
  obtain ⟨gr87_1, hf⟩ := gd_some hf
  obtain ⟨gr87_2, hf⟩ := gd_some hf
  obtain ⟨_, s87, h87, hf⟩ := ob_some hf
  refine aw_run hC hW (aw_runI hC hW hl.1 (r := s80.1) (As := []) (rest := [.ref (a83 s80.1), .int 1, .ref (a83 s62.1), .ref (a83 s62.1), .ref (a83 o)]) (cta_X3_init l G a83 s80.1 s83 () s87 h87) iy_X3_init (Or.inr ⟨_, q184⟩) rfl rfl (Nat.le_of_ble_eq_true rfl) ⟨Nat.le_of_ble_eq_true rfl, Nat.le_of_ble_eq_true rfl⟩ ⟨Nat.le_of_ble_eq_true rfl, Nat.le_of_ble_eq_true rfl⟩ dX1_init_87) (fun v9 a87 s9 H locs hp9 hW => ?_)
  obtain ⟨rfl, h9s, hE1, hN1⟩ := hp9
  rw [h9s] at hW
  have hE : EX a a87 N0 := hE.trans hE1 hN
  have hN := Nat.le_trans hN hN1
  have hl : lv_has ls 2 [(0, .ref (a87 o))] := by simp only [hE1 _ gr87, hE1 _ gr87_1, hE1 _ gr87_2]; exact hl
  refine W.eq (g2 := F0 m 90 ls [.ref (a87 s80.1), .int 1, .ref (a87 s62.1), .ref (a87 s62.1), .ref (a87 o)]) (by show F0 m 90 ls [.ref (a83 s80.1), .int 1, .ref (a83 s62.1), .ref (a83 s62.1), .ref (a83 o)] = _; simp only [hE1 _ gr87, hE1 _ gr87_1, hE1 _ gr87_2]) ?_
  refine W.widen (k := 23) (n := 398) (Nat.le_of_ble_eq_true rfl) (Nat.le_of_ble_eq_true rfl) ?_
  obtain ⟨g90, hf⟩ := gd_some hf
  obtain ⟨g90_1, hf⟩ := gd_some hf
  obtain ⟨s90, e90, hf⟩ := bnd_some hf
  refine aw_aast (j := 0) e90 hC hW (by decide) g90 g90_1 dX1_init_90 (fun H locs hW => ?_)
  have hN := n_pR e90 hN
  have g90_1 := ko_pR e90 g90_1
  refine lv_dup hx hb dX1_init_91 rfl ?_
  refine lv_iconst (v := 2) hx hb dX1_init_92 (by decide) ?_
  obtain ⟨gr93, hf⟩ := gd_some hf
  obtain ⟨gr93_1, hf⟩ := gd_some hf
  obtain ⟨s93, e93, hf⟩ := bnd_some hf
  refine aw_new (q := (RX3, TX3, 4)) (ci := 2) hC hW rfl q115 q183 q77 okT_X3 (Nat.le_of_ble_eq_true rfl) (Nat.le_of_ble_eq_true rfl) dX1_init_93 (fun a93 H hE1 hW => ?_)
  have hE : EX a a93 N0 := hE.trans hE1 hN
  have hN := n_nw e93 hN
  have g90_1 := ko_nw e93 g90_1
  have hW := aw_eq e93 hW
  have hl : lv_has ls 2 [(0, .ref (a93 o))] := by simp only [hE1 _ gr93, hE1 _ gr93_1]; exact hl
  refine W.eq (g2 := F0 m 96 ls [.ref (a93 s90.1), .int 2, .ref (a93 s62.1), .ref (a93 s62.1), .ref (a93 o)]) (by simp only [hE1 _ gr93, hE1 _ gr93_1]) ?_
  refine W.widen (k := 24) (n := 402) (Nat.le_of_ble_eq_true rfl) (Nat.le_of_ble_eq_true rfl) ?_
  have gn93 := ko_new e93
  refine lv_dup hx hb dX1_init_96 rfl ?_
  obtain ⟨gr97, hf⟩ := gd_some hf
  obtain ⟨gr97_1, hf⟩ := gd_some hf
  obtain ⟨gr97_2, hf⟩ := gd_some hf
  obtain ⟨_, s97, h97, hf⟩ := ob_some hf
  refine aw_run hC hW (aw_runI hC hW hl.1 (r := s90.1) (As := []) (rest := [.ref (a93 s90.1), .int 2, .ref (a93 s62.1), .ref (a93 s62.1), .ref (a93 o)]) (cta_X3_init l G a93 s90.1 s93 () s97 h97) iy_X3_init (Or.inr ⟨_, q184⟩) rfl rfl (Nat.le_of_ble_eq_true rfl) ⟨Nat.le_of_ble_eq_true rfl, Nat.le_of_ble_eq_true rfl⟩ ⟨Nat.le_of_ble_eq_true rfl, Nat.le_of_ble_eq_true rfl⟩ dX1_init_97) (fun v9 a97 s9 H locs hp9 hW => ?_)
  obtain ⟨rfl, h9s, hE1, hN1⟩ := hp9
  rw [h9s] at hW
  have hE : EX a a97 N0 := hE.trans hE1 hN
  have hN := Nat.le_trans hN hN1
  have hl : lv_has ls 2 [(0, .ref (a97 o))] := by simp only [hE1 _ gr97, hE1 _ gr97_1, hE1 _ gr97_2]; exact hl
  refine W.eq (g2 := F0 m 100 ls [.ref (a97 s90.1), .int 2, .ref (a97 s62.1), .ref (a97 s62.1), .ref (a97 o)]) (by show F0 m 100 ls [.ref (a93 s90.1), .int 2, .ref (a93 s62.1), .ref (a93 s62.1), .ref (a93 o)] = _; simp only [hE1 _ gr97, hE1 _ gr97_1, hE1 _ gr97_2]) ?_
  refine W.widen (k := 25) (n := 408) (Nat.le_of_ble_eq_true rfl) (Nat.le_of_ble_eq_true rfl) ?_
  obtain ⟨g100, hf⟩ := gd_some hf
  obtain ⟨g100_1, hf⟩ := gd_some hf
  obtain ⟨s100, e100, hf⟩ := bnd_some hf
  refine aw_aast (j := 0) e100 hC hW (by decide) g100 g100_1 dX1_init_100 (fun H locs hW => ?_)
  have hN := n_pR e100 hN
  have g100_1 := ko_pR e100 g100_1
  refine lv_dup hx hb dX1_init_101 rfl ?_
  refine lv_iconst (v := 3) hx hb dX1_init_102 (by decide) ?_
  obtain ⟨gr103, hf⟩ := gd_some hf
  obtain ⟨gr103_1, hf⟩ := gd_some hf
  obtain ⟨s103, e103, hf⟩ := bnd_some hf
  refine aw_new (q := (RX3, TX3, 4)) (ci := 2) hC hW rfl q115 q183 q77 okT_X3 (Nat.le_of_ble_eq_true rfl) (Nat.le_of_ble_eq_true rfl) dX1_init_103 (fun a103 H hE1 hW => ?_)
  have hE : EX a a103 N0 := hE.trans hE1 hN
  have hN := n_nw e103 hN
  have g100_1 := ko_nw e103 g100_1
  have hW := aw_eq e103 hW
  have hl : lv_has ls 2 [(0, .ref (a103 o))] := by simp only [hE1 _ gr103, hE1 _ gr103_1]; exact hl
  refine W.eq (g2 := F0 m 106 ls [.ref (a103 s100.1), .int 3, .ref (a103 s62.1), .ref (a103 s62.1), .ref (a103 o)]) (by simp only [hE1 _ gr103, hE1 _ gr103_1]) ?_
  refine W.widen (k := 26) (n := 412) (Nat.le_of_ble_eq_true rfl) (Nat.le_of_ble_eq_true rfl) ?_
  have gn103 := ko_new e103
  refine lv_dup hx hb dX1_init_106 rfl ?_
  obtain ⟨gr107, hf⟩ := gd_some hf
  obtain ⟨gr107_1, hf⟩ := gd_some hf
  obtain ⟨gr107_2, hf⟩ := gd_some hf
  obtain ⟨_, s107, h107, hf⟩ := ob_some hf
  refine aw_run hC hW (aw_runI hC hW hl.1 (r := s100.1) (As := []) (rest := [.ref (a103 s100.1), .int 3, .ref (a103 s62.1), .ref (a103 s62.1), .ref (a103 o)]) (cta_X3_init l G a103 s100.1 s103 () s107 h107) iy_X3_init (Or.inr ⟨_, q184⟩) rfl rfl (Nat.le_of_ble_eq_true rfl) ⟨Nat.le_of_ble_eq_true rfl, Nat.le_of_ble_eq_true rfl⟩ ⟨Nat.le_of_ble_eq_true rfl, Nat.le_of_ble_eq_true rfl⟩ dX1_init_107) (fun v9 a107 s9 H locs hp9 hW => ?_)
  obtain ⟨rfl, h9s, hE1, hN1⟩ := hp9
  rw [h9s] at hW
  have hE : EX a a107 N0 := hE.trans hE1 hN
  have hN := Nat.le_trans hN hN1
  have hl : lv_has ls 2 [(0, .ref (a107 o))] := by simp only [hE1 _ gr107, hE1 _ gr107_1, hE1 _ gr107_2]; exact hl
  refine W.eq (g2 := F0 m 110 ls [.ref (a107 s100.1), .int 3, .ref (a107 s62.1), .ref (a107 s62.1), .ref (a107 o)]) (by show F0 m 110 ls [.ref (a103 s100.1), .int 3, .ref (a103 s62.1), .ref (a103 s62.1), .ref (a103 o)] = _; simp only [hE1 _ gr107, hE1 _ gr107_1, hE1 _ gr107_2]) ?_
  refine W.widen (k := 27) (n := 418) (Nat.le_of_ble_eq_true rfl) (Nat.le_of_ble_eq_true rfl) ?_
  obtain ⟨g110, hf⟩ := gd_some hf
  obtain ⟨g110_1, hf⟩ := gd_some hf
  obtain ⟨s110, e110, hf⟩ := bnd_some hf
  refine aw_aast (j := 0) e110 hC hW (by decide) g110 g110_1 dX1_init_110 (fun H locs hW => ?_)
  have hN := n_pR e110 hN
  have g110_1 := ko_pR e110 g110_1
  refine lv_dup hx hb dX1_init_111 rfl ?_
  refine lv_iconst (v := 4) hx hb dX1_init_112 (by decide) ?_
  obtain ⟨gr113, hf⟩ := gd_some hf
  obtain ⟨gr113_1, hf⟩ := gd_some hf
  obtain ⟨s113, e113, hf⟩ := bnd_some hf
  refine aw_new (q := (RX3, TX3, 4)) (ci := 2) hC hW rfl q115 q183 q77 okT_X3 (Nat.le_of_ble_eq_true rfl) (Nat.le_of_ble_eq_true rfl) dX1_init_113 (fun a113 H hE1 hW => ?_)
  have hE : EX a a113 N0 := hE.trans hE1 hN
  have hN := n_nw e113 hN
  have g110_1 := ko_nw e113 g110_1
  have hW := aw_eq e113 hW
  have hl : lv_has ls 2 [(0, .ref (a113 o))] := by simp only [hE1 _ gr113, hE1 _ gr113_1]; exact hl
  refine W.eq (g2 := F0 m 116 ls [.ref (a113 s110.1), .int 4, .ref (a113 s62.1), .ref (a113 s62.1), .ref (a113 o)]) (by simp only [hE1 _ gr113, hE1 _ gr113_1]) ?_
  refine W.widen (k := 28) (n := 422) (Nat.le_of_ble_eq_true rfl) (Nat.le_of_ble_eq_true rfl) ?_
  have gn113 := ko_new e113
  refine lv_dup hx hb dX1_init_116 rfl ?_
  obtain ⟨gr117, hf⟩ := gd_some hf
  obtain ⟨gr117_1, hf⟩ := gd_some hf
  obtain ⟨gr117_2, hf⟩ := gd_some hf
  obtain ⟨_, s117, h117, hf⟩ := ob_some hf
  refine aw_run hC hW (aw_runI hC hW hl.1 (r := s110.1) (As := []) (rest := [.ref (a113 s110.1), .int 4, .ref (a113 s62.1), .ref (a113 s62.1), .ref (a113 o)]) (cta_X3_init l G a113 s110.1 s113 () s117 h117) iy_X3_init (Or.inr ⟨_, q184⟩) rfl rfl (Nat.le_of_ble_eq_true rfl) ⟨Nat.le_of_ble_eq_true rfl, Nat.le_of_ble_eq_true rfl⟩ ⟨Nat.le_of_ble_eq_true rfl, Nat.le_of_ble_eq_true rfl⟩ dX1_init_117) (fun v9 a117 s9 H locs hp9 hW => ?_)
  obtain ⟨rfl, h9s, hE1, hN1⟩ := hp9
  rw [h9s] at hW
  have hE : EX a a117 N0 := hE.trans hE1 hN
  have hN := Nat.le_trans hN hN1
  have hl : lv_has ls 2 [(0, .ref (a117 o))] := by simp only [hE1 _ gr117, hE1 _ gr117_1, hE1 _ gr117_2]; exact hl
  refine W.eq (g2 := F0 m 120 ls [.ref (a117 s110.1), .int 4, .ref (a117 s62.1), .ref (a117 s62.1), .ref (a117 o)]) (by show F0 m 120 ls [.ref (a113 s110.1), .int 4, .ref (a113 s62.1), .ref (a113 s62.1), .ref (a113 o)] = _; simp only [hE1 _ gr117, hE1 _ gr117_1, hE1 _ gr117_2]) ?_
  refine W.widen (k := 29) (n := 428) (Nat.le_of_ble_eq_true rfl) (Nat.le_of_ble_eq_true rfl) ?_
  obtain ⟨g120, hf⟩ := gd_some hf
  obtain ⟨g120_1, hf⟩ := gd_some hf
  obtain ⟨s120, e120, hf⟩ := bnd_some hf
  refine aw_aast (j := 0) e120 hC hW (by decide) g120 g120_1 dX1_init_120 (fun H locs hW => ?_)
  have hN := n_pR e120 hN
  have g120_1 := ko_pR e120 g120_1
  refine lv_dup hx hb dX1_init_121 rfl ?_
  refine lv_iconst (v := 5) hx hb dX1_init_122 (by decide) ?_
  obtain ⟨gr123, hf⟩ := gd_some hf
  obtain ⟨gr123_1, hf⟩ := gd_some hf
  obtain ⟨s123, e123, hf⟩ := bnd_some hf
  refine aw_new (q := (RX3, TX3, 4)) (ci := 2) hC hW rfl q115 q183 q77 okT_X3 (Nat.le_of_ble_eq_true rfl) (Nat.le_of_ble_eq_true rfl) dX1_init_123 (fun a123 H hE1 hW => ?_)
  have hE : EX a a123 N0 := hE.trans hE1 hN
  have hN := n_nw e123 hN
  have g120_1 := ko_nw e123 g120_1
  have hW := aw_eq e123 hW
  have hl : lv_has ls 2 [(0, .ref (a123 o))] := by simp only [hE1 _ gr123, hE1 _ gr123_1]; exact hl
  refine W.eq (g2 := F0 m 126 ls [.ref (a123 s120.1), .int 5, .ref (a123 s62.1), .ref (a123 s62.1), .ref (a123 o)]) (by simp only [hE1 _ gr123, hE1 _ gr123_1]) ?_
  refine W.widen (k := 30) (n := 432) (Nat.le_of_ble_eq_true rfl) (Nat.le_of_ble_eq_true rfl) ?_
  have gn123 := ko_new e123
  refine lv_dup hx hb dX1_init_126 rfl ?_
  obtain ⟨gr127, hf⟩ := gd_some hf
  obtain ⟨gr127_1, hf⟩ := gd_some hf
  obtain ⟨gr127_2, hf⟩ := gd_some hf
  obtain ⟨_, s127, h127, hf⟩ := ob_some hf
  refine aw_run hC hW (aw_runI hC hW hl.1 (r := s120.1) (As := []) (rest := [.ref (a123 s120.1), .int 5, .ref (a123 s62.1), .ref (a123 s62.1), .ref (a123 o)]) (cta_X3_init l G a123 s120.1 s123 () s127 h127) iy_X3_init (Or.inr ⟨_, q184⟩) rfl rfl (Nat.le_of_ble_eq_true rfl) ⟨Nat.le_of_ble_eq_true rfl, Nat.le_of_ble_eq_true rfl⟩ ⟨Nat.le_of_ble_eq_true rfl, Nat.le_of_ble_eq_true rfl⟩ dX1_init_127) (fun v9 a127 s9 H locs hp9 hW => ?_)
  obtain ⟨rfl, h9s, hE1, hN1⟩ := hp9
  rw [h9s] at hW
  have hE : EX a a127 N0 := hE.trans hE1 hN
  have hN := Nat.le_trans hN hN1
  have hl : lv_has ls 2 [(0, .ref (a127 o))] := by simp only [hE1 _ gr127, hE1 _ gr127_1, hE1 _ gr127_2]; exact hl
  refine W.eq (g2 := F0 m 130 ls [.ref (a127 s120.1), .int 5, .ref (a127 s62.1), .ref (a127 s62.1), .ref (a127 o)]) (by show F0 m 130 ls [.ref (a123 s120.1), .int 5, .ref (a123 s62.1), .ref (a123 s62.1), .ref (a123 o)] = _; simp only [hE1 _ gr127, hE1 _ gr127_1, hE1 _ gr127_2]) ?_
  refine W.widen (k := 31) (n := 438) (Nat.le_of_ble_eq_true rfl) (Nat.le_of_ble_eq_true rfl) ?_
  obtain ⟨g130, hf⟩ := gd_some hf
  obtain ⟨g130_1, hf⟩ := gd_some hf
  obtain ⟨s130, e130, hf⟩ := bnd_some hf
  refine aw_aast (j := 0) e130 hC hW (by decide) g130 g130_1 dX1_init_130 (fun H locs hW => ?_)
  have hN := n_pR e130 hN
  have g130_1 := ko_pR e130 g130_1
  refine lv_dup hx hb dX1_init_131 rfl ?_
  refine lv_bipush (v := 6) hx hb dX1_init_132 (by decide) ?_
  obtain ⟨gr134, hf⟩ := gd_some hf
  obtain ⟨gr134_1, hf⟩ := gd_some hf
  obtain ⟨s134, e134, hf⟩ := bnd_some hf
  refine aw_new (q := (RX3, TX3, 4)) (ci := 2) hC hW rfl q115 q183 q77 okT_X3 (Nat.le_of_ble_eq_true rfl) (Nat.le_of_ble_eq_true rfl) dX1_init_134 (fun a134 H hE1 hW => ?_)
  have hE : EX a a134 N0 := hE.trans hE1 hN
  have hN := n_nw e134 hN
  have g130_1 := ko_nw e134 g130_1
  have hW := aw_eq e134 hW
  have hl : lv_has ls 2 [(0, .ref (a134 o))] := by simp only [hE1 _ gr134, hE1 _ gr134_1]; exact hl
  refine W.eq (g2 := F0 m 137 ls [.ref (a134 s130.1), .int 6, .ref (a134 s62.1), .ref (a134 s62.1), .ref (a134 o)]) (by simp only [hE1 _ gr134, hE1 _ gr134_1]) ?_
  refine W.widen (k := 32) (n := 442) (Nat.le_of_ble_eq_true rfl) (Nat.le_of_ble_eq_true rfl) ?_
  have gn134 := ko_new e134
  refine lv_dup hx hb dX1_init_137 rfl ?_
  obtain ⟨gr138, hf⟩ := gd_some hf
  obtain ⟨gr138_1, hf⟩ := gd_some hf
  obtain ⟨gr138_2, hf⟩ := gd_some hf
  obtain ⟨_, s138, h138, hf⟩ := ob_some hf
  refine aw_run hC hW (aw_runI hC hW hl.1 (r := s130.1) (As := []) (rest := [.ref (a134 s130.1), .int 6, .ref (a134 s62.1), .ref (a134 s62.1), .ref (a134 o)]) (cta_X3_init l G a134 s130.1 s134 () s138 h138) iy_X3_init (Or.inr ⟨_, q184⟩) rfl rfl (Nat.le_of_ble_eq_true rfl) ⟨Nat.le_of_ble_eq_true rfl, Nat.le_of_ble_eq_true rfl⟩ ⟨Nat.le_of_ble_eq_true rfl, Nat.le_of_ble_eq_true rfl⟩ dX1_init_138) (fun v9 a138 s9 H locs hp9 hW => ?_)
  obtain ⟨rfl, h9s, hE1, hN1⟩ := hp9
  rw [h9s] at hW
  have hE : EX a a138 N0 := hE.trans hE1 hN
  have hN := Nat.le_trans hN hN1
  have hl : lv_has ls 2 [(0, .ref (a138 o))] := by simp only [hE1 _ gr138, hE1 _ gr138_1, hE1 _ gr138_2]; exact hl
  refine W.eq (g2 := F0 m 141 ls [.ref (a138 s130.1), .int 6, .ref (a138 s62.1), .ref (a138 s62.1), .ref (a138 o)]) (by show F0 m 141 ls [.ref (a134 s130.1), .int 6, .ref (a134 s62.1), .ref (a134 s62.1), .ref (a134 o)] = _; simp only [hE1 _ gr138, hE1 _ gr138_1, hE1 _ gr138_2]) ?_
  refine W.widen (k := 33) (n := 448) (Nat.le_of_ble_eq_true rfl) (Nat.le_of_ble_eq_true rfl) ?_
  obtain ⟨g141, hf⟩ := gd_some hf
  obtain ⟨g141_1, hf⟩ := gd_some hf
  obtain ⟨s141, e141, hf⟩ := bnd_some hf
  refine aw_aast (j := 0) e141 hC hW (by decide) g141 g141_1 dX1_init_141 (fun H locs hW => ?_)
  have hN := n_pR e141 hN
  have g141_1 := ko_pR e141 g141_1
  refine lv_dup hx hb dX1_init_142 rfl ?_
  refine lv_bipush (v := 7) hx hb dX1_init_143 (by decide) ?_
  obtain ⟨gr145, hf⟩ := gd_some hf
  obtain ⟨gr145_1, hf⟩ := gd_some hf
  obtain ⟨s145, e145, hf⟩ := bnd_some hf
  refine aw_new (q := (RX3, TX3, 4)) (ci := 2) hC hW rfl q115 q183 q77 okT_X3 (Nat.le_of_ble_eq_true rfl) (Nat.le_of_ble_eq_true rfl) dX1_init_145 (fun a145 H hE1 hW => ?_)
  have hE : EX a a145 N0 := hE.trans hE1 hN
  have hN := n_nw e145 hN
  have g141_1 := ko_nw e145 g141_1
  have hW := aw_eq e145 hW
  have hl : lv_has ls 2 [(0, .ref (a145 o))] := by simp only [hE1 _ gr145, hE1 _ gr145_1]; exact hl
  refine W.eq (g2 := F0 m 148 ls [.ref (a145 s141.1), .int 7, .ref (a145 s62.1), .ref (a145 s62.1), .ref (a145 o)]) (by simp only [hE1 _ gr145, hE1 _ gr145_1]) ?_
  refine W.widen (k := 34) (n := 452) (Nat.le_of_ble_eq_true rfl) (Nat.le_of_ble_eq_true rfl) ?_
  have gn145 := ko_new e145
  refine lv_dup hx hb dX1_init_148 rfl ?_
  obtain ⟨gr149, hf⟩ := gd_some hf
  obtain ⟨gr149_1, hf⟩ := gd_some hf
  obtain ⟨gr149_2, hf⟩ := gd_some hf
  obtain ⟨_, s149, h149, hf⟩ := ob_some hf
  refine aw_run hC hW (aw_runI hC hW hl.1 (r := s141.1) (As := []) (rest := [.ref (a145 s141.1), .int 7, .ref (a145 s62.1), .ref (a145 s62.1), .ref (a145 o)]) (cta_X3_init l G a145 s141.1 s145 () s149 h149) iy_X3_init (Or.inr ⟨_, q184⟩) rfl rfl (Nat.le_of_ble_eq_true rfl) ⟨Nat.le_of_ble_eq_true rfl, Nat.le_of_ble_eq_true rfl⟩ ⟨Nat.le_of_ble_eq_true rfl, Nat.le_of_ble_eq_true rfl⟩ dX1_init_149) (fun v9 a149 s9 H locs hp9 hW => ?_)
  obtain ⟨rfl, h9s, hE1, hN1⟩ := hp9
  rw [h9s] at hW
  have hE : EX a a149 N0 := hE.trans hE1 hN
  have hN := Nat.le_trans hN hN1
  have hl : lv_has ls 2 [(0, .ref (a149 o))] := by simp only [hE1 _ gr149, hE1 _ gr149_1, hE1 _ gr149_2]; exact hl
  refine W.eq (g2 := F0 m 152 ls [.ref (a149 s141.1), .int 7, .ref (a149 s62.1), .ref (a149 s62.1), .ref (a149 o)]) (by show F0 m 152 ls [.ref (a145 s141.1), .int 7, .ref (a145 s62.1), .ref (a145 s62.1), .ref (a145 o)] = _; simp only [hE1 _ gr149, hE1 _ gr149_1, hE1 _ gr149_2]) ?_
  refine W.widen (k := 35) (n := 458) (Nat.le_of_ble_eq_true rfl) (Nat.le_of_ble_eq_true rfl) ?_
  obtain ⟨g152, hf⟩ := gd_some hf
  obtain ⟨g152_1, hf⟩ := gd_some hf
  obtain ⟨s152, e152, hf⟩ := bnd_some hf
  refine aw_aast (j := 0) e152 hC hW (by decide) g152 g152_1 dX1_init_152 (fun H locs hW => ?_)
  have hN := n_pR e152 hN
  have g152_1 := ko_pR e152 g152_1
  obtain ⟨g153, hf⟩ := gd_some hf
  obtain ⟨gq153, hf⟩ := gd_some hf
  obtain ⟨s153, e153, hf⟩ := bnd_some hf
  refine aw_pR e153 hC hW g153 gq153 fl_X1_42 (Or.inr ⟨hnm, ff_X1_42⟩) rfl dX1_init_153 (fun H locs hW => ?_)
  have hN := n_pR e153 hN
  have g152_1 := ko_pR e153 g152_1
  have g153 := ko_pR e153 g153
  refine lv_aload_n hx hb dX1_init_156 rfl (lv_at hl 0 rfl) ?_
  refine lv_bipush (v := 8) hx hb dX1_init_157 (by decide) ?_
  obtain ⟨gr159, hf⟩ := gd_some hf
  obtain ⟨s159, e159, hf⟩ := bnd_some hf
  refine aw_newI (atype := .int) (N := 8) 0 hC hW q181 rfl rfl (fun h => h) (cellI _ (by decide) rfl) (by decide) rfl (Nat.le_of_ble_eq_true rfl) (Nat.le_of_ble_eq_true rfl) (Nat.le_of_ble_eq_true rfl) dX1_init_159 (fun a159 H hE1 hW => ?_)
  have hE : EX a a159 N0 := hE.trans hE1 hN
  have hN := n_nw e159 hN
  have g152_1 := ko_nw e159 g152_1
  have g153 := ko_nw e159 g153
  have hW := aw_eq e159 hW
  have hl : lv_has ls 2 [(0, .ref (a159 o))] := by simp only [hE1 _ gr159]; exact hl
  refine W.eq (g2 := F0 m 161 ls [.ref (a159 s153.1), .ref (a159 o)]) (by simp only [hE1 _ gr159]) ?_
  refine W.widen (k := 36) (n := 466) (Nat.le_of_ble_eq_true rfl) (Nat.le_of_ble_eq_true rfl) ?_
  obtain ⟨gq161, hf⟩ := gd_some hf
  obtain ⟨s161, e161, hf⟩ := bnd_some hf
  refine aw_pR e161 hC hW g153 gq161 fl_X1_45 (Or.inr ⟨hnm, ff_X1_45⟩) rfl dX1_init_161 (fun H locs hW => ?_)
  have hN := n_pR e161 hN
  have g152_1 := ko_pR e161 g152_1
  have g153 := ko_pR e161 g153
  refine lv_aload_n hx hb dX1_init_164 rfl (lv_at hl 0 rfl) ?_
  obtain ⟨gr165, hf⟩ := gd_some hf
  obtain ⟨s165, e165, hf⟩ := bnd_some hf
  refine aw_new (q := (RX4, TX4, 1)) (ci := 3) hC hW rfl q211 q212 q78 okT_X4 (Nat.le_of_ble_eq_true rfl) (Nat.le_of_ble_eq_true rfl) dX1_init_165 (fun a165 H hE1 hW => ?_)
  have hE : EX a a165 N0 := hE.trans hE1 hN
  have hN := n_nw e165 hN
  have g152_1 := ko_nw e165 g152_1
  have g153 := ko_nw e165 g153
  have hW := aw_eq e165 hW
  have hl : lv_has ls 2 [(0, .ref (a165 o))] := by simp only [hE1 _ gr165]; exact hl
  refine W.eq (g2 := F0 m 168 ls [.ref (a165 s161.1), .ref (a165 o)]) (by simp only [hE1 _ gr165]) ?_
  refine W.widen (k := 37) (n := 467) (Nat.le_of_ble_eq_true rfl) (Nat.le_of_ble_eq_true rfl) ?_
  have gn165 := ko_new e165
  refine lv_dup hx hb dX1_init_168 rfl ?_
  refine lv_aload_n hx hb dX1_init_169 rfl (lv_at hl 0 rfl) ?_
  obtain ⟨_, s170, h170, hf⟩ := ob_some hf
  obtain ⟨hN1, hf⟩ := gd_some hf
  have hN := Nat.le_trans hN hN1
  refine aw_dI0 (r := s161.1) (As := [.ref (a165 o)]) (rest := [.ref (a165 s161.1), .ref (a165 o)]) (ct_X4_init l G a165 s161.1 o s165 () s170 h170) hC hW hl.1 iy_X4_init (Or.inr ⟨_, q213⟩) rfl rfl (Nat.le_of_ble_eq_true rfl) ⟨Nat.le_of_ble_eq_true rfl, Nat.le_of_ble_eq_true rfl⟩ ⟨Nat.le_of_ble_eq_true rfl, Nat.le_of_ble_eq_true rfl⟩ dX1_init_170 (fun H locs hW => ?_)
  obtain ⟨g173, hf⟩ := gd_some hf
  obtain ⟨gq173, hf⟩ := gd_some hf
  obtain ⟨s173, e173, hf⟩ := bnd_some hf
  refine aw_pR e173 hC hW g173 gq173 fl_X1_54 (Or.inr ⟨hnm, ff_X1_54⟩) rfl dX1_init_173 (fun H locs hW => ?_)
  have hN := n_pR e173 hN
  have g173 := ko_pR e173 g173
  refine lv_aload_n hx hb dX1_init_176 rfl (lv_at hl 0 rfl) ?_
  obtain ⟨gr177, hf⟩ := gd_some hf
  obtain ⟨s177, e177, hf⟩ := bnd_some hf
  refine aw_new (q := (RX5, TX5, 1)) (ci := 4) hC hW rfl q221 q222 q79 okT_X5 (Nat.le_of_ble_eq_true rfl) (Nat.le_of_ble_eq_true rfl) dX1_init_177 (fun a177 H hE1 hW => ?_)
  have hE : EX a a177 N0 := hE.trans hE1 hN
  have hN := n_nw e177 hN
  have g173 := ko_nw e177 g173
  have hW := aw_eq e177 hW
  have hl : lv_has ls 2 [(0, .ref (a177 o))] := by simp only [hE1 _ gr177]; exact hl
  refine W.eq (g2 := F0 m 180 ls [.ref (a177 s173.1), .ref (a177 o)]) (by simp only [hE1 _ gr177]) ?_
  refine W.widen (k := 38) (n := 468) (Nat.le_of_ble_eq_true rfl) (Nat.le_of_ble_eq_true rfl) ?_
  have gn177 := ko_new e177
  refine lv_dup hx hb dX1_init_180 rfl ?_
  obtain ⟨_, s181, h181, hf⟩ := ob_some hf
  obtain ⟨hN1, hf⟩ := gd_some hf
  have hN := Nat.le_trans hN hN1
  refine aw_dI0 (r := s173.1) (As := []) (rest := [.ref (a177 s173.1), .ref (a177 o)]) (ct_X5_init l G a177 s173.1 s177 () s181 h181) hC hW hl.1 iy_X5_init (Or.inr ⟨_, q223⟩) rfl rfl (Nat.le_of_ble_eq_true rfl) ⟨Nat.le_of_ble_eq_true rfl, Nat.le_of_ble_eq_true rfl⟩ ⟨Nat.le_of_ble_eq_true rfl, Nat.le_of_ble_eq_true rfl⟩ dX1_init_181 (fun H locs hW => ?_)
  obtain ⟨g184, hf⟩ := gd_some hf
  obtain ⟨gq184, hf⟩ := gd_some hf
  obtain ⟨s184, e184, hf⟩ := bnd_some hf
  refine aw_pR e184 hC hW g184 gq184 fl_X1_61 (Or.inr ⟨hnm, ff_X1_61⟩) rfl dX1_init_184 (fun H locs hW => ?_)
  have hN := n_pR e184 hN
  have g184 := ko_pR e184 g184
  refine lv_aload_n hx hb dX1_init_187 rfl (lv_at hl 0 rfl) ?_
  obtain ⟨gr188, hf⟩ := gd_some hf
  obtain ⟨s188, e188, hf⟩ := bnd_some hf
  refine aw_new (q := (RX6, TX6, 4)) (ci := 5) hC hW rfl q233 q234 q80 okT_X6 (Nat.le_of_ble_eq_true rfl) (Nat.le_of_ble_eq_true rfl) dX1_init_188 (fun a188 H hE1 hW => ?_)
  have hE : EX a a188 N0 := hE.trans hE1 hN
  have hN := n_nw e188 hN
  have g184 := ko_nw e188 g184
  have hW := aw_eq e188 hW
  have hl : lv_has ls 2 [(0, .ref (a188 o))] := by simp only [hE1 _ gr188]; exact hl
  refine W.eq (g2 := F0 m 191 ls [.ref (a188 s184.1), .ref (a188 o)]) (by simp only [hE1 _ gr188]) ?_
  refine W.widen (k := 39) (n := 472) (Nat.le_of_ble_eq_true rfl) (Nat.le_of_ble_eq_true rfl) ?_
  have gn188 := ko_new e188
  refine lv_dup hx hb dX1_init_191 rfl ?_
  refine lv_aload_n hx hb dX1_init_192 rfl (lv_at hl 0 rfl) ?_
  obtain ⟨_, s193, h193, hf⟩ := ob_some hf
  obtain ⟨hN1, hf⟩ := gd_some hf
  have hN := Nat.le_trans hN hN1
  refine aw_dI0 (r := s184.1) (As := [.ref (a188 o)]) (rest := [.ref (a188 s184.1), .ref (a188 o)]) (ct_X6_init l G a188 s184.1 o s188 () s193 h193) hC hW hl.1 iy_X6_init (Or.inr ⟨_, q235⟩) rfl rfl (Nat.le_of_ble_eq_true rfl) ⟨Nat.le_of_ble_eq_true rfl, Nat.le_of_ble_eq_true rfl⟩ ⟨Nat.le_of_ble_eq_true rfl, Nat.le_of_ble_eq_true rfl⟩ dX1_init_193 (fun H locs hW => ?_)
  obtain ⟨g196, hf⟩ := gd_some hf
  obtain ⟨gq196, hf⟩ := gd_some hf
  obtain ⟨s196, e196, hf⟩ := bnd_some hf
  refine aw_pR e196 hC hW g196 gq196 fl_X1_68 (Or.inr ⟨hnm, ff_X1_68⟩) rfl dX1_init_196 (fun H locs hW => ?_)
  have hN := n_pR e196 hN
  have g196 := ko_pR e196 g196
  refine lv_aload_n hx hb dX1_init_199 rfl (lv_at hl 0 rfl) ?_
  obtain ⟨gr200, hf⟩ := gd_some hf
  obtain ⟨s200, e200, hf⟩ := bnd_some hf
  refine aw_new (q := (RX7, TX7, 2)) (ci := 6) hC hW rfl q255 q256 q81 okT_X7 (Nat.le_of_ble_eq_true rfl) (Nat.le_of_ble_eq_true rfl) dX1_init_200 (fun a200 H hE1 hW => ?_)
  have hE : EX a a200 N0 := hE.trans hE1 hN
  have hN := n_nw e200 hN
  have g196 := ko_nw e200 g196
  have hW := aw_eq e200 hW
  have hl : lv_has ls 2 [(0, .ref (a200 o))] := by simp only [hE1 _ gr200]; exact hl
  refine W.eq (g2 := F0 m 203 ls [.ref (a200 s196.1), .ref (a200 o)]) (by simp only [hE1 _ gr200]) ?_
  refine W.widen (k := 40) (n := 474) (Nat.le_of_ble_eq_true rfl) (Nat.le_of_ble_eq_true rfl) ?_
  have gn200 := ko_new e200
  refine lv_dup hx hb dX1_init_203 rfl ?_
  obtain ⟨gr204, hf⟩ := gd_some hf
  obtain ⟨gr204_1, hf⟩ := gd_some hf
  obtain ⟨_, s204, h204, hf⟩ := ob_some hf
  refine aw_run hC hW (aw_runI hC hW hl.1 (r := s196.1) (As := []) (rest := [.ref (a200 s196.1), .ref (a200 o)]) (cta_X7_init l G a200 s196.1 s200 () s204 h204) iy_X7_init (Or.inr ⟨_, q257⟩) rfl rfl (Nat.le_of_ble_eq_true rfl) ⟨Nat.le_of_ble_eq_true rfl, Nat.le_of_ble_eq_true rfl⟩ ⟨Nat.le_of_ble_eq_true rfl, Nat.le_of_ble_eq_true rfl⟩ dX1_init_204) (fun v9 a204 s9 H locs hp9 hW => ?_)
  obtain ⟨rfl, h9s, hE1, hN1⟩ := hp9
  rw [h9s] at hW
  have hE : EX a a204 N0 := hE.trans hE1 hN
  have hN := Nat.le_trans hN hN1
  have hl : lv_has ls 2 [(0, .ref (a204 o))] := by simp only [hE1 _ gr204, hE1 _ gr204_1]; exact hl
  refine W.eq (g2 := F0 m 207 ls [.ref (a204 s196.1), .ref (a204 o)]) (by show F0 m 207 ls [.ref (a200 s196.1), .ref (a200 o)] = _; simp only [hE1 _ gr204, hE1 _ gr204_1]) ?_
  refine W.widen (k := 41) (n := 482) (Nat.le_of_ble_eq_true rfl) (Nat.le_of_ble_eq_true rfl) ?_
  obtain ⟨g207, hf⟩ := gd_some hf
  obtain ⟨gq207, hf⟩ := gd_some hf
  obtain ⟨s207, e207, hf⟩ := bnd_some hf
  refine aw_pR e207 hC hW g207 gq207 fl_X1_75 (Or.inr ⟨hnm, ff_X1_75⟩) rfl dX1_init_207 (fun H locs hW => ?_)
  have hN := n_pR e207 hN
  have g207 := ko_pR e207 g207
  refine lv_aload_n hx hb dX1_init_210 rfl (lv_at hl 0 rfl) ?_
  obtain ⟨gr211, hf⟩ := gd_some hf
  obtain ⟨s211, e211, hf⟩ := bnd_some hf
  refine aw_new (q := (RX8, TX8, 3)) (ci := 7) hC hW rfl q270 q271 q82 okT_X8 (Nat.le_of_ble_eq_true rfl) (Nat.le_of_ble_eq_true rfl) dX1_init_211 (fun a211 H hE1 hW => ?_)
  have hE : EX a a211 N0 := hE.trans hE1 hN
  have hN := n_nw e211 hN
  have g207 := ko_nw e211 g207
  have hW := aw_eq e211 hW
  have hl : lv_has ls 2 [(0, .ref (a211 o))] := by simp only [hE1 _ gr211]; exact hl
  refine W.eq (g2 := F0 m 214 ls [.ref (a211 s207.1), .ref (a211 o)]) (by simp only [hE1 _ gr211]) ?_
  refine W.widen (k := 42) (n := 485) (Nat.le_of_ble_eq_true rfl) (Nat.le_of_ble_eq_true rfl) ?_
  have gn211 := ko_new e211
  refine lv_dup hx hb dX1_init_214 rfl ?_
  refine lv_aload_n hx hb dX1_init_215 rfl (lv_at hl 0 rfl) ?_
  obtain ⟨_, s216, h216, hf⟩ := ob_some hf
  obtain ⟨hN1, hf⟩ := gd_some hf
  have hN := Nat.le_trans hN hN1
  refine aw_dI0 (r := s207.1) (As := [.ref (a211 o)]) (rest := [.ref (a211 s207.1), .ref (a211 o)]) (ct_X8_init l G a211 s207.1 o s211 () s216 h216) hC hW hl.1 iy_X8_init (Or.inr ⟨_, q272⟩) rfl rfl (Nat.le_of_ble_eq_true rfl) ⟨Nat.le_of_ble_eq_true rfl, Nat.le_of_ble_eq_true rfl⟩ ⟨Nat.le_of_ble_eq_true rfl, Nat.le_of_ble_eq_true rfl⟩ dX1_init_216 (fun H locs hW => ?_)
  obtain ⟨g219, hf⟩ := gd_some hf
  obtain ⟨gq219, hf⟩ := gd_some hf
  obtain ⟨s219, e219, hf⟩ := bnd_some hf
  refine aw_pR e219 hC hW g219 gq219 fl_X1_82 (Or.inr ⟨hnm, ff_X1_82⟩) rfl dX1_init_219 (fun H locs hW => ?_)
  have hN := n_pR e219 hN
  have g219 := ko_pR e219 g219
  refine lv_aload_n hx hb dX1_init_222 rfl (lv_at hl 0 rfl) ?_
  refine lv_bipush (v := 61) hx hb dX1_init_223 (by decide) ?_
  obtain ⟨gr225, hf⟩ := gd_some hf
  obtain ⟨s225, e225, hf⟩ := bnd_some hf
  refine aw_newI (atype := .int) (N := 61) 0 hC hW q181 rfl rfl (fun h => h) (cellI _ (by decide) rfl) (by decide) rfl (Nat.le_of_ble_eq_true rfl) (Nat.le_of_ble_eq_true rfl) (Nat.le_of_ble_eq_true rfl) dX1_init_225 (fun a225 H hE1 hW => ?_)
  have hE : EX a a225 N0 := hE.trans hE1 hN
  have hN := n_nw e225 hN
  have g219 := ko_nw e225 g219
  have hW := aw_eq e225 hW
  have hl : lv_has ls 2 [(0, .ref (a225 o))] := by simp only [hE1 _ gr225]; exact hl
  refine W.eq (g2 := F0 m 227 ls [.ref (a225 s219.1), .ref (a225 o)]) (by simp only [hE1 _ gr225]) ?_
  refine W.widen (k := 43) (n := 546) (Nat.le_of_ble_eq_true rfl) (Nat.le_of_ble_eq_true rfl) ?_
  obtain ⟨gq227, hf⟩ := gd_some hf
  obtain ⟨s227, e227, hf⟩ := bnd_some hf
  refine aw_pR e227 hC hW g219 gq227 fl_X1_86 (Or.inr ⟨hnm, ff_X1_86⟩) rfl dX1_init_227 (fun H locs hW => ?_)
  have hN := n_pR e227 hN
  have g219 := ko_pR e227 g219
  refine lv_aload_n hx hb dX1_init_230 rfl (lv_at hl 0 rfl) ?_
  refine lv_iconst (v := 4) hx hb dX1_init_231 (by decide) ?_
  obtain ⟨gr232, hf⟩ := gd_some hf
  obtain ⟨s232, e232, hf⟩ := bnd_some hf
  refine aw_newI (atype := .int) (N := 4) 0 hC hW q181 rfl rfl (fun h => h) (cellI _ (by decide) rfl) (by decide) rfl (Nat.le_of_ble_eq_true rfl) (Nat.le_of_ble_eq_true rfl) (Nat.le_of_ble_eq_true rfl) dX1_init_232 (fun a232 H hE1 hW => ?_)
  have hE : EX a a232 N0 := hE.trans hE1 hN
  have hN := n_nw e232 hN
  have g219 := ko_nw e232 g219
  have hW := aw_eq e232 hW
  have hl : lv_has ls 2 [(0, .ref (a232 o))] := by simp only [hE1 _ gr232]; exact hl
  refine W.eq (g2 := F0 m 234 ls [.ref (a232 s227.1), .ref (a232 o)]) (by simp only [hE1 _ gr232]) ?_
  refine W.widen (k := 44) (n := 550) (Nat.le_of_ble_eq_true rfl) (Nat.le_of_ble_eq_true rfl) ?_
  obtain ⟨gq234, hf⟩ := gd_some hf
  obtain ⟨s234, e234, hf⟩ := bnd_some hf
  refine aw_pR e234 hC hW g219 gq234 fl_X1_89 (Or.inr ⟨hnm, ff_X1_89⟩) rfl dX1_init_234 (fun H locs hW => ?_)
  have hN := n_pR e234 hN
  have g219 := ko_pR e234 g219
  refine lv_aload_n hx hb dX1_init_237 rfl (lv_at hl 0 rfl) ?_
  obtain ⟨gr238, hf⟩ := gd_some hf
  obtain ⟨s238, e238, hf⟩ := bnd_some hf
  refine aw_new (q := (RX9, TX9, 2)) (ci := 8) hC hW rfl q288 q289 q83 okT_X9 (Nat.le_of_ble_eq_true rfl) (Nat.le_of_ble_eq_true rfl) dX1_init_238 (fun a238 H hE1 hW => ?_)
  have hE : EX a a238 N0 := hE.trans hE1 hN
  have hN := n_nw e238 hN
  have g219 := ko_nw e238 g219
  have hW := aw_eq e238 hW
  have hl : lv_has ls 2 [(0, .ref (a238 o))] := by simp only [hE1 _ gr238]; exact hl
  refine W.eq (g2 := F0 m 241 ls [.ref (a238 s234.1), .ref (a238 o)]) (by simp only [hE1 _ gr238]) ?_
  refine W.widen (k := 45) (n := 552) (Nat.le_of_ble_eq_true rfl) (Nat.le_of_ble_eq_true rfl) ?_
  have gn238 := ko_new e238
  refine lv_dup hx hb dX1_init_241 rfl ?_
  refine lv_aload_n hx hb dX1_init_242 rfl (lv_at hl 0 rfl) ?_
  obtain ⟨_, s243, h243, hf⟩ := ob_some hf
  obtain ⟨hN1, hf⟩ := gd_some hf
  have hN := Nat.le_trans hN hN1
  refine aw_dI0 (r := s234.1) (As := [.ref (a238 o)]) (rest := [.ref (a238 s234.1), .ref (a238 o)]) (ct_X9_init l G a238 s234.1 o s238 () s243 h243) hC hW hl.1 iy_X9_init (Or.inr ⟨_, q290⟩) rfl rfl (Nat.le_of_ble_eq_true rfl) ⟨Nat.le_of_ble_eq_true rfl, Nat.le_of_ble_eq_true rfl⟩ ⟨Nat.le_of_ble_eq_true rfl, Nat.le_of_ble_eq_true rfl⟩ dX1_init_243 (fun H locs hW => ?_)
  obtain ⟨g246, hf⟩ := gd_some hf
  obtain ⟨gq246, hf⟩ := gd_some hf
  obtain ⟨s246, e246, hf⟩ := bnd_some hf
  refine aw_pR e246 hC hW g246 gq246 fl_X1_95 (Or.inr ⟨hnm, ff_X1_95⟩) rfl dX1_init_246 (fun H locs hW => ?_)
  have hN := n_pR e246 hN
  have g246 := ko_pR e246 g246
  refine lv_aload_n hx hb dX1_init_249 rfl (lv_at hl 0 rfl) ?_
  obtain ⟨gr250, hf⟩ := gd_some hf
  obtain ⟨s250, e250, hf⟩ := bnd_some hf
  refine aw_new (q := (RX10, TX10, 2)) (ci := 9) hC hW rfl q302 q303 q84 okT_X10 (Nat.le_of_ble_eq_true rfl) (Nat.le_of_ble_eq_true rfl) dX1_init_250 (fun a250 H hE1 hW => ?_)
  have hE : EX a a250 N0 := hE.trans hE1 hN
  have hN := n_nw e250 hN
  have g246 := ko_nw e250 g246
  have hW := aw_eq e250 hW
  have hl : lv_has ls 2 [(0, .ref (a250 o))] := by simp only [hE1 _ gr250]; exact hl
  refine W.eq (g2 := F0 m 253 ls [.ref (a250 s246.1), .ref (a250 o)]) (by simp only [hE1 _ gr250]) ?_
  refine W.widen (k := 46) (n := 554) (Nat.le_of_ble_eq_true rfl) (Nat.le_of_ble_eq_true rfl) ?_
  have gn250 := ko_new e250
  refine lv_dup hx hb dX1_init_253 rfl ?_
  refine lv_aload_n hx hb dX1_init_254 rfl (lv_at hl 0 rfl) ?_
  obtain ⟨_, s255, h255, hf⟩ := ob_some hf
  obtain ⟨hN1, hf⟩ := gd_some hf
  have hN := Nat.le_trans hN hN1
  refine aw_dI0 (r := s246.1) (As := [.ref (a250 o)]) (rest := [.ref (a250 s246.1), .ref (a250 o)]) (ct_X10_init l G a250 s246.1 o s250 () s255 h255) hC hW hl.1 iy_X10_init (Or.inr ⟨_, q304⟩) rfl rfl (Nat.le_of_ble_eq_true rfl) ⟨Nat.le_of_ble_eq_true rfl, Nat.le_of_ble_eq_true rfl⟩ ⟨Nat.le_of_ble_eq_true rfl, Nat.le_of_ble_eq_true rfl⟩ dX1_init_255 (fun H locs hW => ?_)
  obtain ⟨g258, hf⟩ := gd_some hf
  obtain ⟨gq258, hf⟩ := gd_some hf
  obtain ⟨s258, e258, hf⟩ := bnd_some hf
  refine aw_pR e258 hC hW g258 gq258 fl_X1_102 (Or.inr ⟨hnm, ff_X1_102⟩) rfl dX1_init_258 (fun H locs hW => ?_)
  have hN := n_pR e258 hN
  have g258 := ko_pR e258 g258
  refine lv_aload_n hx hb dX1_init_261 rfl (lv_at hl 0 rfl) ?_
  obtain ⟨gr262, hf⟩ := gd_some hf
  obtain ⟨s262, e262, hf⟩ := bnd_some hf
  refine aw_new (q := (RX11, TX11, 3)) (ci := 10) hC hW rfl q316 q317 q85 okT_X11 (Nat.le_of_ble_eq_true rfl) (Nat.le_of_ble_eq_true rfl) dX1_init_262 (fun a262 H hE1 hW => ?_)
  have hE : EX a a262 N0 := hE.trans hE1 hN
  have hN := n_nw e262 hN
  have g258 := ko_nw e262 g258
  have hW := aw_eq e262 hW
  have hl : lv_has ls 2 [(0, .ref (a262 o))] := by simp only [hE1 _ gr262]; exact hl
  refine W.eq (g2 := F0 m 265 ls [.ref (a262 s258.1), .ref (a262 o)]) (by simp only [hE1 _ gr262]) ?_
  refine W.widen (k := 47) (n := 557) (Nat.le_of_ble_eq_true rfl) (Nat.le_of_ble_eq_true rfl) ?_
  have gn262 := ko_new e262
  refine lv_dup hx hb dX1_init_265 rfl ?_
  refine lv_aload_n hx hb dX1_init_266 rfl (lv_at hl 0 rfl) ?_
  obtain ⟨_, s267, h267, hf⟩ := ob_some hf
  obtain ⟨hN1, hf⟩ := gd_some hf
  have hN := Nat.le_trans hN hN1
  refine aw_dI0 (r := s258.1) (As := [.ref (a262 o)]) (rest := [.ref (a262 s258.1), .ref (a262 o)]) (ct_X11_init l G a262 s258.1 o s262 () s267 h267) hC hW hl.1 iy_X11_init (Or.inr ⟨_, q318⟩) rfl rfl (Nat.le_of_ble_eq_true rfl) ⟨Nat.le_of_ble_eq_true rfl, Nat.le_of_ble_eq_true rfl⟩ ⟨Nat.le_of_ble_eq_true rfl, Nat.le_of_ble_eq_true rfl⟩ dX1_init_267 (fun H locs hW => ?_)
  obtain ⟨g270, hf⟩ := gd_some hf
  obtain ⟨gq270, hf⟩ := gd_some hf
  obtain ⟨s270, e270, hf⟩ := bnd_some hf
  refine aw_pR e270 hC hW g270 gq270 fl_X1_109 (Or.inr ⟨hnm, ff_X1_109⟩) rfl dX1_init_270 (fun H locs hW => ?_)
  have hN := n_pR e270 hN
  have g270 := ko_pR e270 g270
  refine lv_aload_n hx hb dX1_init_273 rfl (lv_at hl 0 rfl) ?_
  obtain ⟨gr274, hf⟩ := gd_some hf
  obtain ⟨s274, e274, hf⟩ := bnd_some hf
  refine aw_new (q := (RX12, TX12, 3)) (ci := 11) hC hW rfl q334 q335 q86 okT_X12 (Nat.le_of_ble_eq_true rfl) (Nat.le_of_ble_eq_true rfl) dX1_init_274 (fun a274 H hE1 hW => ?_)
  have hE : EX a a274 N0 := hE.trans hE1 hN
  have hN := n_nw e274 hN
  have g270 := ko_nw e274 g270
  have hW := aw_eq e274 hW
  have hl : lv_has ls 2 [(0, .ref (a274 o))] := by simp only [hE1 _ gr274]; exact hl
  refine W.eq (g2 := F0 m 277 ls [.ref (a274 s270.1), .ref (a274 o)]) (by simp only [hE1 _ gr274]) ?_
  refine W.widen (k := 48) (n := 560) (Nat.le_of_ble_eq_true rfl) (Nat.le_of_ble_eq_true rfl) ?_
  have gn274 := ko_new e274
  refine lv_dup hx hb dX1_init_277 rfl ?_
  refine lv_aload_n hx hb dX1_init_278 rfl (lv_at hl 0 rfl) ?_
  obtain ⟨_, s279, h279, hf⟩ := ob_some hf
  obtain ⟨hN1, hf⟩ := gd_some hf
  have hN := Nat.le_trans hN hN1
  refine aw_dI0 (r := s270.1) (As := [.ref (a274 o)]) (rest := [.ref (a274 s270.1), .ref (a274 o)]) (ct_X12_init l G a274 s270.1 o s274 () s279 h279) hC hW hl.1 iy_X12_init (Or.inr ⟨_, q336⟩) rfl rfl (Nat.le_of_ble_eq_true rfl) ⟨Nat.le_of_ble_eq_true rfl, Nat.le_of_ble_eq_true rfl⟩ ⟨Nat.le_of_ble_eq_true rfl, Nat.le_of_ble_eq_true rfl⟩ dX1_init_279 (fun H locs hW => ?_)
  obtain ⟨g282, hf⟩ := gd_some hf
  obtain ⟨gq282, hf⟩ := gd_some hf
  obtain ⟨s282, e282, hf⟩ := bnd_some hf
  refine aw_pR e282 hC hW g282 gq282 fl_X1_116 (Or.inr ⟨hnm, ff_X1_116⟩) rfl dX1_init_282 (fun H locs hW => ?_)
  have hN := n_pR e282 hN
  have g282 := ko_pR e282 g282
  refine lv_aload_n hx hb dX1_init_285 rfl (lv_at hl 0 rfl) ?_
  obtain ⟨gr286, hf⟩ := gd_some hf
  obtain ⟨s286, e286, hf⟩ := bnd_some hf
  refine aw_new (q := (RX13, TX13, 2)) (ci := 12) hC hW rfl q352 q353 q87 okT_X13 (Nat.le_of_ble_eq_true rfl) (Nat.le_of_ble_eq_true rfl) dX1_init_286 (fun a286 H hE1 hW => ?_)
  have hE : EX a a286 N0 := hE.trans hE1 hN
  have hN := n_nw e286 hN
  have g282 := ko_nw e286 g282
  have hW := aw_eq e286 hW
  have hl : lv_has ls 2 [(0, .ref (a286 o))] := by simp only [hE1 _ gr286]; exact hl
  refine W.eq (g2 := F0 m 289 ls [.ref (a286 s282.1), .ref (a286 o)]) (by simp only [hE1 _ gr286]) ?_
  refine W.widen (k := 49) (n := 562) (Nat.le_of_ble_eq_true rfl) (Nat.le_of_ble_eq_true rfl) ?_
  have gn286 := ko_new e286
  refine lv_dup hx hb dX1_init_289 rfl ?_
  refine lv_aload_n hx hb dX1_init_290 rfl (lv_at hl 0 rfl) ?_
  obtain ⟨_, s291, h291, hf⟩ := ob_some hf
  obtain ⟨hN1, hf⟩ := gd_some hf
  have hN := Nat.le_trans hN hN1
  refine aw_dI0 (r := s282.1) (As := [.ref (a286 o)]) (rest := [.ref (a286 s282.1), .ref (a286 o)]) (ct_X13_init l G a286 s282.1 o s286 () s291 h291) hC hW hl.1 iy_X13_init (Or.inr ⟨_, q354⟩) rfl rfl (Nat.le_of_ble_eq_true rfl) ⟨Nat.le_of_ble_eq_true rfl, Nat.le_of_ble_eq_true rfl⟩ ⟨Nat.le_of_ble_eq_true rfl, Nat.le_of_ble_eq_true rfl⟩ dX1_init_291 (fun H locs hW => ?_)
  obtain ⟨g294, hf⟩ := gd_some hf
  obtain ⟨gq294, hf⟩ := gd_some hf
  obtain ⟨s294, e294, hf⟩ := bnd_some hf
  refine aw_pR e294 hC hW g294 gq294 fl_X1_123 (Or.inr ⟨hnm, ff_X1_123⟩) rfl dX1_init_294 (fun H locs hW => ?_)
  have hN := n_pR e294 hN
  have g294 := ko_pR e294 g294
  refine lv_aload_n hx hb dX1_init_297 rfl (lv_at hl 0 rfl) ?_
  refine lv_bipush (v := 12) hx hb dX1_init_298 (by decide) ?_
  obtain ⟨gr300, hf⟩ := gd_some hf
  obtain ⟨s300, e300, hf⟩ := bnd_some hf
  refine aw_newI (atype := .int) (N := 12) 0 hC hW q181 rfl rfl (fun h => h) (cellI _ (by decide) rfl) (by decide) rfl (Nat.le_of_ble_eq_true rfl) (Nat.le_of_ble_eq_true rfl) (Nat.le_of_ble_eq_true rfl) dX1_init_300 (fun a300 H hE1 hW => ?_)
  have hE : EX a a300 N0 := hE.trans hE1 hN
  have hN := n_nw e300 hN
  have g294 := ko_nw e300 g294
  have hW := aw_eq e300 hW
  have hl : lv_has ls 2 [(0, .ref (a300 o))] := by simp only [hE1 _ gr300]; exact hl
  refine W.eq (g2 := F0 m 302 ls [.ref (a300 s294.1), .ref (a300 o)]) (by simp only [hE1 _ gr300]) ?_
  refine W.widen (k := 50) (n := 574) (Nat.le_of_ble_eq_true rfl) (Nat.le_of_ble_eq_true rfl) ?_
  obtain ⟨gq302, hf⟩ := gd_some hf
  obtain ⟨s302, e302, hf⟩ := bnd_some hf
  refine aw_pR e302 hC hW g294 gq302 fl_X1_127 (Or.inr ⟨hnm, ff_X1_127⟩) rfl dX1_init_302 (fun H locs hW => ?_)
  have hN := n_pR e302 hN
  have g294 := ko_pR e302 g294
  refine lv_aload_n hx hb dX1_init_305 rfl (lv_at hl 0 rfl) ?_
  refine lv_bipush (v := 12) hx hb dX1_init_306 (by decide) ?_
  obtain ⟨gr308, hf⟩ := gd_some hf
  obtain ⟨s308, e308, hf⟩ := bnd_some hf
  refine aw_newI (atype := .int) (N := 12) 0 hC hW q181 rfl rfl (fun h => h) (cellI _ (by decide) rfl) (by decide) rfl (Nat.le_of_ble_eq_true rfl) (Nat.le_of_ble_eq_true rfl) (Nat.le_of_ble_eq_true rfl) dX1_init_308 (fun a308 H hE1 hW => ?_)
  have hE : EX a a308 N0 := hE.trans hE1 hN
  have hN := n_nw e308 hN
  have g294 := ko_nw e308 g294
  have hW := aw_eq e308 hW
  have hl : lv_has ls 2 [(0, .ref (a308 o))] := by simp only [hE1 _ gr308]; exact hl
  refine W.eq (g2 := F0 m 310 ls [.ref (a308 s302.1), .ref (a308 o)]) (by simp only [hE1 _ gr308]) ?_
  refine W.widen (k := 51) (n := 586) (Nat.le_of_ble_eq_true rfl) (Nat.le_of_ble_eq_true rfl) ?_
  obtain ⟨gq310, hf⟩ := gd_some hf
  obtain ⟨s310, e310, hf⟩ := bnd_some hf
  refine aw_pR e310 hC hW g294 gq310 fl_X1_130 (Or.inr ⟨hnm, ff_X1_130⟩) rfl dX1_init_310 (fun H locs hW => ?_)
  have hN := n_pR e310 hN
  have g294 := ko_pR e310 g294
  refine lv_aload_n hx hb dX1_init_313 rfl (lv_at hl 0 rfl) ?_
  refine lv_bipush (v := 10) hx hb dX1_init_314 (by decide) ?_
  obtain ⟨gr316, hf⟩ := gd_some hf
  obtain ⟨s316, e316, hf⟩ := bnd_some hf
  refine aw_newI (atype := .int) (N := 10) 0 hC hW q181 rfl rfl (fun h => h) (cellI _ (by decide) rfl) (by decide) rfl (Nat.le_of_ble_eq_true rfl) (Nat.le_of_ble_eq_true rfl) (Nat.le_of_ble_eq_true rfl) dX1_init_316 (fun a316 H hE1 hW => ?_)
  have hE : EX a a316 N0 := hE.trans hE1 hN
  have hN := n_nw e316 hN
  have g294 := ko_nw e316 g294
  have hW := aw_eq e316 hW
  have hl : lv_has ls 2 [(0, .ref (a316 o))] := by simp only [hE1 _ gr316]; exact hl
  refine W.eq (g2 := F0 m 318 ls [.ref (a316 s310.1), .ref (a316 o)]) (by simp only [hE1 _ gr316]) ?_
  refine W.widen (k := 52) (n := 596) (Nat.le_of_ble_eq_true rfl) (Nat.le_of_ble_eq_true rfl) ?_
  obtain ⟨gq318, hf⟩ := gd_some hf
  obtain ⟨s318, e318, hf⟩ := bnd_some hf
  refine aw_pR e318 hC hW g294 gq318 fl_X1_133 (Or.inr ⟨hnm, ff_X1_133⟩) rfl dX1_init_318 (fun H locs hW => ?_)
  have hN := n_pR e318 hN
  have g294 := ko_pR e318 g294
  refine lv_aload_n hx hb dX1_init_321 rfl (lv_at hl 0 rfl) ?_
  refine lv_bipush (v := 10) hx hb dX1_init_322 (by decide) ?_
  obtain ⟨gr324, hf⟩ := gd_some hf
  obtain ⟨s324, e324, hf⟩ := bnd_some hf
  refine aw_newI (atype := .int) (N := 10) 0 hC hW q181 rfl rfl (fun h => h) (cellI _ (by decide) rfl) (by decide) rfl (Nat.le_of_ble_eq_true rfl) (Nat.le_of_ble_eq_true rfl) (Nat.le_of_ble_eq_true rfl) dX1_init_324 (fun a324 H hE1 hW => ?_)
  have hE : EX a a324 N0 := hE.trans hE1 hN
  have hN := n_nw e324 hN
  have g294 := ko_nw e324 g294
  have hW := aw_eq e324 hW
  have hl : lv_has ls 2 [(0, .ref (a324 o))] := by simp only [hE1 _ gr324]; exact hl
  refine W.eq (g2 := F0 m 326 ls [.ref (a324 s318.1), .ref (a324 o)]) (by simp only [hE1 _ gr324]) ?_
  refine W.widen (k := 53) (n := 606) (Nat.le_of_ble_eq_true rfl) (Nat.le_of_ble_eq_true rfl) ?_
  obtain ⟨gq326, hf⟩ := gd_some hf
  obtain ⟨s326, e326, hf⟩ := bnd_some hf
  refine aw_pR e326 hC hW g294 gq326 fl_X1_136 (Or.inr ⟨hnm, ff_X1_136⟩) rfl dX1_init_326 (fun H locs hW => ?_)
  have hN := n_pR e326 hN
  have g294 := ko_pR e326 g294
  refine lv_aload_n hx hb dX1_init_329 rfl (lv_at hl 0 rfl) ?_
  refine lv_iconst (v := 3) hx hb dX1_init_330 (by decide) ?_
  obtain ⟨gr331, hf⟩ := gd_some hf
  obtain ⟨s331, e331, hf⟩ := bnd_some hf
  refine aw_newQ (N := 3) 1 hC hW (by decide) q117 (by decide) rfl (Nat.le_of_ble_eq_true rfl) (Nat.le_of_ble_eq_true rfl) (Nat.le_of_ble_eq_true rfl) dX1_init_331 (fun a331 H hE1 hW => ?_)
  have hE : EX a a331 N0 := hE.trans hE1 hN
  have hN := n_nw e331 hN
  have g294 := ko_nw e331 g294
  have hW := aw_eq e331 hW
  have hl : lv_has ls 2 [(0, .ref (a331 o))] := by simp only [hE1 _ gr331]; exact hl
  refine W.eq (g2 := F0 m 334 ls [.ref (a331 s326.1), .ref (a331 o)]) (by simp only [hE1 _ gr331]) ?_
  refine W.widen (k := 54) (n := 609) (Nat.le_of_ble_eq_true rfl) (Nat.le_of_ble_eq_true rfl) ?_
  refine lv_dup hx hb dX1_init_334 rfl ?_
  refine lv_iconst (v := 0) hx hb dX1_init_335 (by decide) ?_
  obtain ⟨gr336, hf⟩ := gd_some hf
  obtain ⟨gr336_1, hf⟩ := gd_some hf
  obtain ⟨s336, e336, hf⟩ := bnd_some hf
  refine aw_new (q := (RX2, TX2, 11)) (ci := 1) hC hW rfl q117 q118 q76 okT_X2 (Nat.le_of_ble_eq_true rfl) (Nat.le_of_ble_eq_true rfl) dX1_init_336 (fun a336 H hE1 hW => ?_)
  have hE : EX a a336 N0 := hE.trans hE1 hN
  have hN := n_nw e336 hN
  have g294 := ko_nw e336 g294
  have hW := aw_eq e336 hW
  have hl : lv_has ls 2 [(0, .ref (a336 o))] := by simp only [hE1 _ gr336, hE1 _ gr336_1]; exact hl
  refine W.eq (g2 := F0 m 339 ls [.ref (a336 s331.1), .int 0, .ref (a336 s326.1), .ref (a336 s326.1), .ref (a336 o)]) (by simp only [hE1 _ gr336, hE1 _ gr336_1]) ?_
  refine W.widen (k := 55) (n := 620) (Nat.le_of_ble_eq_true rfl) (Nat.le_of_ble_eq_true rfl) ?_
  have gn336 := ko_new e336
  refine lv_dup hx hb dX1_init_339 rfl ?_
  obtain ⟨gr340, hf⟩ := gd_some hf
  obtain ⟨gr340_1, hf⟩ := gd_some hf
  obtain ⟨gr340_2, hf⟩ := gd_some hf
  obtain ⟨_, s340, h340, hf⟩ := ob_some hf
  refine aw_run hC hW (aw_runI hC hW hl.1 (r := s331.1) (As := []) (rest := [.ref (a336 s331.1), .int 0, .ref (a336 s326.1), .ref (a336 s326.1), .ref (a336 o)]) (cta_X2_init l G a336 s331.1 s336 () s340 h340) iy_X2_init (Or.inr ⟨_, q119⟩) rfl rfl (Nat.le_of_ble_eq_true rfl) ⟨Nat.le_of_ble_eq_true rfl, Nat.le_of_ble_eq_true rfl⟩ ⟨Nat.le_of_ble_eq_true rfl, Nat.le_of_ble_eq_true rfl⟩ dX1_init_340) (fun v9 a340 s9 H locs hp9 hW => ?_)
  obtain ⟨rfl, h9s, hE1, hN1⟩ := hp9
  rw [h9s] at hW
  have hE : EX a a340 N0 := hE.trans hE1 hN
  have hN := Nat.le_trans hN hN1
  have hl : lv_has ls 2 [(0, .ref (a340 o))] := by simp only [hE1 _ gr340, hE1 _ gr340_1, hE1 _ gr340_2]; exact hl
  refine W.eq (g2 := F0 m 343 ls [.ref (a340 s331.1), .int 0, .ref (a340 s326.1), .ref (a340 s326.1), .ref (a340 o)]) (by show F0 m 343 ls [.ref (a336 s331.1), .int 0, .ref (a336 s326.1), .ref (a336 s326.1), .ref (a336 o)] = _; simp only [hE1 _ gr340, hE1 _ gr340_1, hE1 _ gr340_2]) ?_
  refine W.widen (k := 61) (n := 732) (Nat.le_of_ble_eq_true rfl) (Nat.le_of_ble_eq_true rfl) ?_
  obtain ⟨g343, hf⟩ := gd_some hf
  obtain ⟨g343_1, hf⟩ := gd_some hf
  obtain ⟨s343, e343, hf⟩ := bnd_some hf
  refine aw_aast (j := 1) e343 hC hW (by decide) g343 g343_1 dX1_init_343 (fun H locs hW => ?_)
  have hN := n_pR e343 hN
  have g343_1 := ko_pR e343 g343_1
  refine lv_dup hx hb dX1_init_344 rfl ?_
  refine lv_iconst (v := 1) hx hb dX1_init_345 (by decide) ?_
  obtain ⟨gr346, hf⟩ := gd_some hf
  obtain ⟨gr346_1, hf⟩ := gd_some hf
  obtain ⟨s346, e346, hf⟩ := bnd_some hf
  refine aw_new (q := (RX2, TX2, 11)) (ci := 1) hC hW rfl q117 q118 q76 okT_X2 (Nat.le_of_ble_eq_true rfl) (Nat.le_of_ble_eq_true rfl) dX1_init_346 (fun a346 H hE1 hW => ?_)
  have hE : EX a a346 N0 := hE.trans hE1 hN
  have hN := n_nw e346 hN
  have g343_1 := ko_nw e346 g343_1
  have hW := aw_eq e346 hW
  have hl : lv_has ls 2 [(0, .ref (a346 o))] := by simp only [hE1 _ gr346, hE1 _ gr346_1]; exact hl
  refine W.eq (g2 := F0 m 349 ls [.ref (a346 s343.1), .int 1, .ref (a346 s326.1), .ref (a346 s326.1), .ref (a346 o)]) (by simp only [hE1 _ gr346, hE1 _ gr346_1]) ?_
  refine W.widen (k := 62) (n := 743) (Nat.le_of_ble_eq_true rfl) (Nat.le_of_ble_eq_true rfl) ?_
  have gn346 := ko_new e346
  refine lv_dup hx hb dX1_init_349 rfl ?_
  obtain ⟨gr350, hf⟩ := gd_some hf
  obtain ⟨gr350_1, hf⟩ := gd_some hf
  obtain ⟨gr350_2, hf⟩ := gd_some hf
  obtain ⟨_, s350, h350, hf⟩ := ob_some hf
  refine aw_run hC hW (aw_runI hC hW hl.1 (r := s343.1) (As := []) (rest := [.ref (a346 s343.1), .int 1, .ref (a346 s326.1), .ref (a346 s326.1), .ref (a346 o)]) (cta_X2_init l G a346 s343.1 s346 () s350 h350) iy_X2_init (Or.inr ⟨_, q119⟩) rfl rfl (Nat.le_of_ble_eq_true rfl) ⟨Nat.le_of_ble_eq_true rfl, Nat.le_of_ble_eq_true rfl⟩ ⟨Nat.le_of_ble_eq_true rfl, Nat.le_of_ble_eq_true rfl⟩ dX1_init_350) (fun v9 a350 s9 H locs hp9 hW => ?_)
  obtain ⟨rfl, h9s, hE1, hN1⟩ := hp9
  rw [h9s] at hW
  have hE : EX a a350 N0 := hE.trans hE1 hN
  have hN := Nat.le_trans hN hN1
  have hl : lv_has ls 2 [(0, .ref (a350 o))] := by simp only [hE1 _ gr350, hE1 _ gr350_1, hE1 _ gr350_2]; exact hl
  refine W.eq (g2 := F0 m 353 ls [.ref (a350 s343.1), .int 1, .ref (a350 s326.1), .ref (a350 s326.1), .ref (a350 o)]) (by show F0 m 353 ls [.ref (a346 s343.1), .int 1, .ref (a346 s326.1), .ref (a346 s326.1), .ref (a346 o)] = _; simp only [hE1 _ gr350, hE1 _ gr350_1, hE1 _ gr350_2]) ?_
  refine W.widen (k := 68) (n := 855) (Nat.le_of_ble_eq_true rfl) (Nat.le_of_ble_eq_true rfl) ?_
  obtain ⟨g353, hf⟩ := gd_some hf
  obtain ⟨g353_1, hf⟩ := gd_some hf
  obtain ⟨s353, e353, hf⟩ := bnd_some hf
  refine aw_aast (j := 1) e353 hC hW (by decide) g353 g353_1 dX1_init_353 (fun H locs hW => ?_)
  have hN := n_pR e353 hN
  have g353_1 := ko_pR e353 g353_1
  refine lv_dup hx hb dX1_init_354 rfl ?_
  refine lv_iconst (v := 2) hx hb dX1_init_355 (by decide) ?_
  obtain ⟨gr356, hf⟩ := gd_some hf
  obtain ⟨gr356_1, hf⟩ := gd_some hf
  obtain ⟨s356, e356, hf⟩ := bnd_some hf
  refine aw_new (q := (RX2, TX2, 11)) (ci := 1) hC hW rfl q117 q118 q76 okT_X2 (Nat.le_of_ble_eq_true rfl) (Nat.le_of_ble_eq_true rfl) dX1_init_356 (fun a356 H hE1 hW => ?_)
  have hE : EX a a356 N0 := hE.trans hE1 hN
  have hN := n_nw e356 hN
  have g353_1 := ko_nw e356 g353_1
  have hW := aw_eq e356 hW
  have hl : lv_has ls 2 [(0, .ref (a356 o))] := by simp only [hE1 _ gr356, hE1 _ gr356_1]; exact hl
  refine W.eq (g2 := F0 m 359 ls [.ref (a356 s353.1), .int 2, .ref (a356 s326.1), .ref (a356 s326.1), .ref (a356 o)]) (by simp only [hE1 _ gr356, hE1 _ gr356_1]) ?_
  refine W.widen (k := 69) (n := 866) (Nat.le_of_ble_eq_true rfl) (Nat.le_of_ble_eq_true rfl) ?_
  have gn356 := ko_new e356
  refine lv_dup hx hb dX1_init_359 rfl ?_
  obtain ⟨gr360, hf⟩ := gd_some hf
  obtain ⟨gr360_1, hf⟩ := gd_some hf
  obtain ⟨gr360_2, hf⟩ := gd_some hf
  obtain ⟨_, s360, h360, hf⟩ := ob_some hf
  refine aw_run hC hW (aw_runI hC hW hl.1 (r := s353.1) (As := []) (rest := [.ref (a356 s353.1), .int 2, .ref (a356 s326.1), .ref (a356 s326.1), .ref (a356 o)]) (cta_X2_init l G a356 s353.1 s356 () s360 h360) iy_X2_init (Or.inr ⟨_, q119⟩) rfl rfl (Nat.le_of_ble_eq_true rfl) ⟨Nat.le_of_ble_eq_true rfl, Nat.le_of_ble_eq_true rfl⟩ ⟨Nat.le_of_ble_eq_true rfl, Nat.le_of_ble_eq_true rfl⟩ dX1_init_360) (fun v9 a360 s9 H locs hp9 hW => ?_)
  obtain ⟨rfl, h9s, hE1, hN1⟩ := hp9
  rw [h9s] at hW
  have hE : EX a a360 N0 := hE.trans hE1 hN
  have hN := Nat.le_trans hN hN1
  have hl : lv_has ls 2 [(0, .ref (a360 o))] := by simp only [hE1 _ gr360, hE1 _ gr360_1, hE1 _ gr360_2]; exact hl
  refine W.eq (g2 := F0 m 363 ls [.ref (a360 s353.1), .int 2, .ref (a360 s326.1), .ref (a360 s326.1), .ref (a360 o)]) (by show F0 m 363 ls [.ref (a356 s353.1), .int 2, .ref (a356 s326.1), .ref (a356 s326.1), .ref (a356 o)] = _; simp only [hE1 _ gr360, hE1 _ gr360_1, hE1 _ gr360_2]) ?_
  refine W.widen (k := 75) (n := 978) (Nat.le_of_ble_eq_true rfl) (Nat.le_of_ble_eq_true rfl) ?_
  obtain ⟨g363, hf⟩ := gd_some hf
  obtain ⟨g363_1, hf⟩ := gd_some hf
  obtain ⟨s363, e363, hf⟩ := bnd_some hf
  refine aw_aast (j := 1) e363 hC hW (by decide) g363 g363_1 dX1_init_363 (fun H locs hW => ?_)
  have hN := n_pR e363 hN
  have g363_1 := ko_pR e363 g363_1
  obtain ⟨g364, hf⟩ := gd_some hf
  obtain ⟨gq364, hf⟩ := gd_some hf
  obtain ⟨s364, e364, hf⟩ := bnd_some hf
  refine aw_pR e364 hC hW g364 gq364 fl_X1_139 (Or.inr ⟨hnm, ff_X1_139⟩) rfl dX1_init_364 (fun H locs hW => ?_)
  have hN := n_pR e364 hN
  have g363_1 := ko_pR e364 g363_1
  have g364 := ko_pR e364 g364
  refine lv_aload_n hx hb dX1_init_367 rfl (lv_at hl 0 rfl) ?_
  refine lv_bipush (v := 9) hx hb dX1_init_368 (by decide) ?_
  obtain ⟨gr370, hf⟩ := gd_some hf
  obtain ⟨s370, e370, hf⟩ := bnd_some hf
  refine aw_newI (atype := .long) (N := 9) 4 hC hW q210 rfl rfl (fun h => h) (cellL _) (by decide) rfl (Nat.le_of_ble_eq_true rfl) (Nat.le_of_ble_eq_true rfl) (Nat.le_of_ble_eq_true rfl) dX1_init_370 (fun a370 H hE1 hW => ?_)
  have hE : EX a a370 N0 := hE.trans hE1 hN
  have hN := n_nw e370 hN
  have g363_1 := ko_nw e370 g363_1
  have g364 := ko_nw e370 g364
  have hW := aw_eq e370 hW
  have hl : lv_has ls 2 [(0, .ref (a370 o))] := by simp only [hE1 _ gr370]; exact hl
  refine W.eq (g2 := F0 m 372 ls [.ref (a370 s364.1), .ref (a370 o)]) (by simp only [hE1 _ gr370]) ?_
  refine W.widen (k := 76) (n := 987) (Nat.le_of_ble_eq_true rfl) (Nat.le_of_ble_eq_true rfl) ?_
  obtain ⟨gq372, hf⟩ := gd_some hf
  obtain ⟨s372, e372, hf⟩ := bnd_some hf
  refine aw_pR e372 hC hW g364 gq372 fl_X1_142 (Or.inr ⟨hnm, ff_X1_142⟩) rfl dX1_init_372 (fun H locs hW => ?_)
  have hN := n_pR e372 hN
  have g363_1 := ko_pR e372 g363_1
  have g364 := ko_pR e372 g364
  refine lv_aload_n hx hb dX1_init_375 rfl (lv_at hl 0 rfl) ?_
  refine lv_bipush (v := 9) hx hb dX1_init_376 (by decide) ?_
  obtain ⟨gr378, hf⟩ := gd_some hf
  obtain ⟨s378, e378, hf⟩ := bnd_some hf
  refine aw_newI (atype := .long) (N := 9) 4 hC hW q210 rfl rfl (fun h => h) (cellL _) (by decide) rfl (Nat.le_of_ble_eq_true rfl) (Nat.le_of_ble_eq_true rfl) (Nat.le_of_ble_eq_true rfl) dX1_init_378 (fun a378 H hE1 hW => ?_)
  have hE : EX a a378 N0 := hE.trans hE1 hN
  have hN := n_nw e378 hN
  have g363_1 := ko_nw e378 g363_1
  have g364 := ko_nw e378 g364
  have hW := aw_eq e378 hW
  have hl : lv_has ls 2 [(0, .ref (a378 o))] := by simp only [hE1 _ gr378]; exact hl
  refine W.eq (g2 := F0 m 380 ls [.ref (a378 s372.1), .ref (a378 o)]) (by simp only [hE1 _ gr378]) ?_
  refine W.widen (k := 77) (n := 996) (Nat.le_of_ble_eq_true rfl) (Nat.le_of_ble_eq_true rfl) ?_
  obtain ⟨gq380, hf⟩ := gd_some hf
  obtain ⟨s380, e380, hf⟩ := bnd_some hf
  refine aw_pR e380 hC hW g364 gq380 fl_X1_145 (Or.inr ⟨hnm, ff_X1_145⟩) rfl dX1_init_380 (fun H locs hW => ?_)
  have hN := n_pR e380 hN
  have g363_1 := ko_pR e380 g363_1
  have g364 := ko_pR e380 g364
  refine lv_aload_n hx hb dX1_init_383 rfl (lv_at hl 0 rfl) ?_
  refine lv_iconst (v := 3) hx hb dX1_init_384 (by decide) ?_
  obtain ⟨gr385, hf⟩ := gd_some hf
  obtain ⟨s385, e385, hf⟩ := bnd_some hf
  refine aw_newQ (N := 3) 2 hC hW (by decide) q366 (by decide) rfl (Nat.le_of_ble_eq_true rfl) (Nat.le_of_ble_eq_true rfl) (Nat.le_of_ble_eq_true rfl) dX1_init_385 (fun a385 H hE1 hW => ?_)
  have hE : EX a a385 N0 := hE.trans hE1 hN
  have hN := n_nw e385 hN
  have g363_1 := ko_nw e385 g363_1
  have g364 := ko_nw e385 g364
  have hW := aw_eq e385 hW
  have hl : lv_has ls 2 [(0, .ref (a385 o))] := by simp only [hE1 _ gr385]; exact hl
  refine W.eq (g2 := F0 m 388 ls [.ref (a385 s380.1), .ref (a385 o)]) (by simp only [hE1 _ gr385]) ?_
  refine W.widen (k := 78) (n := 999) (Nat.le_of_ble_eq_true rfl) (Nat.le_of_ble_eq_true rfl) ?_
  obtain ⟨gq388, hf⟩ := gd_some hf
  obtain ⟨s388, e388, hf⟩ := bnd_some hf
  refine aw_pR e388 hC hW g364 gq388 fl_X1_150 (Or.inr ⟨hnm, ff_X1_150⟩) rfl dX1_init_388 (fun H locs hW => ?_)
  have hN := n_pR e388 hN
  have g363_1 := ko_pR e388 g363_1
  have g364 := ko_pR e388 g364
  refine lv_iconst (v := 0) hx hb dX1_init_391 (by decide) ?_
  refine lv_istore_n (lv' := [(1, .int 0), (0, .ref (a385 o))]) hx hb dX1_init_392 rfl hl (by decide) rfl (fun ls hl => ?_)
  refine lv_iload_n hx hb dX1_init_393 rfl (lv_at hl 0 rfl) ?_
  refine lv_bipush (v := 8) hx hb dX1_init_394 (by decide) ?_
  refine lv_icmp_ge (tgt := 418) hx hb dX1_init_396 (by decide) (fun c396 => absurd c396 (by decide)) (fun _ => ?_)
  refine lv_aload_n hx hb dX1_init_399 rfl (lv_at hl 1 rfl) ?_
  obtain ⟨q400, hq400, hf⟩ := bi_some hf
  refine aw_gR hC hW g364 fl_X1_11 rfl hq400 dX1_init_400 ?_
  refine lv_iload_n hx hb dX1_init_403 rfl (lv_at hl 0 rfl) ?_
  obtain ⟨gr404, hf⟩ := gd_some hf
  obtain ⟨gr404_1, hf⟩ := gd_some hf
  obtain ⟨s404, e404, hf⟩ := bnd_some hf
  refine aw_new (q := (RX3, TX3, 4)) (ci := 2) hC hW rfl q115 q183 q77 okT_X3 (Nat.le_of_ble_eq_true rfl) (Nat.le_of_ble_eq_true rfl) dX1_init_404 (fun a404 H hE1 hW => ?_)
  have hE : EX a a404 N0 := hE.trans hE1 hN
  have hN := n_nw e404 hN
  have g363_1 := ko_nw e404 g363_1
  have g364 := ko_nw e404 g364
  have hW := aw_eq e404 hW
  have hl : lv_has ls 2 [(1, .int 0), (0, .ref (a404 o))] := by simp only [hE1 _ gr404, hE1 _ gr404_1]; exact hl
  refine W.eq (g2 := F0 m 407 ls [.ref (a404 s388.1), .int 0, .ref (a404 q400)]) (by simp only [hE1 _ gr404, hE1 _ gr404_1]) ?_
  refine W.widen (k := 79) (n := 1003) (Nat.le_of_ble_eq_true rfl) (Nat.le_of_ble_eq_true rfl) ?_
  have gn404 := ko_new e404
  refine lv_dup hx hb dX1_init_407 rfl ?_
  obtain ⟨gr408, hf⟩ := gd_some hf
  obtain ⟨gr408_1, hf⟩ := gd_some hf
  obtain ⟨gr408_2, hf⟩ := gd_some hf
  obtain ⟨_, s408, h408, hf⟩ := ob_some hf
  refine aw_run hC hW (aw_runI hC hW hl.1 (r := s388.1) (As := []) (rest := [.ref (a404 s388.1), .int 0, .ref (a404 q400)]) (cta_X3_init l G a404 s388.1 s404 () s408 h408) iy_X3_init (Or.inr ⟨_, q184⟩) rfl rfl (Nat.le_of_ble_eq_true rfl) ⟨Nat.le_of_ble_eq_true rfl, Nat.le_of_ble_eq_true rfl⟩ ⟨Nat.le_of_ble_eq_true rfl, Nat.le_of_ble_eq_true rfl⟩ dX1_init_408) (fun v9 a408 s9 H locs hp9 hW => ?_)
  obtain ⟨rfl, h9s, hE1, hN1⟩ := hp9
  rw [h9s] at hW
  have hE : EX a a408 N0 := hE.trans hE1 hN
  have hN := Nat.le_trans hN hN1
  have hl : lv_has ls 2 [(1, .int 0), (0, .ref (a408 o))] := by simp only [hE1 _ gr408, hE1 _ gr408_1, hE1 _ gr408_2]; exact hl
  refine W.eq (g2 := F0 m 411 ls [.ref (a408 s388.1), .int 0, .ref (a408 q400)]) (by show F0 m 411 ls [.ref (a404 s388.1), .int 0, .ref (a404 q400)] = _; simp only [hE1 _ gr408, hE1 _ gr408_1, hE1 _ gr408_2]) ?_
  refine W.widen (k := 80) (n := 1009) (Nat.le_of_ble_eq_true rfl) (Nat.le_of_ble_eq_true rfl) ?_
  obtain ⟨g411, hf⟩ := gd_some hf
  obtain ⟨g411_1, hf⟩ := gd_some hf
  obtain ⟨s411, e411, hf⟩ := bnd_some hf
  refine aw_aast (j := 0) e411 hC hW (by decide) g411 g411_1 dX1_init_411 (fun H locs hW => ?_)
  have hN := n_pR e411 hN
  have g411_1 := ko_pR e411 g411_1
  refine lv_iinc (v := 1) (lv' := [(1, .int 1), (0, .ref (a408 o))]) hx hb dX1_init_412 hl (k := 0) rfl (by decide) (by decide) rfl (fun ls hl => ?_)
  refine lv_goto (tgt := 393) hx hb dX1_init_415 (by decide) ?_
  refine lv_iload_n hx hb dX1_init_393 rfl (lv_at hl 0 rfl) ?_
  refine lv_bipush (v := 8) hx hb dX1_init_394 (by decide) ?_
  refine lv_icmp_ge (tgt := 418) hx hb dX1_init_396 (by decide) (fun c396_1 => absurd c396_1 (by decide)) (fun _ => ?_)
  refine lv_aload_n hx hb dX1_init_399 rfl (lv_at hl 1 rfl) ?_
  obtain ⟨g400, hf⟩ := gd_some hf
  obtain ⟨q400_1, hq400_1, hf⟩ := bi_some hf
  refine aw_gR hC hW g400 fl_X1_11 rfl hq400_1 dX1_init_400 ?_
  refine lv_iload_n hx hb dX1_init_403 rfl (lv_at hl 0 rfl) ?_
  obtain ⟨gr404_2, hf⟩ := gd_some hf
  obtain ⟨gr404_3, hf⟩ := gd_some hf
  obtain ⟨s404_1, e404_1, hf⟩ := bnd_some hf
  refine aw_new (q := (RX3, TX3, 4)) (ci := 2) hC hW rfl q115 q183 q77 okT_X3 (Nat.le_of_ble_eq_true rfl) (Nat.le_of_ble_eq_true rfl) dX1_init_404 (fun a404_1 H hE1 hW => ?_)
  have hE : EX a a404_1 N0 := hE.trans hE1 hN
  have hN := n_nw e404_1 hN
  have g411_1 := ko_nw e404_1 g411_1
  have g400 := ko_nw e404_1 g400
  have hW := aw_eq e404_1 hW
  have hl : lv_has ls 2 [(1, .int 1), (0, .ref (a404_1 o))] := by simp only [hE1 _ gr404_2, hE1 _ gr404_3]; exact hl
  refine W.eq (g2 := F0 m 407 ls [.ref (a404_1 s411.1), .int 1, .ref (a404_1 q400_1)]) (by simp only [hE1 _ gr404_2, hE1 _ gr404_3]) ?_
  refine W.widen (k := 81) (n := 1013) (Nat.le_of_ble_eq_true rfl) (Nat.le_of_ble_eq_true rfl) ?_
  have gn404_1 := ko_new e404_1
  refine lv_dup hx hb dX1_init_407 rfl ?_
  obtain ⟨gr408_3, hf⟩ := gd_some hf
  obtain ⟨gr408_4, hf⟩ := gd_some hf
  obtain ⟨gr408_5, hf⟩ := gd_some hf
  obtain ⟨_, s408_1, h408_1, hf⟩ := ob_some hf
  refine aw_run hC hW (aw_runI hC hW hl.1 (r := s411.1) (As := []) (rest := [.ref (a404_1 s411.1), .int 1, .ref (a404_1 q400_1)]) (cta_X3_init l G a404_1 s411.1 s404_1 () s408_1 h408_1) iy_X3_init (Or.inr ⟨_, q184⟩) rfl rfl (Nat.le_of_ble_eq_true rfl) ⟨Nat.le_of_ble_eq_true rfl, Nat.le_of_ble_eq_true rfl⟩ ⟨Nat.le_of_ble_eq_true rfl, Nat.le_of_ble_eq_true rfl⟩ dX1_init_408) (fun v9 a408_1 s9 H locs hp9 hW => ?_)
  obtain ⟨rfl, h9s, hE1, hN1⟩ := hp9
  rw [h9s] at hW
  have hE : EX a a408_1 N0 := hE.trans hE1 hN
  have hN := Nat.le_trans hN hN1
  have hl : lv_has ls 2 [(1, .int 1), (0, .ref (a408_1 o))] := by simp only [hE1 _ gr408_3, hE1 _ gr408_4, hE1 _ gr408_5]; exact hl
  refine W.eq (g2 := F0 m 411 ls [.ref (a408_1 s411.1), .int 1, .ref (a408_1 q400_1)]) (by show F0 m 411 ls [.ref (a404_1 s411.1), .int 1, .ref (a404_1 q400_1)] = _; simp only [hE1 _ gr408_3, hE1 _ gr408_4, hE1 _ gr408_5]) ?_
  refine W.widen (k := 82) (n := 1019) (Nat.le_of_ble_eq_true rfl) (Nat.le_of_ble_eq_true rfl) ?_
  obtain ⟨g411_2, hf⟩ := gd_some hf
  obtain ⟨g411_3, hf⟩ := gd_some hf
  obtain ⟨s411_1, e411_1, hf⟩ := bnd_some hf
  refine aw_aast (j := 0) e411_1 hC hW (by decide) g411_2 g411_3 dX1_init_411 (fun H locs hW => ?_)
  have hN := n_pR e411_1 hN
  have g411_3 := ko_pR e411_1 g411_3
  refine lv_iinc (v := 2) (lv' := [(1, .int 2), (0, .ref (a408_1 o))]) hx hb dX1_init_412 hl (k := 0) rfl (by decide) (by decide) rfl (fun ls hl => ?_)
  refine lv_goto (tgt := 393) hx hb dX1_init_415 (by decide) ?_
  refine lv_iload_n hx hb dX1_init_393 rfl (lv_at hl 0 rfl) ?_
  refine lv_bipush (v := 8) hx hb dX1_init_394 (by decide) ?_
  refine lv_icmp_ge (tgt := 418) hx hb dX1_init_396 (by decide) (fun c396_2 => absurd c396_2 (by decide)) (fun _ => ?_)
  refine lv_aload_n hx hb dX1_init_399 rfl (lv_at hl 1 rfl) ?_
  obtain ⟨g400_1, hf⟩ := gd_some hf
  obtain ⟨q400_2, hq400_2, hf⟩ := bi_some hf
  refine aw_gR hC hW g400_1 fl_X1_11 rfl hq400_2 dX1_init_400 ?_
  refine lv_iload_n hx hb dX1_init_403 rfl (lv_at hl 0 rfl) ?_
  obtain ⟨gr404_4, hf⟩ := gd_some hf
  obtain ⟨gr404_5, hf⟩ := gd_some hf
  obtain ⟨s404_2, e404_2, hf⟩ := bnd_some hf
  refine aw_new (q := (RX3, TX3, 4)) (ci := 2) hC hW rfl q115 q183 q77 okT_X3 (Nat.le_of_ble_eq_true rfl) (Nat.le_of_ble_eq_true rfl) dX1_init_404 (fun a404_2 H hE1 hW => ?_)
  have hE : EX a a404_2 N0 := hE.trans hE1 hN
  have hN := n_nw e404_2 hN
  have g411_3 := ko_nw e404_2 g411_3
  have g400_1 := ko_nw e404_2 g400_1
  have hW := aw_eq e404_2 hW
  have hl : lv_has ls 2 [(1, .int 2), (0, .ref (a404_2 o))] := by simp only [hE1 _ gr404_4, hE1 _ gr404_5]; exact hl
  refine W.eq (g2 := F0 m 407 ls [.ref (a404_2 s411_1.1), .int 2, .ref (a404_2 q400_2)]) (by simp only [hE1 _ gr404_4, hE1 _ gr404_5]) ?_
  refine W.widen (k := 83) (n := 1023) (Nat.le_of_ble_eq_true rfl) (Nat.le_of_ble_eq_true rfl) ?_
  have gn404_2 := ko_new e404_2
  refine lv_dup hx hb dX1_init_407 rfl ?_
  obtain ⟨gr408_6, hf⟩ := gd_some hf
  obtain ⟨gr408_7, hf⟩ := gd_some hf
  obtain ⟨gr408_8, hf⟩ := gd_some hf
  obtain ⟨_, s408_2, h408_2, hf⟩ := ob_some hf
  refine aw_run hC hW (aw_runI hC hW hl.1 (r := s411_1.1) (As := []) (rest := [.ref (a404_2 s411_1.1), .int 2, .ref (a404_2 q400_2)]) (cta_X3_init l G a404_2 s411_1.1 s404_2 () s408_2 h408_2) iy_X3_init (Or.inr ⟨_, q184⟩) rfl rfl (Nat.le_of_ble_eq_true rfl) ⟨Nat.le_of_ble_eq_true rfl, Nat.le_of_ble_eq_true rfl⟩ ⟨Nat.le_of_ble_eq_true rfl, Nat.le_of_ble_eq_true rfl⟩ dX1_init_408) (fun v9 a408_2 s9 H locs hp9 hW => ?_)
  obtain ⟨rfl, h9s, hE1, hN1⟩ := hp9
  rw [h9s] at hW
  have hE : EX a a408_2 N0 := hE.trans hE1 hN
  have hN := Nat.le_trans hN hN1
  have hl : lv_has ls 2 [(1, .int 2), (0, .ref (a408_2 o))] := by simp only [hE1 _ gr408_6, hE1 _ gr408_7, hE1 _ gr408_8]; exact hl
  refine W.eq (g2 := F0 m 411 ls [.ref (a408_2 s411_1.1), .int 2, .ref (a408_2 q400_2)]) (by show F0 m 411 ls [.ref (a404_2 s411_1.1), .int 2, .ref (a404_2 q400_2)] = _; simp only [hE1 _ gr408_6, hE1 _ gr408_7, hE1 _ gr408_8]) ?_
  refine W.widen (k := 84) (n := 1029) (Nat.le_of_ble_eq_true rfl) (Nat.le_of_ble_eq_true rfl) ?_
  obtain ⟨g411_4, hf⟩ := gd_some hf
  obtain ⟨g411_5, hf⟩ := gd_some hf
  obtain ⟨s411_2, e411_2, hf⟩ := bnd_some hf
  refine aw_aast (j := 0) e411_2 hC hW (by decide) g411_4 g411_5 dX1_init_411 (fun H locs hW => ?_)
  have hN := n_pR e411_2 hN
  have g411_5 := ko_pR e411_2 g411_5
  refine lv_iinc (v := 3) (lv' := [(1, .int 3), (0, .ref (a408_2 o))]) hx hb dX1_init_412 hl (k := 0) rfl (by decide) (by decide) rfl (fun ls hl => ?_)
  refine lv_goto (tgt := 393) hx hb dX1_init_415 (by decide) ?_
  refine lv_iload_n hx hb dX1_init_393 rfl (lv_at hl 0 rfl) ?_
  refine lv_bipush (v := 8) hx hb dX1_init_394 (by decide) ?_
  refine lv_icmp_ge (tgt := 418) hx hb dX1_init_396 (by decide) (fun c396_3 => absurd c396_3 (by decide)) (fun _ => ?_)
  refine lv_aload_n hx hb dX1_init_399 rfl (lv_at hl 1 rfl) ?_
  obtain ⟨g400_2, hf⟩ := gd_some hf
  obtain ⟨q400_3, hq400_3, hf⟩ := bi_some hf
  refine aw_gR hC hW g400_2 fl_X1_11 rfl hq400_3 dX1_init_400 ?_
  refine lv_iload_n hx hb dX1_init_403 rfl (lv_at hl 0 rfl) ?_
  obtain ⟨gr404_6, hf⟩ := gd_some hf
  obtain ⟨gr404_7, hf⟩ := gd_some hf
  obtain ⟨s404_3, e404_3, hf⟩ := bnd_some hf
  refine aw_new (q := (RX3, TX3, 4)) (ci := 2) hC hW rfl q115 q183 q77 okT_X3 (Nat.le_of_ble_eq_true rfl) (Nat.le_of_ble_eq_true rfl) dX1_init_404 (fun a404_3 H hE1 hW => ?_)
  have hE : EX a a404_3 N0 := hE.trans hE1 hN
  have hN := n_nw e404_3 hN
  have g411_5 := ko_nw e404_3 g411_5
  have g400_2 := ko_nw e404_3 g400_2
  have hW := aw_eq e404_3 hW
  have hl : lv_has ls 2 [(1, .int 3), (0, .ref (a404_3 o))] := by simp only [hE1 _ gr404_6, hE1 _ gr404_7]; exact hl
  refine W.eq (g2 := F0 m 407 ls [.ref (a404_3 s411_2.1), .int 3, .ref (a404_3 q400_3)]) (by simp only [hE1 _ gr404_6, hE1 _ gr404_7]) ?_
  refine W.widen (k := 85) (n := 1033) (Nat.le_of_ble_eq_true rfl) (Nat.le_of_ble_eq_true rfl) ?_
  have gn404_3 := ko_new e404_3
  refine lv_dup hx hb dX1_init_407 rfl ?_
  obtain ⟨gr408_9, hf⟩ := gd_some hf
  obtain ⟨gr408_10, hf⟩ := gd_some hf
  obtain ⟨gr408_11, hf⟩ := gd_some hf
  obtain ⟨_, s408_3, h408_3, hf⟩ := ob_some hf
  refine aw_run hC hW (aw_runI hC hW hl.1 (r := s411_2.1) (As := []) (rest := [.ref (a404_3 s411_2.1), .int 3, .ref (a404_3 q400_3)]) (cta_X3_init l G a404_3 s411_2.1 s404_3 () s408_3 h408_3) iy_X3_init (Or.inr ⟨_, q184⟩) rfl rfl (Nat.le_of_ble_eq_true rfl) ⟨Nat.le_of_ble_eq_true rfl, Nat.le_of_ble_eq_true rfl⟩ ⟨Nat.le_of_ble_eq_true rfl, Nat.le_of_ble_eq_true rfl⟩ dX1_init_408) (fun v9 a408_3 s9 H locs hp9 hW => ?_)
  obtain ⟨rfl, h9s, hE1, hN1⟩ := hp9
  rw [h9s] at hW
  have hE : EX a a408_3 N0 := hE.trans hE1 hN
  have hN := Nat.le_trans hN hN1
  have hl : lv_has ls 2 [(1, .int 3), (0, .ref (a408_3 o))] := by simp only [hE1 _ gr408_9, hE1 _ gr408_10, hE1 _ gr408_11]; exact hl
  refine W.eq (g2 := F0 m 411 ls [.ref (a408_3 s411_2.1), .int 3, .ref (a408_3 q400_3)]) (by show F0 m 411 ls [.ref (a404_3 s411_2.1), .int 3, .ref (a404_3 q400_3)] = _; simp only [hE1 _ gr408_9, hE1 _ gr408_10, hE1 _ gr408_11]) ?_
  refine W.widen (k := 86) (n := 1039) (Nat.le_of_ble_eq_true rfl) (Nat.le_of_ble_eq_true rfl) ?_
  obtain ⟨g411_6, hf⟩ := gd_some hf
  obtain ⟨g411_7, hf⟩ := gd_some hf
  obtain ⟨s411_3, e411_3, hf⟩ := bnd_some hf
  refine aw_aast (j := 0) e411_3 hC hW (by decide) g411_6 g411_7 dX1_init_411 (fun H locs hW => ?_)
  have hN := n_pR e411_3 hN
  have g411_7 := ko_pR e411_3 g411_7
  refine lv_iinc (v := 4) (lv' := [(1, .int 4), (0, .ref (a408_3 o))]) hx hb dX1_init_412 hl (k := 0) rfl (by decide) (by decide) rfl (fun ls hl => ?_)
  refine lv_goto (tgt := 393) hx hb dX1_init_415 (by decide) ?_
  refine lv_iload_n hx hb dX1_init_393 rfl (lv_at hl 0 rfl) ?_
  refine lv_bipush (v := 8) hx hb dX1_init_394 (by decide) ?_
  refine lv_icmp_ge (tgt := 418) hx hb dX1_init_396 (by decide) (fun c396_4 => absurd c396_4 (by decide)) (fun _ => ?_)
  refine lv_aload_n hx hb dX1_init_399 rfl (lv_at hl 1 rfl) ?_
  obtain ⟨g400_3, hf⟩ := gd_some hf
  obtain ⟨q400_4, hq400_4, hf⟩ := bi_some hf
  refine aw_gR hC hW g400_3 fl_X1_11 rfl hq400_4 dX1_init_400 ?_
  refine lv_iload_n hx hb dX1_init_403 rfl (lv_at hl 0 rfl) ?_
  obtain ⟨gr404_8, hf⟩ := gd_some hf
  obtain ⟨gr404_9, hf⟩ := gd_some hf
  obtain ⟨s404_4, e404_4, hf⟩ := bnd_some hf
  refine aw_new (q := (RX3, TX3, 4)) (ci := 2) hC hW rfl q115 q183 q77 okT_X3 (Nat.le_of_ble_eq_true rfl) (Nat.le_of_ble_eq_true rfl) dX1_init_404 (fun a404_4 H hE1 hW => ?_)
  have hE : EX a a404_4 N0 := hE.trans hE1 hN
  have hN := n_nw e404_4 hN
  have g411_7 := ko_nw e404_4 g411_7
  have g400_3 := ko_nw e404_4 g400_3
  have hW := aw_eq e404_4 hW
  have hl : lv_has ls 2 [(1, .int 4), (0, .ref (a404_4 o))] := by simp only [hE1 _ gr404_8, hE1 _ gr404_9]; exact hl
  refine W.eq (g2 := F0 m 407 ls [.ref (a404_4 s411_3.1), .int 4, .ref (a404_4 q400_4)]) (by simp only [hE1 _ gr404_8, hE1 _ gr404_9]) ?_
  refine W.widen (k := 87) (n := 1043) (Nat.le_of_ble_eq_true rfl) (Nat.le_of_ble_eq_true rfl) ?_
  have gn404_4 := ko_new e404_4
  refine lv_dup hx hb dX1_init_407 rfl ?_
  obtain ⟨gr408_12, hf⟩ := gd_some hf
  obtain ⟨gr408_13, hf⟩ := gd_some hf
  obtain ⟨gr408_14, hf⟩ := gd_some hf
  obtain ⟨_, s408_4, h408_4, hf⟩ := ob_some hf
  refine aw_run hC hW (aw_runI hC hW hl.1 (r := s411_3.1) (As := []) (rest := [.ref (a404_4 s411_3.1), .int 4, .ref (a404_4 q400_4)]) (cta_X3_init l G a404_4 s411_3.1 s404_4 () s408_4 h408_4) iy_X3_init (Or.inr ⟨_, q184⟩) rfl rfl (Nat.le_of_ble_eq_true rfl) ⟨Nat.le_of_ble_eq_true rfl, Nat.le_of_ble_eq_true rfl⟩ ⟨Nat.le_of_ble_eq_true rfl, Nat.le_of_ble_eq_true rfl⟩ dX1_init_408) (fun v9 a408_4 s9 H locs hp9 hW => ?_)
  obtain ⟨rfl, h9s, hE1, hN1⟩ := hp9
  rw [h9s] at hW
  have hE : EX a a408_4 N0 := hE.trans hE1 hN
  have hN := Nat.le_trans hN hN1
  have hl : lv_has ls 2 [(1, .int 4), (0, .ref (a408_4 o))] := by simp only [hE1 _ gr408_12, hE1 _ gr408_13, hE1 _ gr408_14]; exact hl
  refine W.eq (g2 := F0 m 411 ls [.ref (a408_4 s411_3.1), .int 4, .ref (a408_4 q400_4)]) (by show F0 m 411 ls [.ref (a404_4 s411_3.1), .int 4, .ref (a404_4 q400_4)] = _; simp only [hE1 _ gr408_12, hE1 _ gr408_13, hE1 _ gr408_14]) ?_
  refine W.widen (k := 88) (n := 1049) (Nat.le_of_ble_eq_true rfl) (Nat.le_of_ble_eq_true rfl) ?_
  obtain ⟨g411_8, hf⟩ := gd_some hf
  obtain ⟨g411_9, hf⟩ := gd_some hf
  obtain ⟨s411_4, e411_4, hf⟩ := bnd_some hf
  refine aw_aast (j := 0) e411_4 hC hW (by decide) g411_8 g411_9 dX1_init_411 (fun H locs hW => ?_)
  have hN := n_pR e411_4 hN
  have g411_9 := ko_pR e411_4 g411_9
  refine lv_iinc (v := 5) (lv' := [(1, .int 5), (0, .ref (a408_4 o))]) hx hb dX1_init_412 hl (k := 0) rfl (by decide) (by decide) rfl (fun ls hl => ?_)
  refine lv_goto (tgt := 393) hx hb dX1_init_415 (by decide) ?_
  refine lv_iload_n hx hb dX1_init_393 rfl (lv_at hl 0 rfl) ?_
  refine lv_bipush (v := 8) hx hb dX1_init_394 (by decide) ?_
  refine lv_icmp_ge (tgt := 418) hx hb dX1_init_396 (by decide) (fun c396_5 => absurd c396_5 (by decide)) (fun _ => ?_)
  refine lv_aload_n hx hb dX1_init_399 rfl (lv_at hl 1 rfl) ?_
  obtain ⟨g400_4, hf⟩ := gd_some hf
  obtain ⟨q400_5, hq400_5, hf⟩ := bi_some hf
  refine aw_gR hC hW g400_4 fl_X1_11 rfl hq400_5 dX1_init_400 ?_
  refine lv_iload_n hx hb dX1_init_403 rfl (lv_at hl 0 rfl) ?_
  obtain ⟨gr404_10, hf⟩ := gd_some hf
  obtain ⟨gr404_11, hf⟩ := gd_some hf
  obtain ⟨s404_5, e404_5, hf⟩ := bnd_some hf
  refine aw_new (q := (RX3, TX3, 4)) (ci := 2) hC hW rfl q115 q183 q77 okT_X3 (Nat.le_of_ble_eq_true rfl) (Nat.le_of_ble_eq_true rfl) dX1_init_404 (fun a404_5 H hE1 hW => ?_)
  have hE : EX a a404_5 N0 := hE.trans hE1 hN
  have hN := n_nw e404_5 hN
  have g411_9 := ko_nw e404_5 g411_9
  have g400_4 := ko_nw e404_5 g400_4
  have hW := aw_eq e404_5 hW
  have hl : lv_has ls 2 [(1, .int 5), (0, .ref (a404_5 o))] := by simp only [hE1 _ gr404_10, hE1 _ gr404_11]; exact hl
  refine W.eq (g2 := F0 m 407 ls [.ref (a404_5 s411_4.1), .int 5, .ref (a404_5 q400_5)]) (by simp only [hE1 _ gr404_10, hE1 _ gr404_11]) ?_
  refine W.widen (k := 89) (n := 1053) (Nat.le_of_ble_eq_true rfl) (Nat.le_of_ble_eq_true rfl) ?_
  have gn404_5 := ko_new e404_5
  refine lv_dup hx hb dX1_init_407 rfl ?_
  obtain ⟨gr408_15, hf⟩ := gd_some hf
  obtain ⟨gr408_16, hf⟩ := gd_some hf
  obtain ⟨gr408_17, hf⟩ := gd_some hf
  obtain ⟨_, s408_5, h408_5, hf⟩ := ob_some hf
  refine aw_run hC hW (aw_runI hC hW hl.1 (r := s411_4.1) (As := []) (rest := [.ref (a404_5 s411_4.1), .int 5, .ref (a404_5 q400_5)]) (cta_X3_init l G a404_5 s411_4.1 s404_5 () s408_5 h408_5) iy_X3_init (Or.inr ⟨_, q184⟩) rfl rfl (Nat.le_of_ble_eq_true rfl) ⟨Nat.le_of_ble_eq_true rfl, Nat.le_of_ble_eq_true rfl⟩ ⟨Nat.le_of_ble_eq_true rfl, Nat.le_of_ble_eq_true rfl⟩ dX1_init_408) (fun v9 a408_5 s9 H locs hp9 hW => ?_)
  obtain ⟨rfl, h9s, hE1, hN1⟩ := hp9
  rw [h9s] at hW
  have hE : EX a a408_5 N0 := hE.trans hE1 hN
  have hN := Nat.le_trans hN hN1
  have hl : lv_has ls 2 [(1, .int 5), (0, .ref (a408_5 o))] := by simp only [hE1 _ gr408_15, hE1 _ gr408_16, hE1 _ gr408_17]; exact hl
  refine W.eq (g2 := F0 m 411 ls [.ref (a408_5 s411_4.1), .int 5, .ref (a408_5 q400_5)]) (by show F0 m 411 ls [.ref (a404_5 s411_4.1), .int 5, .ref (a404_5 q400_5)] = _; simp only [hE1 _ gr408_15, hE1 _ gr408_16, hE1 _ gr408_17]) ?_
  refine W.widen (k := 90) (n := 1059) (Nat.le_of_ble_eq_true rfl) (Nat.le_of_ble_eq_true rfl) ?_
  obtain ⟨g411_10, hf⟩ := gd_some hf
  obtain ⟨g411_11, hf⟩ := gd_some hf
  obtain ⟨s411_5, e411_5, hf⟩ := bnd_some hf
  refine aw_aast (j := 0) e411_5 hC hW (by decide) g411_10 g411_11 dX1_init_411 (fun H locs hW => ?_)
  have hN := n_pR e411_5 hN
  have g411_11 := ko_pR e411_5 g411_11
  refine lv_iinc (v := 6) (lv' := [(1, .int 6), (0, .ref (a408_5 o))]) hx hb dX1_init_412 hl (k := 0) rfl (by decide) (by decide) rfl (fun ls hl => ?_)
  refine lv_goto (tgt := 393) hx hb dX1_init_415 (by decide) ?_
  refine lv_iload_n hx hb dX1_init_393 rfl (lv_at hl 0 rfl) ?_
  refine lv_bipush (v := 8) hx hb dX1_init_394 (by decide) ?_
  refine lv_icmp_ge (tgt := 418) hx hb dX1_init_396 (by decide) (fun c396_6 => absurd c396_6 (by decide)) (fun _ => ?_)
  refine lv_aload_n hx hb dX1_init_399 rfl (lv_at hl 1 rfl) ?_
  obtain ⟨g400_5, hf⟩ := gd_some hf
  obtain ⟨q400_6, hq400_6, hf⟩ := bi_some hf
  refine aw_gR hC hW g400_5 fl_X1_11 rfl hq400_6 dX1_init_400 ?_
  refine lv_iload_n hx hb dX1_init_403 rfl (lv_at hl 0 rfl) ?_
  obtain ⟨gr404_12, hf⟩ := gd_some hf
  obtain ⟨gr404_13, hf⟩ := gd_some hf
  obtain ⟨s404_6, e404_6, hf⟩ := bnd_some hf
  refine aw_new (q := (RX3, TX3, 4)) (ci := 2) hC hW rfl q115 q183 q77 okT_X3 (Nat.le_of_ble_eq_true rfl) (Nat.le_of_ble_eq_true rfl) dX1_init_404 (fun a404_6 H hE1 hW => ?_)
  have hE : EX a a404_6 N0 := hE.trans hE1 hN
  have hN := n_nw e404_6 hN
  have g411_11 := ko_nw e404_6 g411_11
  have g400_5 := ko_nw e404_6 g400_5
  have hW := aw_eq e404_6 hW
  have hl : lv_has ls 2 [(1, .int 6), (0, .ref (a404_6 o))] := by simp only [hE1 _ gr404_12, hE1 _ gr404_13]; exact hl
  refine W.eq (g2 := F0 m 407 ls [.ref (a404_6 s411_5.1), .int 6, .ref (a404_6 q400_6)]) (by simp only [hE1 _ gr404_12, hE1 _ gr404_13]) ?_
  refine W.widen (k := 91) (n := 1063) (Nat.le_of_ble_eq_true rfl) (Nat.le_of_ble_eq_true rfl) ?_
  have gn404_6 := ko_new e404_6
  refine lv_dup hx hb dX1_init_407 rfl ?_
  obtain ⟨gr408_18, hf⟩ := gd_some hf
  obtain ⟨gr408_19, hf⟩ := gd_some hf
  obtain ⟨gr408_20, hf⟩ := gd_some hf
  obtain ⟨_, s408_6, h408_6, hf⟩ := ob_some hf
  refine aw_run hC hW (aw_runI hC hW hl.1 (r := s411_5.1) (As := []) (rest := [.ref (a404_6 s411_5.1), .int 6, .ref (a404_6 q400_6)]) (cta_X3_init l G a404_6 s411_5.1 s404_6 () s408_6 h408_6) iy_X3_init (Or.inr ⟨_, q184⟩) rfl rfl (Nat.le_of_ble_eq_true rfl) ⟨Nat.le_of_ble_eq_true rfl, Nat.le_of_ble_eq_true rfl⟩ ⟨Nat.le_of_ble_eq_true rfl, Nat.le_of_ble_eq_true rfl⟩ dX1_init_408) (fun v9 a408_6 s9 H locs hp9 hW => ?_)
  obtain ⟨rfl, h9s, hE1, hN1⟩ := hp9
  rw [h9s] at hW
  have hE : EX a a408_6 N0 := hE.trans hE1 hN
  have hN := Nat.le_trans hN hN1
  have hl : lv_has ls 2 [(1, .int 6), (0, .ref (a408_6 o))] := by simp only [hE1 _ gr408_18, hE1 _ gr408_19, hE1 _ gr408_20]; exact hl
  refine W.eq (g2 := F0 m 411 ls [.ref (a408_6 s411_5.1), .int 6, .ref (a408_6 q400_6)]) (by show F0 m 411 ls [.ref (a404_6 s411_5.1), .int 6, .ref (a404_6 q400_6)] = _; simp only [hE1 _ gr408_18, hE1 _ gr408_19, hE1 _ gr408_20]) ?_
  refine W.widen (k := 92) (n := 1069) (Nat.le_of_ble_eq_true rfl) (Nat.le_of_ble_eq_true rfl) ?_
  obtain ⟨g411_12, hf⟩ := gd_some hf
  obtain ⟨g411_13, hf⟩ := gd_some hf
  obtain ⟨s411_6, e411_6, hf⟩ := bnd_some hf
  refine aw_aast (j := 0) e411_6 hC hW (by decide) g411_12 g411_13 dX1_init_411 (fun H locs hW => ?_)
  have hN := n_pR e411_6 hN
  have g411_13 := ko_pR e411_6 g411_13
  refine lv_iinc (v := 7) (lv' := [(1, .int 7), (0, .ref (a408_6 o))]) hx hb dX1_init_412 hl (k := 0) rfl (by decide) (by decide) rfl (fun ls hl => ?_)
  refine lv_goto (tgt := 393) hx hb dX1_init_415 (by decide) ?_
  refine lv_iload_n hx hb dX1_init_393 rfl (lv_at hl 0 rfl) ?_
  refine lv_bipush (v := 8) hx hb dX1_init_394 (by decide) ?_
  refine lv_icmp_ge (tgt := 418) hx hb dX1_init_396 (by decide) (fun c396_7 => absurd c396_7 (by decide)) (fun _ => ?_)
  refine lv_aload_n hx hb dX1_init_399 rfl (lv_at hl 1 rfl) ?_
  obtain ⟨g400_6, hf⟩ := gd_some hf
  obtain ⟨q400_7, hq400_7, hf⟩ := bi_some hf
  refine aw_gR hC hW g400_6 fl_X1_11 rfl hq400_7 dX1_init_400 ?_
  refine lv_iload_n hx hb dX1_init_403 rfl (lv_at hl 0 rfl) ?_
  obtain ⟨gr404_14, hf⟩ := gd_some hf
  obtain ⟨gr404_15, hf⟩ := gd_some hf
  obtain ⟨s404_7, e404_7, hf⟩ := bnd_some hf
  refine aw_new (q := (RX3, TX3, 4)) (ci := 2) hC hW rfl q115 q183 q77 okT_X3 (Nat.le_of_ble_eq_true rfl) (Nat.le_of_ble_eq_true rfl) dX1_init_404 (fun a404_7 H hE1 hW => ?_)
  have hE : EX a a404_7 N0 := hE.trans hE1 hN
  have hN := n_nw e404_7 hN
  have g411_13 := ko_nw e404_7 g411_13
  have g400_6 := ko_nw e404_7 g400_6
  have hW := aw_eq e404_7 hW
  have hl : lv_has ls 2 [(1, .int 7), (0, .ref (a404_7 o))] := by simp only [hE1 _ gr404_14, hE1 _ gr404_15]; exact hl
  refine W.eq (g2 := F0 m 407 ls [.ref (a404_7 s411_6.1), .int 7, .ref (a404_7 q400_7)]) (by simp only [hE1 _ gr404_14, hE1 _ gr404_15]) ?_
  refine W.widen (k := 93) (n := 1073) (Nat.le_of_ble_eq_true rfl) (Nat.le_of_ble_eq_true rfl) ?_
  have gn404_7 := ko_new e404_7
  refine lv_dup hx hb dX1_init_407 rfl ?_
  obtain ⟨gr408_21, hf⟩ := gd_some hf
  obtain ⟨gr408_22, hf⟩ := gd_some hf
  obtain ⟨gr408_23, hf⟩ := gd_some hf
  obtain ⟨_, s408_7, h408_7, hf⟩ := ob_some hf
  refine aw_run hC hW (aw_runI hC hW hl.1 (r := s411_6.1) (As := []) (rest := [.ref (a404_7 s411_6.1), .int 7, .ref (a404_7 q400_7)]) (cta_X3_init l G a404_7 s411_6.1 s404_7 () s408_7 h408_7) iy_X3_init (Or.inr ⟨_, q184⟩) rfl rfl (Nat.le_of_ble_eq_true rfl) ⟨Nat.le_of_ble_eq_true rfl, Nat.le_of_ble_eq_true rfl⟩ ⟨Nat.le_of_ble_eq_true rfl, Nat.le_of_ble_eq_true rfl⟩ dX1_init_408) (fun v9 a408_7 s9 H locs hp9 hW => ?_)
  obtain ⟨rfl, h9s, hE1, hN1⟩ := hp9
  rw [h9s] at hW
  have hE : EX a a408_7 N0 := hE.trans hE1 hN
  have hN := Nat.le_trans hN hN1
  have hl : lv_has ls 2 [(1, .int 7), (0, .ref (a408_7 o))] := by simp only [hE1 _ gr408_21, hE1 _ gr408_22, hE1 _ gr408_23]; exact hl
  refine W.eq (g2 := F0 m 411 ls [.ref (a408_7 s411_6.1), .int 7, .ref (a408_7 q400_7)]) (by show F0 m 411 ls [.ref (a404_7 s411_6.1), .int 7, .ref (a404_7 q400_7)] = _; simp only [hE1 _ gr408_21, hE1 _ gr408_22, hE1 _ gr408_23]) ?_
  refine W.widen (k := 94) (n := 1079) (Nat.le_of_ble_eq_true rfl) (Nat.le_of_ble_eq_true rfl) ?_
  obtain ⟨g411_14, hf⟩ := gd_some hf
  obtain ⟨g411_15, hf⟩ := gd_some hf
  obtain ⟨s411_7, e411_7, hf⟩ := bnd_some hf
  refine aw_aast (j := 0) e411_7 hC hW (by decide) g411_14 g411_15 dX1_init_411 (fun H locs hW => ?_)
  have hN := n_pR e411_7 hN
  have g411_15 := ko_pR e411_7 g411_15
  refine lv_iinc (v := 8) (lv' := [(1, .int 8), (0, .ref (a408_7 o))]) hx hb dX1_init_412 hl (k := 0) rfl (by decide) (by decide) rfl (fun ls hl => ?_)
  refine lv_goto (tgt := 393) hx hb dX1_init_415 (by decide) ?_
  refine lv_iload_n hx hb dX1_init_393 rfl (lv_at hl 0 rfl) ?_
  refine lv_bipush (v := 8) hx hb dX1_init_394 (by decide) ?_
  refine lv_icmp_ge (tgt := 418) hx hb dX1_init_396 (by decide) (fun _ => ?_) (fun c396_8 => absurd (by decide) c396_8)
  refine lv_iconst (v := 0) hx hb dX1_init_418 (by decide) ?_
  refine lv_istore_n (lv' := [(1, .int 0), (0, .ref (a408_7 o))]) hx hb dX1_init_419 rfl hl (by decide) rfl (fun ls hl => ?_)
  refine lv_iload_n hx hb dX1_init_420 rfl (lv_at hl 0 rfl) ?_
  refine lv_bipush (v := 20) hx hb dX1_init_421 (by decide) ?_
  refine lv_icmp_ge (tgt := 445) hx hb dX1_init_423 (by decide) (fun c423 => absurd c423 (by decide)) (fun _ => ?_)
  refine lv_aload_n hx hb dX1_init_426 rfl (lv_at hl 1 rfl) ?_
  obtain ⟨g427, hf⟩ := gd_some hf
  obtain ⟨q427, hq427, hf⟩ := bi_some hf
  refine aw_gR hC hW g427 fl_X1_25 rfl hq427 dX1_init_427 ?_
  refine lv_iload_n hx hb dX1_init_430 rfl (lv_at hl 0 rfl) ?_
  obtain ⟨gr431, hf⟩ := gd_some hf
  obtain ⟨gr431_1, hf⟩ := gd_some hf
  obtain ⟨s431, e431, hf⟩ := bnd_some hf
  refine aw_new (q := (RX2, TX2, 11)) (ci := 1) hC hW rfl q117 q118 q76 okT_X2 (Nat.le_of_ble_eq_true rfl) (Nat.le_of_ble_eq_true rfl) dX1_init_431 (fun a431 H hE1 hW => ?_)
  have hE : EX a a431 N0 := hE.trans hE1 hN
  have hN := n_nw e431 hN
  have g411_15 := ko_nw e431 g411_15
  have g427 := ko_nw e431 g427
  have hW := aw_eq e431 hW
  have hl : lv_has ls 2 [(1, .int 0), (0, .ref (a431 o))] := by simp only [hE1 _ gr431, hE1 _ gr431_1]; exact hl
  refine W.eq (g2 := F0 m 434 ls [.ref (a431 s411_7.1), .int 0, .ref (a431 q427)]) (by simp only [hE1 _ gr431, hE1 _ gr431_1]) ?_
  refine W.widen (k := 95) (n := 1090) (Nat.le_of_ble_eq_true rfl) (Nat.le_of_ble_eq_true rfl) ?_
  have gn431 := ko_new e431
  refine lv_dup hx hb dX1_init_434 rfl ?_
  obtain ⟨gr435, hf⟩ := gd_some hf
  obtain ⟨gr435_1, hf⟩ := gd_some hf
  obtain ⟨gr435_2, hf⟩ := gd_some hf
  obtain ⟨_, s435, h435, hf⟩ := ob_some hf
  refine aw_run hC hW (aw_runI hC hW hl.1 (r := s411_7.1) (As := []) (rest := [.ref (a431 s411_7.1), .int 0, .ref (a431 q427)]) (cta_X2_init l G a431 s411_7.1 s431 () s435 h435) iy_X2_init (Or.inr ⟨_, q119⟩) rfl rfl (Nat.le_of_ble_eq_true rfl) ⟨Nat.le_of_ble_eq_true rfl, Nat.le_of_ble_eq_true rfl⟩ ⟨Nat.le_of_ble_eq_true rfl, Nat.le_of_ble_eq_true rfl⟩ dX1_init_435) (fun v9 a435 s9 H locs hp9 hW => ?_)
  obtain ⟨rfl, h9s, hE1, hN1⟩ := hp9
  rw [h9s] at hW
  have hE : EX a a435 N0 := hE.trans hE1 hN
  have hN := Nat.le_trans hN hN1
  have hl : lv_has ls 2 [(1, .int 0), (0, .ref (a435 o))] := by simp only [hE1 _ gr435, hE1 _ gr435_1, hE1 _ gr435_2]; exact hl
  refine W.eq (g2 := F0 m 438 ls [.ref (a435 s411_7.1), .int 0, .ref (a435 q427)]) (by show F0 m 438 ls [.ref (a431 s411_7.1), .int 0, .ref (a431 q427)] = _; simp only [hE1 _ gr435, hE1 _ gr435_1, hE1 _ gr435_2]) ?_
  refine W.widen (k := 101) (n := 1202) (Nat.le_of_ble_eq_true rfl) (Nat.le_of_ble_eq_true rfl) ?_
  obtain ⟨g438, hf⟩ := gd_some hf
  obtain ⟨g438_1, hf⟩ := gd_some hf
  obtain ⟨s438, e438, hf⟩ := bnd_some hf
  refine aw_aast (j := 1) e438 hC hW (by decide) g438 g438_1 dX1_init_438 (fun H locs hW => ?_)
  have hN := n_pR e438 hN
  have g438_1 := ko_pR e438 g438_1
  refine lv_iinc (v := 1) (lv' := [(1, .int 1), (0, .ref (a435 o))]) hx hb dX1_init_439 hl (k := 0) rfl (by decide) (by decide) rfl (fun ls hl => ?_)
  refine lv_goto (tgt := 420) hx hb dX1_init_442 (by decide) ?_
  refine lv_iload_n hx hb dX1_init_420 rfl (lv_at hl 0 rfl) ?_
  refine lv_bipush (v := 20) hx hb dX1_init_421 (by decide) ?_
  refine lv_icmp_ge (tgt := 445) hx hb dX1_init_423 (by decide) (fun c423_1 => absurd c423_1 (by decide)) (fun _ => ?_)
  refine lv_aload_n hx hb dX1_init_426 rfl (lv_at hl 1 rfl) ?_
  obtain ⟨g427_1, hf⟩ := gd_some hf
  obtain ⟨q427_1, hq427_1, hf⟩ := bi_some hf
  refine aw_gR hC hW g427_1 fl_X1_25 rfl hq427_1 dX1_init_427 ?_
  refine lv_iload_n hx hb dX1_init_430 rfl (lv_at hl 0 rfl) ?_
  obtain ⟨gr431_2, hf⟩ := gd_some hf
  obtain ⟨gr431_3, hf⟩ := gd_some hf
  obtain ⟨s431_1, e431_1, hf⟩ := bnd_some hf
  refine aw_new (q := (RX2, TX2, 11)) (ci := 1) hC hW rfl q117 q118 q76 okT_X2 (Nat.le_of_ble_eq_true rfl) (Nat.le_of_ble_eq_true rfl) dX1_init_431 (fun a431_1 H hE1 hW => ?_)
  have hE : EX a a431_1 N0 := hE.trans hE1 hN
  have hN := n_nw e431_1 hN
  have g438_1 := ko_nw e431_1 g438_1
  have g427_1 := ko_nw e431_1 g427_1
  have hW := aw_eq e431_1 hW
  have hl : lv_has ls 2 [(1, .int 1), (0, .ref (a431_1 o))] := by simp only [hE1 _ gr431_2, hE1 _ gr431_3]; exact hl
  refine W.eq (g2 := F0 m 434 ls [.ref (a431_1 s438.1), .int 1, .ref (a431_1 q427_1)]) (by simp only [hE1 _ gr431_2, hE1 _ gr431_3]) ?_
  refine W.widen (k := 102) (n := 1213) (Nat.le_of_ble_eq_true rfl) (Nat.le_of_ble_eq_true rfl) ?_
  have gn431_1 := ko_new e431_1
  refine lv_dup hx hb dX1_init_434 rfl ?_
  obtain ⟨gr435_3, hf⟩ := gd_some hf
  obtain ⟨gr435_4, hf⟩ := gd_some hf
  obtain ⟨gr435_5, hf⟩ := gd_some hf
  obtain ⟨_, s435_1, h435_1, hf⟩ := ob_some hf
  refine aw_run hC hW (aw_runI hC hW hl.1 (r := s438.1) (As := []) (rest := [.ref (a431_1 s438.1), .int 1, .ref (a431_1 q427_1)]) (cta_X2_init l G a431_1 s438.1 s431_1 () s435_1 h435_1) iy_X2_init (Or.inr ⟨_, q119⟩) rfl rfl (Nat.le_of_ble_eq_true rfl) ⟨Nat.le_of_ble_eq_true rfl, Nat.le_of_ble_eq_true rfl⟩ ⟨Nat.le_of_ble_eq_true rfl, Nat.le_of_ble_eq_true rfl⟩ dX1_init_435) (fun v9 a435_1 s9 H locs hp9 hW => ?_)
  obtain ⟨rfl, h9s, hE1, hN1⟩ := hp9
  rw [h9s] at hW
  have hE : EX a a435_1 N0 := hE.trans hE1 hN
  have hN := Nat.le_trans hN hN1
  have hl : lv_has ls 2 [(1, .int 1), (0, .ref (a435_1 o))] := by simp only [hE1 _ gr435_3, hE1 _ gr435_4, hE1 _ gr435_5]; exact hl
  refine W.eq (g2 := F0 m 438 ls [.ref (a435_1 s438.1), .int 1, .ref (a435_1 q427_1)]) (by show F0 m 438 ls [.ref (a431_1 s438.1), .int 1, .ref (a431_1 q427_1)] = _; simp only [hE1 _ gr435_3, hE1 _ gr435_4, hE1 _ gr435_5]) ?_
  refine W.widen (k := 108) (n := 1325) (Nat.le_of_ble_eq_true rfl) (Nat.le_of_ble_eq_true rfl) ?_
  obtain ⟨g438_2, hf⟩ := gd_some hf
  obtain ⟨g438_3, hf⟩ := gd_some hf
  obtain ⟨s438_1, e438_1, hf⟩ := bnd_some hf
  refine aw_aast (j := 1) e438_1 hC hW (by decide) g438_2 g438_3 dX1_init_438 (fun H locs hW => ?_)
  have hN := n_pR e438_1 hN
  have g438_3 := ko_pR e438_1 g438_3
  refine lv_iinc (v := 2) (lv' := [(1, .int 2), (0, .ref (a435_1 o))]) hx hb dX1_init_439 hl (k := 0) rfl (by decide) (by decide) rfl (fun ls hl => ?_)
  refine lv_goto (tgt := 420) hx hb dX1_init_442 (by decide) ?_
  refine lv_iload_n hx hb dX1_init_420 rfl (lv_at hl 0 rfl) ?_
  refine lv_bipush (v := 20) hx hb dX1_init_421 (by decide) ?_
  refine lv_icmp_ge (tgt := 445) hx hb dX1_init_423 (by decide) (fun c423_2 => absurd c423_2 (by decide)) (fun _ => ?_)
  refine lv_aload_n hx hb dX1_init_426 rfl (lv_at hl 1 rfl) ?_
  obtain ⟨g427_2, hf⟩ := gd_some hf
  obtain ⟨q427_2, hq427_2, hf⟩ := bi_some hf
  refine aw_gR hC hW g427_2 fl_X1_25 rfl hq427_2 dX1_init_427 ?_
  refine lv_iload_n hx hb dX1_init_430 rfl (lv_at hl 0 rfl) ?_
  obtain ⟨gr431_4, hf⟩ := gd_some hf
  obtain ⟨gr431_5, hf⟩ := gd_some hf
  obtain ⟨s431_2, e431_2, hf⟩ := bnd_some hf
  refine aw_new (q := (RX2, TX2, 11)) (ci := 1) hC hW rfl q117 q118 q76 okT_X2 (Nat.le_of_ble_eq_true rfl) (Nat.le_of_ble_eq_true rfl) dX1_init_431 (fun a431_2 H hE1 hW => ?_)
  have hE : EX a a431_2 N0 := hE.trans hE1 hN
  have hN := n_nw e431_2 hN
  have g438_3 := ko_nw e431_2 g438_3
  have g427_2 := ko_nw e431_2 g427_2
  have hW := aw_eq e431_2 hW
  have hl : lv_has ls 2 [(1, .int 2), (0, .ref (a431_2 o))] := by simp only [hE1 _ gr431_4, hE1 _ gr431_5]; exact hl
  refine W.eq (g2 := F0 m 434 ls [.ref (a431_2 s438_1.1), .int 2, .ref (a431_2 q427_2)]) (by simp only [hE1 _ gr431_4, hE1 _ gr431_5]) ?_
  refine W.widen (k := 109) (n := 1336) (Nat.le_of_ble_eq_true rfl) (Nat.le_of_ble_eq_true rfl) ?_
  have gn431_2 := ko_new e431_2
  refine lv_dup hx hb dX1_init_434 rfl ?_
  obtain ⟨gr435_6, hf⟩ := gd_some hf
  obtain ⟨gr435_7, hf⟩ := gd_some hf
  obtain ⟨gr435_8, hf⟩ := gd_some hf
  obtain ⟨_, s435_2, h435_2, hf⟩ := ob_some hf
  refine aw_run hC hW (aw_runI hC hW hl.1 (r := s438_1.1) (As := []) (rest := [.ref (a431_2 s438_1.1), .int 2, .ref (a431_2 q427_2)]) (cta_X2_init l G a431_2 s438_1.1 s431_2 () s435_2 h435_2) iy_X2_init (Or.inr ⟨_, q119⟩) rfl rfl (Nat.le_of_ble_eq_true rfl) ⟨Nat.le_of_ble_eq_true rfl, Nat.le_of_ble_eq_true rfl⟩ ⟨Nat.le_of_ble_eq_true rfl, Nat.le_of_ble_eq_true rfl⟩ dX1_init_435) (fun v9 a435_2 s9 H locs hp9 hW => ?_)
  obtain ⟨rfl, h9s, hE1, hN1⟩ := hp9
  rw [h9s] at hW
  have hE : EX a a435_2 N0 := hE.trans hE1 hN
  have hN := Nat.le_trans hN hN1
  have hl : lv_has ls 2 [(1, .int 2), (0, .ref (a435_2 o))] := by simp only [hE1 _ gr435_6, hE1 _ gr435_7, hE1 _ gr435_8]; exact hl
  refine W.eq (g2 := F0 m 438 ls [.ref (a435_2 s438_1.1), .int 2, .ref (a435_2 q427_2)]) (by show F0 m 438 ls [.ref (a431_2 s438_1.1), .int 2, .ref (a431_2 q427_2)] = _; simp only [hE1 _ gr435_6, hE1 _ gr435_7, hE1 _ gr435_8]) ?_
  refine W.widen (k := 115) (n := 1448) (Nat.le_of_ble_eq_true rfl) (Nat.le_of_ble_eq_true rfl) ?_
  obtain ⟨g438_4, hf⟩ := gd_some hf
  obtain ⟨g438_5, hf⟩ := gd_some hf
  obtain ⟨s438_2, e438_2, hf⟩ := bnd_some hf
  refine aw_aast (j := 1) e438_2 hC hW (by decide) g438_4 g438_5 dX1_init_438 (fun H locs hW => ?_)
  have hN := n_pR e438_2 hN
  have g438_5 := ko_pR e438_2 g438_5
  refine lv_iinc (v := 3) (lv' := [(1, .int 3), (0, .ref (a435_2 o))]) hx hb dX1_init_439 hl (k := 0) rfl (by decide) (by decide) rfl (fun ls hl => ?_)
  refine lv_goto (tgt := 420) hx hb dX1_init_442 (by decide) ?_
  refine lv_iload_n hx hb dX1_init_420 rfl (lv_at hl 0 rfl) ?_
  refine lv_bipush (v := 20) hx hb dX1_init_421 (by decide) ?_
  refine lv_icmp_ge (tgt := 445) hx hb dX1_init_423 (by decide) (fun c423_3 => absurd c423_3 (by decide)) (fun _ => ?_)
  refine lv_aload_n hx hb dX1_init_426 rfl (lv_at hl 1 rfl) ?_
  obtain ⟨g427_3, hf⟩ := gd_some hf
  obtain ⟨q427_3, hq427_3, hf⟩ := bi_some hf
  refine aw_gR hC hW g427_3 fl_X1_25 rfl hq427_3 dX1_init_427 ?_
  refine lv_iload_n hx hb dX1_init_430 rfl (lv_at hl 0 rfl) ?_
  obtain ⟨gr431_6, hf⟩ := gd_some hf
  obtain ⟨gr431_7, hf⟩ := gd_some hf
  obtain ⟨s431_3, e431_3, hf⟩ := bnd_some hf
  refine aw_new (q := (RX2, TX2, 11)) (ci := 1) hC hW rfl q117 q118 q76 okT_X2 (Nat.le_of_ble_eq_true rfl) (Nat.le_of_ble_eq_true rfl) dX1_init_431 (fun a431_3 H hE1 hW => ?_)
  have hE : EX a a431_3 N0 := hE.trans hE1 hN
  have hN := n_nw e431_3 hN
  have g438_5 := ko_nw e431_3 g438_5
  have g427_3 := ko_nw e431_3 g427_3
  have hW := aw_eq e431_3 hW
  have hl : lv_has ls 2 [(1, .int 3), (0, .ref (a431_3 o))] := by simp only [hE1 _ gr431_6, hE1 _ gr431_7]; exact hl
  refine W.eq (g2 := F0 m 434 ls [.ref (a431_3 s438_2.1), .int 3, .ref (a431_3 q427_3)]) (by simp only [hE1 _ gr431_6, hE1 _ gr431_7]) ?_
  refine W.widen (k := 116) (n := 1459) (Nat.le_of_ble_eq_true rfl) (Nat.le_of_ble_eq_true rfl) ?_
  have gn431_3 := ko_new e431_3
  refine lv_dup hx hb dX1_init_434 rfl ?_
  obtain ⟨gr435_9, hf⟩ := gd_some hf
  obtain ⟨gr435_10, hf⟩ := gd_some hf
  obtain ⟨gr435_11, hf⟩ := gd_some hf
  obtain ⟨_, s435_3, h435_3, hf⟩ := ob_some hf
  refine aw_run hC hW (aw_runI hC hW hl.1 (r := s438_2.1) (As := []) (rest := [.ref (a431_3 s438_2.1), .int 3, .ref (a431_3 q427_3)]) (cta_X2_init l G a431_3 s438_2.1 s431_3 () s435_3 h435_3) iy_X2_init (Or.inr ⟨_, q119⟩) rfl rfl (Nat.le_of_ble_eq_true rfl) ⟨Nat.le_of_ble_eq_true rfl, Nat.le_of_ble_eq_true rfl⟩ ⟨Nat.le_of_ble_eq_true rfl, Nat.le_of_ble_eq_true rfl⟩ dX1_init_435) (fun v9 a435_3 s9 H locs hp9 hW => ?_)
  obtain ⟨rfl, h9s, hE1, hN1⟩ := hp9
  rw [h9s] at hW
  have hE : EX a a435_3 N0 := hE.trans hE1 hN
  have hN := Nat.le_trans hN hN1
  have hl : lv_has ls 2 [(1, .int 3), (0, .ref (a435_3 o))] := by simp only [hE1 _ gr435_9, hE1 _ gr435_10, hE1 _ gr435_11]; exact hl
  refine W.eq (g2 := F0 m 438 ls [.ref (a435_3 s438_2.1), .int 3, .ref (a435_3 q427_3)]) (by show F0 m 438 ls [.ref (a431_3 s438_2.1), .int 3, .ref (a431_3 q427_3)] = _; simp only [hE1 _ gr435_9, hE1 _ gr435_10, hE1 _ gr435_11]) ?_
  refine W.widen (k := 122) (n := 1571) (Nat.le_of_ble_eq_true rfl) (Nat.le_of_ble_eq_true rfl) ?_
  obtain ⟨g438_6, hf⟩ := gd_some hf
  obtain ⟨g438_7, hf⟩ := gd_some hf
  obtain ⟨s438_3, e438_3, hf⟩ := bnd_some hf
  refine aw_aast (j := 1) e438_3 hC hW (by decide) g438_6 g438_7 dX1_init_438 (fun H locs hW => ?_)
  have hN := n_pR e438_3 hN
  have g438_7 := ko_pR e438_3 g438_7
  refine lv_iinc (v := 4) (lv' := [(1, .int 4), (0, .ref (a435_3 o))]) hx hb dX1_init_439 hl (k := 0) rfl (by decide) (by decide) rfl (fun ls hl => ?_)
  refine lv_goto (tgt := 420) hx hb dX1_init_442 (by decide) ?_
  refine lv_iload_n hx hb dX1_init_420 rfl (lv_at hl 0 rfl) ?_
  refine lv_bipush (v := 20) hx hb dX1_init_421 (by decide) ?_
  refine lv_icmp_ge (tgt := 445) hx hb dX1_init_423 (by decide) (fun c423_4 => absurd c423_4 (by decide)) (fun _ => ?_)
  refine lv_aload_n hx hb dX1_init_426 rfl (lv_at hl 1 rfl) ?_
  obtain ⟨g427_4, hf⟩ := gd_some hf
  obtain ⟨q427_4, hq427_4, hf⟩ := bi_some hf
  refine aw_gR hC hW g427_4 fl_X1_25 rfl hq427_4 dX1_init_427 ?_
  refine lv_iload_n hx hb dX1_init_430 rfl (lv_at hl 0 rfl) ?_
  obtain ⟨gr431_8, hf⟩ := gd_some hf
  obtain ⟨gr431_9, hf⟩ := gd_some hf
  obtain ⟨s431_4, e431_4, hf⟩ := bnd_some hf
  refine aw_new (q := (RX2, TX2, 11)) (ci := 1) hC hW rfl q117 q118 q76 okT_X2 (Nat.le_of_ble_eq_true rfl) (Nat.le_of_ble_eq_true rfl) dX1_init_431 (fun a431_4 H hE1 hW => ?_)
  have hE : EX a a431_4 N0 := hE.trans hE1 hN
  have hN := n_nw e431_4 hN
  have g438_7 := ko_nw e431_4 g438_7
  have g427_4 := ko_nw e431_4 g427_4
  have hW := aw_eq e431_4 hW
  have hl : lv_has ls 2 [(1, .int 4), (0, .ref (a431_4 o))] := by simp only [hE1 _ gr431_8, hE1 _ gr431_9]; exact hl
  refine W.eq (g2 := F0 m 434 ls [.ref (a431_4 s438_3.1), .int 4, .ref (a431_4 q427_4)]) (by simp only [hE1 _ gr431_8, hE1 _ gr431_9]) ?_
  refine W.widen (k := 123) (n := 1582) (Nat.le_of_ble_eq_true rfl) (Nat.le_of_ble_eq_true rfl) ?_
  have gn431_4 := ko_new e431_4
  refine lv_dup hx hb dX1_init_434 rfl ?_
  obtain ⟨gr435_12, hf⟩ := gd_some hf
  obtain ⟨gr435_13, hf⟩ := gd_some hf
  obtain ⟨gr435_14, hf⟩ := gd_some hf
  obtain ⟨_, s435_4, h435_4, hf⟩ := ob_some hf
  refine aw_run hC hW (aw_runI hC hW hl.1 (r := s438_3.1) (As := []) (rest := [.ref (a431_4 s438_3.1), .int 4, .ref (a431_4 q427_4)]) (cta_X2_init l G a431_4 s438_3.1 s431_4 () s435_4 h435_4) iy_X2_init (Or.inr ⟨_, q119⟩) rfl rfl (Nat.le_of_ble_eq_true rfl) ⟨Nat.le_of_ble_eq_true rfl, Nat.le_of_ble_eq_true rfl⟩ ⟨Nat.le_of_ble_eq_true rfl, Nat.le_of_ble_eq_true rfl⟩ dX1_init_435) (fun v9 a435_4 s9 H locs hp9 hW => ?_)
  obtain ⟨rfl, h9s, hE1, hN1⟩ := hp9
  rw [h9s] at hW
  have hE : EX a a435_4 N0 := hE.trans hE1 hN
  have hN := Nat.le_trans hN hN1
  have hl : lv_has ls 2 [(1, .int 4), (0, .ref (a435_4 o))] := by simp only [hE1 _ gr435_12, hE1 _ gr435_13, hE1 _ gr435_14]; exact hl
  refine W.eq (g2 := F0 m 438 ls [.ref (a435_4 s438_3.1), .int 4, .ref (a435_4 q427_4)]) (by show F0 m 438 ls [.ref (a431_4 s438_3.1), .int 4, .ref (a431_4 q427_4)] = _; simp only [hE1 _ gr435_12, hE1 _ gr435_13, hE1 _ gr435_14]) ?_
  refine W.widen (k := 129) (n := 1694) (Nat.le_of_ble_eq_true rfl) (Nat.le_of_ble_eq_true rfl) ?_
  obtain ⟨g438_8, hf⟩ := gd_some hf
  obtain ⟨g438_9, hf⟩ := gd_some hf
  obtain ⟨s438_4, e438_4, hf⟩ := bnd_some hf
  refine aw_aast (j := 1) e438_4 hC hW (by decide) g438_8 g438_9 dX1_init_438 (fun H locs hW => ?_)
  have hN := n_pR e438_4 hN
  have g438_9 := ko_pR e438_4 g438_9
  refine lv_iinc (v := 5) (lv' := [(1, .int 5), (0, .ref (a435_4 o))]) hx hb dX1_init_439 hl (k := 0) rfl (by decide) (by decide) rfl (fun ls hl => ?_)
  refine lv_goto (tgt := 420) hx hb dX1_init_442 (by decide) ?_
  refine lv_iload_n hx hb dX1_init_420 rfl (lv_at hl 0 rfl) ?_
  refine lv_bipush (v := 20) hx hb dX1_init_421 (by decide) ?_
  refine lv_icmp_ge (tgt := 445) hx hb dX1_init_423 (by decide) (fun c423_5 => absurd c423_5 (by decide)) (fun _ => ?_)
  refine lv_aload_n hx hb dX1_init_426 rfl (lv_at hl 1 rfl) ?_
  obtain ⟨g427_5, hf⟩ := gd_some hf
  obtain ⟨q427_5, hq427_5, hf⟩ := bi_some hf
  refine aw_gR hC hW g427_5 fl_X1_25 rfl hq427_5 dX1_init_427 ?_
  refine lv_iload_n hx hb dX1_init_430 rfl (lv_at hl 0 rfl) ?_
  obtain ⟨gr431_10, hf⟩ := gd_some hf
  obtain ⟨gr431_11, hf⟩ := gd_some hf
  obtain ⟨s431_5, e431_5, hf⟩ := bnd_some hf
  refine aw_new (q := (RX2, TX2, 11)) (ci := 1) hC hW rfl q117 q118 q76 okT_X2 (Nat.le_of_ble_eq_true rfl) (Nat.le_of_ble_eq_true rfl) dX1_init_431 (fun a431_5 H hE1 hW => ?_)
  have hE : EX a a431_5 N0 := hE.trans hE1 hN
  have hN := n_nw e431_5 hN
  have g438_9 := ko_nw e431_5 g438_9
  have g427_5 := ko_nw e431_5 g427_5
  have hW := aw_eq e431_5 hW
  have hl : lv_has ls 2 [(1, .int 5), (0, .ref (a431_5 o))] := by simp only [hE1 _ gr431_10, hE1 _ gr431_11]; exact hl
  refine W.eq (g2 := F0 m 434 ls [.ref (a431_5 s438_4.1), .int 5, .ref (a431_5 q427_5)]) (by simp only [hE1 _ gr431_10, hE1 _ gr431_11]) ?_
  refine W.widen (k := 130) (n := 1705) (Nat.le_of_ble_eq_true rfl) (Nat.le_of_ble_eq_true rfl) ?_
  have gn431_5 := ko_new e431_5
  refine lv_dup hx hb dX1_init_434 rfl ?_
  obtain ⟨gr435_15, hf⟩ := gd_some hf
  obtain ⟨gr435_16, hf⟩ := gd_some hf
  obtain ⟨gr435_17, hf⟩ := gd_some hf
  obtain ⟨_, s435_5, h435_5, hf⟩ := ob_some hf
  refine aw_run hC hW (aw_runI hC hW hl.1 (r := s438_4.1) (As := []) (rest := [.ref (a431_5 s438_4.1), .int 5, .ref (a431_5 q427_5)]) (cta_X2_init l G a431_5 s438_4.1 s431_5 () s435_5 h435_5) iy_X2_init (Or.inr ⟨_, q119⟩) rfl rfl (Nat.le_of_ble_eq_true rfl) ⟨Nat.le_of_ble_eq_true rfl, Nat.le_of_ble_eq_true rfl⟩ ⟨Nat.le_of_ble_eq_true rfl, Nat.le_of_ble_eq_true rfl⟩ dX1_init_435) (fun v9 a435_5 s9 H locs hp9 hW => ?_)
  obtain ⟨rfl, h9s, hE1, hN1⟩ := hp9
  rw [h9s] at hW
  have hE : EX a a435_5 N0 := hE.trans hE1 hN
  have hN := Nat.le_trans hN hN1
  have hl : lv_has ls 2 [(1, .int 5), (0, .ref (a435_5 o))] := by simp only [hE1 _ gr435_15, hE1 _ gr435_16, hE1 _ gr435_17]; exact hl
  refine W.eq (g2 := F0 m 438 ls [.ref (a435_5 s438_4.1), .int 5, .ref (a435_5 q427_5)]) (by show F0 m 438 ls [.ref (a431_5 s438_4.1), .int 5, .ref (a431_5 q427_5)] = _; simp only [hE1 _ gr435_15, hE1 _ gr435_16, hE1 _ gr435_17]) ?_
  refine W.widen (k := 136) (n := 1817) (Nat.le_of_ble_eq_true rfl) (Nat.le_of_ble_eq_true rfl) ?_
  obtain ⟨g438_10, hf⟩ := gd_some hf
  obtain ⟨g438_11, hf⟩ := gd_some hf
  obtain ⟨s438_5, e438_5, hf⟩ := bnd_some hf
  refine aw_aast (j := 1) e438_5 hC hW (by decide) g438_10 g438_11 dX1_init_438 (fun H locs hW => ?_)
  have hN := n_pR e438_5 hN
  have g438_11 := ko_pR e438_5 g438_11
  refine lv_iinc (v := 6) (lv' := [(1, .int 6), (0, .ref (a435_5 o))]) hx hb dX1_init_439 hl (k := 0) rfl (by decide) (by decide) rfl (fun ls hl => ?_)
  refine lv_goto (tgt := 420) hx hb dX1_init_442 (by decide) ?_
  refine lv_iload_n hx hb dX1_init_420 rfl (lv_at hl 0 rfl) ?_
  refine lv_bipush (v := 20) hx hb dX1_init_421 (by decide) ?_
  refine lv_icmp_ge (tgt := 445) hx hb dX1_init_423 (by decide) (fun c423_6 => absurd c423_6 (by decide)) (fun _ => ?_)
  refine lv_aload_n hx hb dX1_init_426 rfl (lv_at hl 1 rfl) ?_
  obtain ⟨g427_6, hf⟩ := gd_some hf
  obtain ⟨q427_6, hq427_6, hf⟩ := bi_some hf
  refine aw_gR hC hW g427_6 fl_X1_25 rfl hq427_6 dX1_init_427 ?_
  refine lv_iload_n hx hb dX1_init_430 rfl (lv_at hl 0 rfl) ?_
  obtain ⟨gr431_12, hf⟩ := gd_some hf
  obtain ⟨gr431_13, hf⟩ := gd_some hf
  obtain ⟨s431_6, e431_6, hf⟩ := bnd_some hf
  refine aw_new (q := (RX2, TX2, 11)) (ci := 1) hC hW rfl q117 q118 q76 okT_X2 (Nat.le_of_ble_eq_true rfl) (Nat.le_of_ble_eq_true rfl) dX1_init_431 (fun a431_6 H hE1 hW => ?_)
  have hE : EX a a431_6 N0 := hE.trans hE1 hN
  have hN := n_nw e431_6 hN
  have g438_11 := ko_nw e431_6 g438_11
  have g427_6 := ko_nw e431_6 g427_6
  have hW := aw_eq e431_6 hW
  have hl : lv_has ls 2 [(1, .int 6), (0, .ref (a431_6 o))] := by simp only [hE1 _ gr431_12, hE1 _ gr431_13]; exact hl
  refine W.eq (g2 := F0 m 434 ls [.ref (a431_6 s438_5.1), .int 6, .ref (a431_6 q427_6)]) (by simp only [hE1 _ gr431_12, hE1 _ gr431_13]) ?_
  refine W.widen (k := 137) (n := 1828) (Nat.le_of_ble_eq_true rfl) (Nat.le_of_ble_eq_true rfl) ?_
  have gn431_6 := ko_new e431_6
  refine lv_dup hx hb dX1_init_434 rfl ?_
  obtain ⟨gr435_18, hf⟩ := gd_some hf
  obtain ⟨gr435_19, hf⟩ := gd_some hf
  obtain ⟨gr435_20, hf⟩ := gd_some hf
  obtain ⟨_, s435_6, h435_6, hf⟩ := ob_some hf
  refine aw_run hC hW (aw_runI hC hW hl.1 (r := s438_5.1) (As := []) (rest := [.ref (a431_6 s438_5.1), .int 6, .ref (a431_6 q427_6)]) (cta_X2_init l G a431_6 s438_5.1 s431_6 () s435_6 h435_6) iy_X2_init (Or.inr ⟨_, q119⟩) rfl rfl (Nat.le_of_ble_eq_true rfl) ⟨Nat.le_of_ble_eq_true rfl, Nat.le_of_ble_eq_true rfl⟩ ⟨Nat.le_of_ble_eq_true rfl, Nat.le_of_ble_eq_true rfl⟩ dX1_init_435) (fun v9 a435_6 s9 H locs hp9 hW => ?_)
  obtain ⟨rfl, h9s, hE1, hN1⟩ := hp9
  rw [h9s] at hW
  have hE : EX a a435_6 N0 := hE.trans hE1 hN
  have hN := Nat.le_trans hN hN1
  have hl : lv_has ls 2 [(1, .int 6), (0, .ref (a435_6 o))] := by simp only [hE1 _ gr435_18, hE1 _ gr435_19, hE1 _ gr435_20]; exact hl
  refine W.eq (g2 := F0 m 438 ls [.ref (a435_6 s438_5.1), .int 6, .ref (a435_6 q427_6)]) (by show F0 m 438 ls [.ref (a431_6 s438_5.1), .int 6, .ref (a431_6 q427_6)] = _; simp only [hE1 _ gr435_18, hE1 _ gr435_19, hE1 _ gr435_20]) ?_
  refine W.widen (k := 143) (n := 1940) (Nat.le_of_ble_eq_true rfl) (Nat.le_of_ble_eq_true rfl) ?_
  obtain ⟨g438_12, hf⟩ := gd_some hf
  obtain ⟨g438_13, hf⟩ := gd_some hf
  obtain ⟨s438_6, e438_6, hf⟩ := bnd_some hf
  refine aw_aast (j := 1) e438_6 hC hW (by decide) g438_12 g438_13 dX1_init_438 (fun H locs hW => ?_)
  have hN := n_pR e438_6 hN
  have g438_13 := ko_pR e438_6 g438_13
  refine lv_iinc (v := 7) (lv' := [(1, .int 7), (0, .ref (a435_6 o))]) hx hb dX1_init_439 hl (k := 0) rfl (by decide) (by decide) rfl (fun ls hl => ?_)
  refine lv_goto (tgt := 420) hx hb dX1_init_442 (by decide) ?_
  refine lv_iload_n hx hb dX1_init_420 rfl (lv_at hl 0 rfl) ?_
  refine lv_bipush (v := 20) hx hb dX1_init_421 (by decide) ?_
  refine lv_icmp_ge (tgt := 445) hx hb dX1_init_423 (by decide) (fun c423_7 => absurd c423_7 (by decide)) (fun _ => ?_)
  refine lv_aload_n hx hb dX1_init_426 rfl (lv_at hl 1 rfl) ?_
  obtain ⟨g427_7, hf⟩ := gd_some hf
  obtain ⟨q427_7, hq427_7, hf⟩ := bi_some hf
  refine aw_gR hC hW g427_7 fl_X1_25 rfl hq427_7 dX1_init_427 ?_
  refine lv_iload_n hx hb dX1_init_430 rfl (lv_at hl 0 rfl) ?_
  obtain ⟨gr431_14, hf⟩ := gd_some hf
  obtain ⟨gr431_15, hf⟩ := gd_some hf
  obtain ⟨s431_7, e431_7, hf⟩ := bnd_some hf
  refine aw_new (q := (RX2, TX2, 11)) (ci := 1) hC hW rfl q117 q118 q76 okT_X2 (Nat.le_of_ble_eq_true rfl) (Nat.le_of_ble_eq_true rfl) dX1_init_431 (fun a431_7 H hE1 hW => ?_)
  have hE : EX a a431_7 N0 := hE.trans hE1 hN
  have hN := n_nw e431_7 hN
  have g438_13 := ko_nw e431_7 g438_13
  have g427_7 := ko_nw e431_7 g427_7
  have hW := aw_eq e431_7 hW
  have hl : lv_has ls 2 [(1, .int 7), (0, .ref (a431_7 o))] := by simp only [hE1 _ gr431_14, hE1 _ gr431_15]; exact hl
  refine W.eq (g2 := F0 m 434 ls [.ref (a431_7 s438_6.1), .int 7, .ref (a431_7 q427_7)]) (by simp only [hE1 _ gr431_14, hE1 _ gr431_15]) ?_
  refine W.widen (k := 144) (n := 1951) (Nat.le_of_ble_eq_true rfl) (Nat.le_of_ble_eq_true rfl) ?_
  have gn431_7 := ko_new e431_7
  refine lv_dup hx hb dX1_init_434 rfl ?_
  obtain ⟨gr435_21, hf⟩ := gd_some hf
  obtain ⟨gr435_22, hf⟩ := gd_some hf
  obtain ⟨gr435_23, hf⟩ := gd_some hf
  obtain ⟨_, s435_7, h435_7, hf⟩ := ob_some hf
  refine aw_run hC hW (aw_runI hC hW hl.1 (r := s438_6.1) (As := []) (rest := [.ref (a431_7 s438_6.1), .int 7, .ref (a431_7 q427_7)]) (cta_X2_init l G a431_7 s438_6.1 s431_7 () s435_7 h435_7) iy_X2_init (Or.inr ⟨_, q119⟩) rfl rfl (Nat.le_of_ble_eq_true rfl) ⟨Nat.le_of_ble_eq_true rfl, Nat.le_of_ble_eq_true rfl⟩ ⟨Nat.le_of_ble_eq_true rfl, Nat.le_of_ble_eq_true rfl⟩ dX1_init_435) (fun v9 a435_7 s9 H locs hp9 hW => ?_)
  obtain ⟨rfl, h9s, hE1, hN1⟩ := hp9
  rw [h9s] at hW
  have hE : EX a a435_7 N0 := hE.trans hE1 hN
  have hN := Nat.le_trans hN hN1
  have hl : lv_has ls 2 [(1, .int 7), (0, .ref (a435_7 o))] := by simp only [hE1 _ gr435_21, hE1 _ gr435_22, hE1 _ gr435_23]; exact hl
  refine W.eq (g2 := F0 m 438 ls [.ref (a435_7 s438_6.1), .int 7, .ref (a435_7 q427_7)]) (by show F0 m 438 ls [.ref (a431_7 s438_6.1), .int 7, .ref (a431_7 q427_7)] = _; simp only [hE1 _ gr435_21, hE1 _ gr435_22, hE1 _ gr435_23]) ?_
  refine W.widen (k := 150) (n := 2063) (Nat.le_of_ble_eq_true rfl) (Nat.le_of_ble_eq_true rfl) ?_
  obtain ⟨g438_14, hf⟩ := gd_some hf
  obtain ⟨g438_15, hf⟩ := gd_some hf
  obtain ⟨s438_7, e438_7, hf⟩ := bnd_some hf
  refine aw_aast (j := 1) e438_7 hC hW (by decide) g438_14 g438_15 dX1_init_438 (fun H locs hW => ?_)
  have hN := n_pR e438_7 hN
  have g438_15 := ko_pR e438_7 g438_15
  refine lv_iinc (v := 8) (lv' := [(1, .int 8), (0, .ref (a435_7 o))]) hx hb dX1_init_439 hl (k := 0) rfl (by decide) (by decide) rfl (fun ls hl => ?_)
  refine lv_goto (tgt := 420) hx hb dX1_init_442 (by decide) ?_
  refine lv_iload_n hx hb dX1_init_420 rfl (lv_at hl 0 rfl) ?_
  refine lv_bipush (v := 20) hx hb dX1_init_421 (by decide) ?_
  refine lv_icmp_ge (tgt := 445) hx hb dX1_init_423 (by decide) (fun c423_8 => absurd c423_8 (by decide)) (fun _ => ?_)
  refine lv_aload_n hx hb dX1_init_426 rfl (lv_at hl 1 rfl) ?_
  obtain ⟨g427_8, hf⟩ := gd_some hf
  obtain ⟨q427_8, hq427_8, hf⟩ := bi_some hf
  refine aw_gR hC hW g427_8 fl_X1_25 rfl hq427_8 dX1_init_427 ?_
  refine lv_iload_n hx hb dX1_init_430 rfl (lv_at hl 0 rfl) ?_
  obtain ⟨gr431_16, hf⟩ := gd_some hf
  obtain ⟨gr431_17, hf⟩ := gd_some hf
  obtain ⟨s431_8, e431_8, hf⟩ := bnd_some hf
  refine aw_new (q := (RX2, TX2, 11)) (ci := 1) hC hW rfl q117 q118 q76 okT_X2 (Nat.le_of_ble_eq_true rfl) (Nat.le_of_ble_eq_true rfl) dX1_init_431 (fun a431_8 H hE1 hW => ?_)
  have hE : EX a a431_8 N0 := hE.trans hE1 hN
  have hN := n_nw e431_8 hN
  have g438_15 := ko_nw e431_8 g438_15
  have g427_8 := ko_nw e431_8 g427_8
  have hW := aw_eq e431_8 hW
  have hl : lv_has ls 2 [(1, .int 8), (0, .ref (a431_8 o))] := by simp only [hE1 _ gr431_16, hE1 _ gr431_17]; exact hl
  refine W.eq (g2 := F0 m 434 ls [.ref (a431_8 s438_7.1), .int 8, .ref (a431_8 q427_8)]) (by simp only [hE1 _ gr431_16, hE1 _ gr431_17]) ?_
  refine W.widen (k := 151) (n := 2074) (Nat.le_of_ble_eq_true rfl) (Nat.le_of_ble_eq_true rfl) ?_
  have gn431_8 := ko_new e431_8
  refine lv_dup hx hb dX1_init_434 rfl ?_
  obtain ⟨gr435_24, hf⟩ := gd_some hf
  obtain ⟨gr435_25, hf⟩ := gd_some hf
  obtain ⟨gr435_26, hf⟩ := gd_some hf
  obtain ⟨_, s435_8, h435_8, hf⟩ := ob_some hf
  refine aw_run hC hW (aw_runI hC hW hl.1 (r := s438_7.1) (As := []) (rest := [.ref (a431_8 s438_7.1), .int 8, .ref (a431_8 q427_8)]) (cta_X2_init l G a431_8 s438_7.1 s431_8 () s435_8 h435_8) iy_X2_init (Or.inr ⟨_, q119⟩) rfl rfl (Nat.le_of_ble_eq_true rfl) ⟨Nat.le_of_ble_eq_true rfl, Nat.le_of_ble_eq_true rfl⟩ ⟨Nat.le_of_ble_eq_true rfl, Nat.le_of_ble_eq_true rfl⟩ dX1_init_435) (fun v9 a435_8 s9 H locs hp9 hW => ?_)
  obtain ⟨rfl, h9s, hE1, hN1⟩ := hp9
  rw [h9s] at hW
  have hE : EX a a435_8 N0 := hE.trans hE1 hN
  have hN := Nat.le_trans hN hN1
  have hl : lv_has ls 2 [(1, .int 8), (0, .ref (a435_8 o))] := by simp only [hE1 _ gr435_24, hE1 _ gr435_25, hE1 _ gr435_26]; exact hl
  refine W.eq (g2 := F0 m 438 ls [.ref (a435_8 s438_7.1), .int 8, .ref (a435_8 q427_8)]) (by show F0 m 438 ls [.ref (a431_8 s438_7.1), .int 8, .ref (a431_8 q427_8)] = _; simp only [hE1 _ gr435_24, hE1 _ gr435_25, hE1 _ gr435_26]) ?_
  refine W.widen (k := 157) (n := 2186) (Nat.le_of_ble_eq_true rfl) (Nat.le_of_ble_eq_true rfl) ?_
  obtain ⟨g438_16, hf⟩ := gd_some hf
  obtain ⟨g438_17, hf⟩ := gd_some hf
  obtain ⟨s438_8, e438_8, hf⟩ := bnd_some hf
  refine aw_aast (j := 1) e438_8 hC hW (by decide) g438_16 g438_17 dX1_init_438 (fun H locs hW => ?_)
  have hN := n_pR e438_8 hN
  have g438_17 := ko_pR e438_8 g438_17
  refine lv_iinc (v := 9) (lv' := [(1, .int 9), (0, .ref (a435_8 o))]) hx hb dX1_init_439 hl (k := 0) rfl (by decide) (by decide) rfl (fun ls hl => ?_)
  refine lv_goto (tgt := 420) hx hb dX1_init_442 (by decide) ?_
  refine lv_iload_n hx hb dX1_init_420 rfl (lv_at hl 0 rfl) ?_
  refine lv_bipush (v := 20) hx hb dX1_init_421 (by decide) ?_
  refine lv_icmp_ge (tgt := 445) hx hb dX1_init_423 (by decide) (fun c423_9 => absurd c423_9 (by decide)) (fun _ => ?_)
  refine lv_aload_n hx hb dX1_init_426 rfl (lv_at hl 1 rfl) ?_
  obtain ⟨g427_9, hf⟩ := gd_some hf
  obtain ⟨q427_9, hq427_9, hf⟩ := bi_some hf
  refine aw_gR hC hW g427_9 fl_X1_25 rfl hq427_9 dX1_init_427 ?_
  refine lv_iload_n hx hb dX1_init_430 rfl (lv_at hl 0 rfl) ?_
  obtain ⟨gr431_18, hf⟩ := gd_some hf
  obtain ⟨gr431_19, hf⟩ := gd_some hf
  obtain ⟨s431_9, e431_9, hf⟩ := bnd_some hf
  refine aw_new (q := (RX2, TX2, 11)) (ci := 1) hC hW rfl q117 q118 q76 okT_X2 (Nat.le_of_ble_eq_true rfl) (Nat.le_of_ble_eq_true rfl) dX1_init_431 (fun a431_9 H hE1 hW => ?_)
  have hE : EX a a431_9 N0 := hE.trans hE1 hN
  have hN := n_nw e431_9 hN
  have g438_17 := ko_nw e431_9 g438_17
  have g427_9 := ko_nw e431_9 g427_9
  have hW := aw_eq e431_9 hW
  have hl : lv_has ls 2 [(1, .int 9), (0, .ref (a431_9 o))] := by simp only [hE1 _ gr431_18, hE1 _ gr431_19]; exact hl
  refine W.eq (g2 := F0 m 434 ls [.ref (a431_9 s438_8.1), .int 9, .ref (a431_9 q427_9)]) (by simp only [hE1 _ gr431_18, hE1 _ gr431_19]) ?_
  refine W.widen (k := 158) (n := 2197) (Nat.le_of_ble_eq_true rfl) (Nat.le_of_ble_eq_true rfl) ?_
  have gn431_9 := ko_new e431_9
  refine lv_dup hx hb dX1_init_434 rfl ?_
  obtain ⟨gr435_27, hf⟩ := gd_some hf
  obtain ⟨gr435_28, hf⟩ := gd_some hf
  obtain ⟨gr435_29, hf⟩ := gd_some hf
  obtain ⟨_, s435_9, h435_9, hf⟩ := ob_some hf
  refine aw_run hC hW (aw_runI hC hW hl.1 (r := s438_8.1) (As := []) (rest := [.ref (a431_9 s438_8.1), .int 9, .ref (a431_9 q427_9)]) (cta_X2_init l G a431_9 s438_8.1 s431_9 () s435_9 h435_9) iy_X2_init (Or.inr ⟨_, q119⟩) rfl rfl (Nat.le_of_ble_eq_true rfl) ⟨Nat.le_of_ble_eq_true rfl, Nat.le_of_ble_eq_true rfl⟩ ⟨Nat.le_of_ble_eq_true rfl, Nat.le_of_ble_eq_true rfl⟩ dX1_init_435) (fun v9 a435_9 s9 H locs hp9 hW => ?_)
  obtain ⟨rfl, h9s, hE1, hN1⟩ := hp9
  rw [h9s] at hW
  have hE : EX a a435_9 N0 := hE.trans hE1 hN
  have hN := Nat.le_trans hN hN1
  have hl : lv_has ls 2 [(1, .int 9), (0, .ref (a435_9 o))] := by simp only [hE1 _ gr435_27, hE1 _ gr435_28, hE1 _ gr435_29]; exact hl
  refine W.eq (g2 := F0 m 438 ls [.ref (a435_9 s438_8.1), .int 9, .ref (a435_9 q427_9)]) (by show F0 m 438 ls [.ref (a431_9 s438_8.1), .int 9, .ref (a431_9 q427_9)] = _; simp only [hE1 _ gr435_27, hE1 _ gr435_28, hE1 _ gr435_29]) ?_
  refine W.widen (k := 164) (n := 2309) (Nat.le_of_ble_eq_true rfl) (Nat.le_of_ble_eq_true rfl) ?_
  obtain ⟨g438_18, hf⟩ := gd_some hf
  obtain ⟨g438_19, hf⟩ := gd_some hf
  obtain ⟨s438_9, e438_9, hf⟩ := bnd_some hf
  refine aw_aast (j := 1) e438_9 hC hW (by decide) g438_18 g438_19 dX1_init_438 (fun H locs hW => ?_)
  have hN := n_pR e438_9 hN
  have g438_19 := ko_pR e438_9 g438_19
  refine lv_iinc (v := 10) (lv' := [(1, .int 10), (0, .ref (a435_9 o))]) hx hb dX1_init_439 hl (k := 0) rfl (by decide) (by decide) rfl (fun ls hl => ?_)
  refine lv_goto (tgt := 420) hx hb dX1_init_442 (by decide) ?_
  refine lv_iload_n hx hb dX1_init_420 rfl (lv_at hl 0 rfl) ?_
  refine lv_bipush (v := 20) hx hb dX1_init_421 (by decide) ?_
  refine lv_icmp_ge (tgt := 445) hx hb dX1_init_423 (by decide) (fun c423_10 => absurd c423_10 (by decide)) (fun _ => ?_)
  refine lv_aload_n hx hb dX1_init_426 rfl (lv_at hl 1 rfl) ?_
  obtain ⟨g427_10, hf⟩ := gd_some hf
  obtain ⟨q427_10, hq427_10, hf⟩ := bi_some hf
  refine aw_gR hC hW g427_10 fl_X1_25 rfl hq427_10 dX1_init_427 ?_
  refine lv_iload_n hx hb dX1_init_430 rfl (lv_at hl 0 rfl) ?_
  obtain ⟨gr431_20, hf⟩ := gd_some hf
  obtain ⟨gr431_21, hf⟩ := gd_some hf
  obtain ⟨s431_10, e431_10, hf⟩ := bnd_some hf
  refine aw_new (q := (RX2, TX2, 11)) (ci := 1) hC hW rfl q117 q118 q76 okT_X2 (Nat.le_of_ble_eq_true rfl) (Nat.le_of_ble_eq_true rfl) dX1_init_431 (fun a431_10 H hE1 hW => ?_)
  have hE : EX a a431_10 N0 := hE.trans hE1 hN
  have hN := n_nw e431_10 hN
  have g438_19 := ko_nw e431_10 g438_19
  have g427_10 := ko_nw e431_10 g427_10
  have hW := aw_eq e431_10 hW
  have hl : lv_has ls 2 [(1, .int 10), (0, .ref (a431_10 o))] := by simp only [hE1 _ gr431_20, hE1 _ gr431_21]; exact hl
  refine W.eq (g2 := F0 m 434 ls [.ref (a431_10 s438_9.1), .int 10, .ref (a431_10 q427_10)]) (by simp only [hE1 _ gr431_20, hE1 _ gr431_21]) ?_
  refine W.widen (k := 165) (n := 2320) (Nat.le_of_ble_eq_true rfl) (Nat.le_of_ble_eq_true rfl) ?_
  have gn431_10 := ko_new e431_10
  refine lv_dup hx hb dX1_init_434 rfl ?_
  obtain ⟨gr435_30, hf⟩ := gd_some hf
  obtain ⟨gr435_31, hf⟩ := gd_some hf
  obtain ⟨gr435_32, hf⟩ := gd_some hf
  obtain ⟨_, s435_10, h435_10, hf⟩ := ob_some hf
  refine aw_run hC hW (aw_runI hC hW hl.1 (r := s438_9.1) (As := []) (rest := [.ref (a431_10 s438_9.1), .int 10, .ref (a431_10 q427_10)]) (cta_X2_init l G a431_10 s438_9.1 s431_10 () s435_10 h435_10) iy_X2_init (Or.inr ⟨_, q119⟩) rfl rfl (Nat.le_of_ble_eq_true rfl) ⟨Nat.le_of_ble_eq_true rfl, Nat.le_of_ble_eq_true rfl⟩ ⟨Nat.le_of_ble_eq_true rfl, Nat.le_of_ble_eq_true rfl⟩ dX1_init_435) (fun v9 a435_10 s9 H locs hp9 hW => ?_)
  obtain ⟨rfl, h9s, hE1, hN1⟩ := hp9
  rw [h9s] at hW
  have hE : EX a a435_10 N0 := hE.trans hE1 hN
  have hN := Nat.le_trans hN hN1
  have hl : lv_has ls 2 [(1, .int 10), (0, .ref (a435_10 o))] := by simp only [hE1 _ gr435_30, hE1 _ gr435_31, hE1 _ gr435_32]; exact hl
  refine W.eq (g2 := F0 m 438 ls [.ref (a435_10 s438_9.1), .int 10, .ref (a435_10 q427_10)]) (by show F0 m 438 ls [.ref (a431_10 s438_9.1), .int 10, .ref (a431_10 q427_10)] = _; simp only [hE1 _ gr435_30, hE1 _ gr435_31, hE1 _ gr435_32]) ?_
  refine W.widen (k := 171) (n := 2432) (Nat.le_of_ble_eq_true rfl) (Nat.le_of_ble_eq_true rfl) ?_
  obtain ⟨g438_20, hf⟩ := gd_some hf
  obtain ⟨g438_21, hf⟩ := gd_some hf
  obtain ⟨s438_10, e438_10, hf⟩ := bnd_some hf
  refine aw_aast (j := 1) e438_10 hC hW (by decide) g438_20 g438_21 dX1_init_438 (fun H locs hW => ?_)
  have hN := n_pR e438_10 hN
  have g438_21 := ko_pR e438_10 g438_21
  refine lv_iinc (v := 11) (lv' := [(1, .int 11), (0, .ref (a435_10 o))]) hx hb dX1_init_439 hl (k := 0) rfl (by decide) (by decide) rfl (fun ls hl => ?_)
  refine lv_goto (tgt := 420) hx hb dX1_init_442 (by decide) ?_
  refine lv_iload_n hx hb dX1_init_420 rfl (lv_at hl 0 rfl) ?_
  refine lv_bipush (v := 20) hx hb dX1_init_421 (by decide) ?_
  refine lv_icmp_ge (tgt := 445) hx hb dX1_init_423 (by decide) (fun c423_11 => absurd c423_11 (by decide)) (fun _ => ?_)
  refine lv_aload_n hx hb dX1_init_426 rfl (lv_at hl 1 rfl) ?_
  obtain ⟨g427_11, hf⟩ := gd_some hf
  obtain ⟨q427_11, hq427_11, hf⟩ := bi_some hf
  refine aw_gR hC hW g427_11 fl_X1_25 rfl hq427_11 dX1_init_427 ?_
  refine lv_iload_n hx hb dX1_init_430 rfl (lv_at hl 0 rfl) ?_
  obtain ⟨gr431_22, hf⟩ := gd_some hf
  obtain ⟨gr431_23, hf⟩ := gd_some hf
  obtain ⟨s431_11, e431_11, hf⟩ := bnd_some hf
  refine aw_new (q := (RX2, TX2, 11)) (ci := 1) hC hW rfl q117 q118 q76 okT_X2 (Nat.le_of_ble_eq_true rfl) (Nat.le_of_ble_eq_true rfl) dX1_init_431 (fun a431_11 H hE1 hW => ?_)
  have hE : EX a a431_11 N0 := hE.trans hE1 hN
  have hN := n_nw e431_11 hN
  have g438_21 := ko_nw e431_11 g438_21
  have g427_11 := ko_nw e431_11 g427_11
  have hW := aw_eq e431_11 hW
  have hl : lv_has ls 2 [(1, .int 11), (0, .ref (a431_11 o))] := by simp only [hE1 _ gr431_22, hE1 _ gr431_23]; exact hl
  refine W.eq (g2 := F0 m 434 ls [.ref (a431_11 s438_10.1), .int 11, .ref (a431_11 q427_11)]) (by simp only [hE1 _ gr431_22, hE1 _ gr431_23]) ?_
  refine W.widen (k := 172) (n := 2443) (Nat.le_of_ble_eq_true rfl) (Nat.le_of_ble_eq_true rfl) ?_
  have gn431_11 := ko_new e431_11
  refine lv_dup hx hb dX1_init_434 rfl ?_
  obtain ⟨gr435_33, hf⟩ := gd_some hf
  obtain ⟨gr435_34, hf⟩ := gd_some hf
  obtain ⟨gr435_35, hf⟩ := gd_some hf
  obtain ⟨_, s435_11, h435_11, hf⟩ := ob_some hf
  refine aw_run hC hW (aw_runI hC hW hl.1 (r := s438_10.1) (As := []) (rest := [.ref (a431_11 s438_10.1), .int 11, .ref (a431_11 q427_11)]) (cta_X2_init l G a431_11 s438_10.1 s431_11 () s435_11 h435_11) iy_X2_init (Or.inr ⟨_, q119⟩) rfl rfl (Nat.le_of_ble_eq_true rfl) ⟨Nat.le_of_ble_eq_true rfl, Nat.le_of_ble_eq_true rfl⟩ ⟨Nat.le_of_ble_eq_true rfl, Nat.le_of_ble_eq_true rfl⟩ dX1_init_435) (fun v9 a435_11 s9 H locs hp9 hW => ?_)
  obtain ⟨rfl, h9s, hE1, hN1⟩ := hp9
  rw [h9s] at hW
  have hE : EX a a435_11 N0 := hE.trans hE1 hN
  have hN := Nat.le_trans hN hN1
  have hl : lv_has ls 2 [(1, .int 11), (0, .ref (a435_11 o))] := by simp only [hE1 _ gr435_33, hE1 _ gr435_34, hE1 _ gr435_35]; exact hl
  refine W.eq (g2 := F0 m 438 ls [.ref (a435_11 s438_10.1), .int 11, .ref (a435_11 q427_11)]) (by show F0 m 438 ls [.ref (a431_11 s438_10.1), .int 11, .ref (a431_11 q427_11)] = _; simp only [hE1 _ gr435_33, hE1 _ gr435_34, hE1 _ gr435_35]) ?_
  refine W.widen (k := 178) (n := 2555) (Nat.le_of_ble_eq_true rfl) (Nat.le_of_ble_eq_true rfl) ?_
  obtain ⟨g438_22, hf⟩ := gd_some hf
  obtain ⟨g438_23, hf⟩ := gd_some hf
  obtain ⟨s438_11, e438_11, hf⟩ := bnd_some hf
  refine aw_aast (j := 1) e438_11 hC hW (by decide) g438_22 g438_23 dX1_init_438 (fun H locs hW => ?_)
  have hN := n_pR e438_11 hN
  have g438_23 := ko_pR e438_11 g438_23
  refine lv_iinc (v := 12) (lv' := [(1, .int 12), (0, .ref (a435_11 o))]) hx hb dX1_init_439 hl (k := 0) rfl (by decide) (by decide) rfl (fun ls hl => ?_)
  refine lv_goto (tgt := 420) hx hb dX1_init_442 (by decide) ?_
  refine lv_iload_n hx hb dX1_init_420 rfl (lv_at hl 0 rfl) ?_
  refine lv_bipush (v := 20) hx hb dX1_init_421 (by decide) ?_
  refine lv_icmp_ge (tgt := 445) hx hb dX1_init_423 (by decide) (fun c423_12 => absurd c423_12 (by decide)) (fun _ => ?_)
  refine lv_aload_n hx hb dX1_init_426 rfl (lv_at hl 1 rfl) ?_
  obtain ⟨g427_12, hf⟩ := gd_some hf
  obtain ⟨q427_12, hq427_12, hf⟩ := bi_some hf
  refine aw_gR hC hW g427_12 fl_X1_25 rfl hq427_12 dX1_init_427 ?_
  refine lv_iload_n hx hb dX1_init_430 rfl (lv_at hl 0 rfl) ?_
  obtain ⟨gr431_24, hf⟩ := gd_some hf
  obtain ⟨gr431_25, hf⟩ := gd_some hf
  obtain ⟨s431_12, e431_12, hf⟩ := bnd_some hf
  refine aw_new (q := (RX2, TX2, 11)) (ci := 1) hC hW rfl q117 q118 q76 okT_X2 (Nat.le_of_ble_eq_true rfl) (Nat.le_of_ble_eq_true rfl) dX1_init_431 (fun a431_12 H hE1 hW => ?_)
  have hE : EX a a431_12 N0 := hE.trans hE1 hN
  have hN := n_nw e431_12 hN
  have g438_23 := ko_nw e431_12 g438_23
  have g427_12 := ko_nw e431_12 g427_12
  have hW := aw_eq e431_12 hW
  have hl : lv_has ls 2 [(1, .int 12), (0, .ref (a431_12 o))] := by simp only [hE1 _ gr431_24, hE1 _ gr431_25]; exact hl
  refine W.eq (g2 := F0 m 434 ls [.ref (a431_12 s438_11.1), .int 12, .ref (a431_12 q427_12)]) (by simp only [hE1 _ gr431_24, hE1 _ gr431_25]) ?_
  refine W.widen (k := 179) (n := 2566) (Nat.le_of_ble_eq_true rfl) (Nat.le_of_ble_eq_true rfl) ?_
  have gn431_12 := ko_new e431_12
  refine lv_dup hx hb dX1_init_434 rfl ?_
  obtain ⟨gr435_36, hf⟩ := gd_some hf
  obtain ⟨gr435_37, hf⟩ := gd_some hf
  obtain ⟨gr435_38, hf⟩ := gd_some hf
  obtain ⟨_, s435_12, h435_12, hf⟩ := ob_some hf
  refine aw_run hC hW (aw_runI hC hW hl.1 (r := s438_11.1) (As := []) (rest := [.ref (a431_12 s438_11.1), .int 12, .ref (a431_12 q427_12)]) (cta_X2_init l G a431_12 s438_11.1 s431_12 () s435_12 h435_12) iy_X2_init (Or.inr ⟨_, q119⟩) rfl rfl (Nat.le_of_ble_eq_true rfl) ⟨Nat.le_of_ble_eq_true rfl, Nat.le_of_ble_eq_true rfl⟩ ⟨Nat.le_of_ble_eq_true rfl, Nat.le_of_ble_eq_true rfl⟩ dX1_init_435) (fun v9 a435_12 s9 H locs hp9 hW => ?_)
  obtain ⟨rfl, h9s, hE1, hN1⟩ := hp9
  rw [h9s] at hW
  have hE : EX a a435_12 N0 := hE.trans hE1 hN
  have hN := Nat.le_trans hN hN1
  have hl : lv_has ls 2 [(1, .int 12), (0, .ref (a435_12 o))] := by simp only [hE1 _ gr435_36, hE1 _ gr435_37, hE1 _ gr435_38]; exact hl
  refine W.eq (g2 := F0 m 438 ls [.ref (a435_12 s438_11.1), .int 12, .ref (a435_12 q427_12)]) (by show F0 m 438 ls [.ref (a431_12 s438_11.1), .int 12, .ref (a431_12 q427_12)] = _; simp only [hE1 _ gr435_36, hE1 _ gr435_37, hE1 _ gr435_38]) ?_
  refine W.widen (k := 185) (n := 2678) (Nat.le_of_ble_eq_true rfl) (Nat.le_of_ble_eq_true rfl) ?_
  obtain ⟨g438_24, hf⟩ := gd_some hf
  obtain ⟨g438_25, hf⟩ := gd_some hf
  obtain ⟨s438_12, e438_12, hf⟩ := bnd_some hf
  refine aw_aast (j := 1) e438_12 hC hW (by decide) g438_24 g438_25 dX1_init_438 (fun H locs hW => ?_)
  have hN := n_pR e438_12 hN
  have g438_25 := ko_pR e438_12 g438_25
  refine lv_iinc (v := 13) (lv' := [(1, .int 13), (0, .ref (a435_12 o))]) hx hb dX1_init_439 hl (k := 0) rfl (by decide) (by decide) rfl (fun ls hl => ?_)
  refine lv_goto (tgt := 420) hx hb dX1_init_442 (by decide) ?_
  refine lv_iload_n hx hb dX1_init_420 rfl (lv_at hl 0 rfl) ?_
  refine lv_bipush (v := 20) hx hb dX1_init_421 (by decide) ?_
  refine lv_icmp_ge (tgt := 445) hx hb dX1_init_423 (by decide) (fun c423_13 => absurd c423_13 (by decide)) (fun _ => ?_)
  refine lv_aload_n hx hb dX1_init_426 rfl (lv_at hl 1 rfl) ?_
  obtain ⟨g427_13, hf⟩ := gd_some hf
  obtain ⟨q427_13, hq427_13, hf⟩ := bi_some hf
  refine aw_gR hC hW g427_13 fl_X1_25 rfl hq427_13 dX1_init_427 ?_
  refine lv_iload_n hx hb dX1_init_430 rfl (lv_at hl 0 rfl) ?_
  obtain ⟨gr431_26, hf⟩ := gd_some hf
  obtain ⟨gr431_27, hf⟩ := gd_some hf
  obtain ⟨s431_13, e431_13, hf⟩ := bnd_some hf
  refine aw_new (q := (RX2, TX2, 11)) (ci := 1) hC hW rfl q117 q118 q76 okT_X2 (Nat.le_of_ble_eq_true rfl) (Nat.le_of_ble_eq_true rfl) dX1_init_431 (fun a431_13 H hE1 hW => ?_)
  have hE : EX a a431_13 N0 := hE.trans hE1 hN
  have hN := n_nw e431_13 hN
  have g438_25 := ko_nw e431_13 g438_25
  have g427_13 := ko_nw e431_13 g427_13
  have hW := aw_eq e431_13 hW
  have hl : lv_has ls 2 [(1, .int 13), (0, .ref (a431_13 o))] := by simp only [hE1 _ gr431_26, hE1 _ gr431_27]; exact hl
  refine W.eq (g2 := F0 m 434 ls [.ref (a431_13 s438_12.1), .int 13, .ref (a431_13 q427_13)]) (by simp only [hE1 _ gr431_26, hE1 _ gr431_27]) ?_
  refine W.widen (k := 186) (n := 2689) (Nat.le_of_ble_eq_true rfl) (Nat.le_of_ble_eq_true rfl) ?_
  have gn431_13 := ko_new e431_13
  refine lv_dup hx hb dX1_init_434 rfl ?_
  obtain ⟨gr435_39, hf⟩ := gd_some hf
  obtain ⟨gr435_40, hf⟩ := gd_some hf
  obtain ⟨gr435_41, hf⟩ := gd_some hf
  obtain ⟨_, s435_13, h435_13, hf⟩ := ob_some hf
  refine aw_run hC hW (aw_runI hC hW hl.1 (r := s438_12.1) (As := []) (rest := [.ref (a431_13 s438_12.1), .int 13, .ref (a431_13 q427_13)]) (cta_X2_init l G a431_13 s438_12.1 s431_13 () s435_13 h435_13) iy_X2_init (Or.inr ⟨_, q119⟩) rfl rfl (Nat.le_of_ble_eq_true rfl) ⟨Nat.le_of_ble_eq_true rfl, Nat.le_of_ble_eq_true rfl⟩ ⟨Nat.le_of_ble_eq_true rfl, Nat.le_of_ble_eq_true rfl⟩ dX1_init_435) (fun v9 a435_13 s9 H locs hp9 hW => ?_)
  obtain ⟨rfl, h9s, hE1, hN1⟩ := hp9
  rw [h9s] at hW
  have hE : EX a a435_13 N0 := hE.trans hE1 hN
  have hN := Nat.le_trans hN hN1
  have hl : lv_has ls 2 [(1, .int 13), (0, .ref (a435_13 o))] := by simp only [hE1 _ gr435_39, hE1 _ gr435_40, hE1 _ gr435_41]; exact hl
  refine W.eq (g2 := F0 m 438 ls [.ref (a435_13 s438_12.1), .int 13, .ref (a435_13 q427_13)]) (by show F0 m 438 ls [.ref (a431_13 s438_12.1), .int 13, .ref (a431_13 q427_13)] = _; simp only [hE1 _ gr435_39, hE1 _ gr435_40, hE1 _ gr435_41]) ?_
  refine W.widen (k := 192) (n := 2801) (Nat.le_of_ble_eq_true rfl) (Nat.le_of_ble_eq_true rfl) ?_
  obtain ⟨g438_26, hf⟩ := gd_some hf
  obtain ⟨g438_27, hf⟩ := gd_some hf
  obtain ⟨s438_13, e438_13, hf⟩ := bnd_some hf
  refine aw_aast (j := 1) e438_13 hC hW (by decide) g438_26 g438_27 dX1_init_438 (fun H locs hW => ?_)
  have hN := n_pR e438_13 hN
  have g438_27 := ko_pR e438_13 g438_27
  refine lv_iinc (v := 14) (lv' := [(1, .int 14), (0, .ref (a435_13 o))]) hx hb dX1_init_439 hl (k := 0) rfl (by decide) (by decide) rfl (fun ls hl => ?_)
  refine lv_goto (tgt := 420) hx hb dX1_init_442 (by decide) ?_
  refine lv_iload_n hx hb dX1_init_420 rfl (lv_at hl 0 rfl) ?_
  refine lv_bipush (v := 20) hx hb dX1_init_421 (by decide) ?_
  refine lv_icmp_ge (tgt := 445) hx hb dX1_init_423 (by decide) (fun c423_14 => absurd c423_14 (by decide)) (fun _ => ?_)
  refine lv_aload_n hx hb dX1_init_426 rfl (lv_at hl 1 rfl) ?_
  obtain ⟨g427_14, hf⟩ := gd_some hf
  obtain ⟨q427_14, hq427_14, hf⟩ := bi_some hf
  refine aw_gR hC hW g427_14 fl_X1_25 rfl hq427_14 dX1_init_427 ?_
  refine lv_iload_n hx hb dX1_init_430 rfl (lv_at hl 0 rfl) ?_
  obtain ⟨gr431_28, hf⟩ := gd_some hf
  obtain ⟨gr431_29, hf⟩ := gd_some hf
  obtain ⟨s431_14, e431_14, hf⟩ := bnd_some hf
  refine aw_new (q := (RX2, TX2, 11)) (ci := 1) hC hW rfl q117 q118 q76 okT_X2 (Nat.le_of_ble_eq_true rfl) (Nat.le_of_ble_eq_true rfl) dX1_init_431 (fun a431_14 H hE1 hW => ?_)
  have hE : EX a a431_14 N0 := hE.trans hE1 hN
  have hN := n_nw e431_14 hN
  have g438_27 := ko_nw e431_14 g438_27
  have g427_14 := ko_nw e431_14 g427_14
  have hW := aw_eq e431_14 hW
  have hl : lv_has ls 2 [(1, .int 14), (0, .ref (a431_14 o))] := by simp only [hE1 _ gr431_28, hE1 _ gr431_29]; exact hl
  refine W.eq (g2 := F0 m 434 ls [.ref (a431_14 s438_13.1), .int 14, .ref (a431_14 q427_14)]) (by simp only [hE1 _ gr431_28, hE1 _ gr431_29]) ?_
  refine W.widen (k := 193) (n := 2812) (Nat.le_of_ble_eq_true rfl) (Nat.le_of_ble_eq_true rfl) ?_
  have gn431_14 := ko_new e431_14
  refine lv_dup hx hb dX1_init_434 rfl ?_
  obtain ⟨gr435_42, hf⟩ := gd_some hf
  obtain ⟨gr435_43, hf⟩ := gd_some hf
  obtain ⟨gr435_44, hf⟩ := gd_some hf
  obtain ⟨_, s435_14, h435_14, hf⟩ := ob_some hf
  refine aw_run hC hW (aw_runI hC hW hl.1 (r := s438_13.1) (As := []) (rest := [.ref (a431_14 s438_13.1), .int 14, .ref (a431_14 q427_14)]) (cta_X2_init l G a431_14 s438_13.1 s431_14 () s435_14 h435_14) iy_X2_init (Or.inr ⟨_, q119⟩) rfl rfl (Nat.le_of_ble_eq_true rfl) ⟨Nat.le_of_ble_eq_true rfl, Nat.le_of_ble_eq_true rfl⟩ ⟨Nat.le_of_ble_eq_true rfl, Nat.le_of_ble_eq_true rfl⟩ dX1_init_435) (fun v9 a435_14 s9 H locs hp9 hW => ?_)
  obtain ⟨rfl, h9s, hE1, hN1⟩ := hp9
  rw [h9s] at hW
  have hE : EX a a435_14 N0 := hE.trans hE1 hN
  have hN := Nat.le_trans hN hN1
  have hl : lv_has ls 2 [(1, .int 14), (0, .ref (a435_14 o))] := by simp only [hE1 _ gr435_42, hE1 _ gr435_43, hE1 _ gr435_44]; exact hl
  refine W.eq (g2 := F0 m 438 ls [.ref (a435_14 s438_13.1), .int 14, .ref (a435_14 q427_14)]) (by show F0 m 438 ls [.ref (a431_14 s438_13.1), .int 14, .ref (a431_14 q427_14)] = _; simp only [hE1 _ gr435_42, hE1 _ gr435_43, hE1 _ gr435_44]) ?_
  refine W.widen (k := 199) (n := 2924) (Nat.le_of_ble_eq_true rfl) (Nat.le_of_ble_eq_true rfl) ?_
  obtain ⟨g438_28, hf⟩ := gd_some hf
  obtain ⟨g438_29, hf⟩ := gd_some hf
  obtain ⟨s438_14, e438_14, hf⟩ := bnd_some hf
  refine aw_aast (j := 1) e438_14 hC hW (by decide) g438_28 g438_29 dX1_init_438 (fun H locs hW => ?_)
  have hN := n_pR e438_14 hN
  have g438_29 := ko_pR e438_14 g438_29
  refine lv_iinc (v := 15) (lv' := [(1, .int 15), (0, .ref (a435_14 o))]) hx hb dX1_init_439 hl (k := 0) rfl (by decide) (by decide) rfl (fun ls hl => ?_)
  refine lv_goto (tgt := 420) hx hb dX1_init_442 (by decide) ?_
  refine lv_iload_n hx hb dX1_init_420 rfl (lv_at hl 0 rfl) ?_
  refine lv_bipush (v := 20) hx hb dX1_init_421 (by decide) ?_
  refine lv_icmp_ge (tgt := 445) hx hb dX1_init_423 (by decide) (fun c423_15 => absurd c423_15 (by decide)) (fun _ => ?_)
  refine lv_aload_n hx hb dX1_init_426 rfl (lv_at hl 1 rfl) ?_
  obtain ⟨g427_15, hf⟩ := gd_some hf
  obtain ⟨q427_15, hq427_15, hf⟩ := bi_some hf
  refine aw_gR hC hW g427_15 fl_X1_25 rfl hq427_15 dX1_init_427 ?_
  refine lv_iload_n hx hb dX1_init_430 rfl (lv_at hl 0 rfl) ?_
  obtain ⟨gr431_30, hf⟩ := gd_some hf
  obtain ⟨gr431_31, hf⟩ := gd_some hf
  obtain ⟨s431_15, e431_15, hf⟩ := bnd_some hf
  refine aw_new (q := (RX2, TX2, 11)) (ci := 1) hC hW rfl q117 q118 q76 okT_X2 (Nat.le_of_ble_eq_true rfl) (Nat.le_of_ble_eq_true rfl) dX1_init_431 (fun a431_15 H hE1 hW => ?_)
  have hE : EX a a431_15 N0 := hE.trans hE1 hN
  have hN := n_nw e431_15 hN
  have g438_29 := ko_nw e431_15 g438_29
  have g427_15 := ko_nw e431_15 g427_15
  have hW := aw_eq e431_15 hW
  have hl : lv_has ls 2 [(1, .int 15), (0, .ref (a431_15 o))] := by simp only [hE1 _ gr431_30, hE1 _ gr431_31]; exact hl
  refine W.eq (g2 := F0 m 434 ls [.ref (a431_15 s438_14.1), .int 15, .ref (a431_15 q427_15)]) (by simp only [hE1 _ gr431_30, hE1 _ gr431_31]) ?_
  refine W.widen (k := 200) (n := 2935) (Nat.le_of_ble_eq_true rfl) (Nat.le_of_ble_eq_true rfl) ?_
  have gn431_15 := ko_new e431_15
  refine lv_dup hx hb dX1_init_434 rfl ?_
  obtain ⟨gr435_45, hf⟩ := gd_some hf
  obtain ⟨gr435_46, hf⟩ := gd_some hf
  obtain ⟨gr435_47, hf⟩ := gd_some hf
  obtain ⟨_, s435_15, h435_15, hf⟩ := ob_some hf
  refine aw_run hC hW (aw_runI hC hW hl.1 (r := s438_14.1) (As := []) (rest := [.ref (a431_15 s438_14.1), .int 15, .ref (a431_15 q427_15)]) (cta_X2_init l G a431_15 s438_14.1 s431_15 () s435_15 h435_15) iy_X2_init (Or.inr ⟨_, q119⟩) rfl rfl (Nat.le_of_ble_eq_true rfl) ⟨Nat.le_of_ble_eq_true rfl, Nat.le_of_ble_eq_true rfl⟩ ⟨Nat.le_of_ble_eq_true rfl, Nat.le_of_ble_eq_true rfl⟩ dX1_init_435) (fun v9 a435_15 s9 H locs hp9 hW => ?_)
  obtain ⟨rfl, h9s, hE1, hN1⟩ := hp9
  rw [h9s] at hW
  have hE : EX a a435_15 N0 := hE.trans hE1 hN
  have hN := Nat.le_trans hN hN1
  have hl : lv_has ls 2 [(1, .int 15), (0, .ref (a435_15 o))] := by simp only [hE1 _ gr435_45, hE1 _ gr435_46, hE1 _ gr435_47]; exact hl
  refine W.eq (g2 := F0 m 438 ls [.ref (a435_15 s438_14.1), .int 15, .ref (a435_15 q427_15)]) (by show F0 m 438 ls [.ref (a431_15 s438_14.1), .int 15, .ref (a431_15 q427_15)] = _; simp only [hE1 _ gr435_45, hE1 _ gr435_46, hE1 _ gr435_47]) ?_
  refine W.widen (k := 206) (n := 3047) (Nat.le_of_ble_eq_true rfl) (Nat.le_of_ble_eq_true rfl) ?_
  obtain ⟨g438_30, hf⟩ := gd_some hf
  obtain ⟨g438_31, hf⟩ := gd_some hf
  obtain ⟨s438_15, e438_15, hf⟩ := bnd_some hf
  refine aw_aast (j := 1) e438_15 hC hW (by decide) g438_30 g438_31 dX1_init_438 (fun H locs hW => ?_)
  have hN := n_pR e438_15 hN
  have g438_31 := ko_pR e438_15 g438_31
  refine lv_iinc (v := 16) (lv' := [(1, .int 16), (0, .ref (a435_15 o))]) hx hb dX1_init_439 hl (k := 0) rfl (by decide) (by decide) rfl (fun ls hl => ?_)
  refine lv_goto (tgt := 420) hx hb dX1_init_442 (by decide) ?_
  refine lv_iload_n hx hb dX1_init_420 rfl (lv_at hl 0 rfl) ?_
  refine lv_bipush (v := 20) hx hb dX1_init_421 (by decide) ?_
  refine lv_icmp_ge (tgt := 445) hx hb dX1_init_423 (by decide) (fun c423_16 => absurd c423_16 (by decide)) (fun _ => ?_)
  refine lv_aload_n hx hb dX1_init_426 rfl (lv_at hl 1 rfl) ?_
  obtain ⟨g427_16, hf⟩ := gd_some hf
  obtain ⟨q427_16, hq427_16, hf⟩ := bi_some hf
  refine aw_gR hC hW g427_16 fl_X1_25 rfl hq427_16 dX1_init_427 ?_
  refine lv_iload_n hx hb dX1_init_430 rfl (lv_at hl 0 rfl) ?_
  obtain ⟨gr431_32, hf⟩ := gd_some hf
  obtain ⟨gr431_33, hf⟩ := gd_some hf
  obtain ⟨s431_16, e431_16, hf⟩ := bnd_some hf
  refine aw_new (q := (RX2, TX2, 11)) (ci := 1) hC hW rfl q117 q118 q76 okT_X2 (Nat.le_of_ble_eq_true rfl) (Nat.le_of_ble_eq_true rfl) dX1_init_431 (fun a431_16 H hE1 hW => ?_)
  have hE : EX a a431_16 N0 := hE.trans hE1 hN
  have hN := n_nw e431_16 hN
  have g438_31 := ko_nw e431_16 g438_31
  have g427_16 := ko_nw e431_16 g427_16
  have hW := aw_eq e431_16 hW
  have hl : lv_has ls 2 [(1, .int 16), (0, .ref (a431_16 o))] := by simp only [hE1 _ gr431_32, hE1 _ gr431_33]; exact hl
  refine W.eq (g2 := F0 m 434 ls [.ref (a431_16 s438_15.1), .int 16, .ref (a431_16 q427_16)]) (by simp only [hE1 _ gr431_32, hE1 _ gr431_33]) ?_
  refine W.widen (k := 207) (n := 3058) (Nat.le_of_ble_eq_true rfl) (Nat.le_of_ble_eq_true rfl) ?_
  have gn431_16 := ko_new e431_16
  refine lv_dup hx hb dX1_init_434 rfl ?_
  obtain ⟨gr435_48, hf⟩ := gd_some hf
  obtain ⟨gr435_49, hf⟩ := gd_some hf
  obtain ⟨gr435_50, hf⟩ := gd_some hf
  obtain ⟨_, s435_16, h435_16, hf⟩ := ob_some hf
  refine aw_run hC hW (aw_runI hC hW hl.1 (r := s438_15.1) (As := []) (rest := [.ref (a431_16 s438_15.1), .int 16, .ref (a431_16 q427_16)]) (cta_X2_init l G a431_16 s438_15.1 s431_16 () s435_16 h435_16) iy_X2_init (Or.inr ⟨_, q119⟩) rfl rfl (Nat.le_of_ble_eq_true rfl) ⟨Nat.le_of_ble_eq_true rfl, Nat.le_of_ble_eq_true rfl⟩ ⟨Nat.le_of_ble_eq_true rfl, Nat.le_of_ble_eq_true rfl⟩ dX1_init_435) (fun v9 a435_16 s9 H locs hp9 hW => ?_)
  obtain ⟨rfl, h9s, hE1, hN1⟩ := hp9
  rw [h9s] at hW
  have hE : EX a a435_16 N0 := hE.trans hE1 hN
  have hN := Nat.le_trans hN hN1
  have hl : lv_has ls 2 [(1, .int 16), (0, .ref (a435_16 o))] := by simp only [hE1 _ gr435_48, hE1 _ gr435_49, hE1 _ gr435_50]; exact hl
  refine W.eq (g2 := F0 m 438 ls [.ref (a435_16 s438_15.1), .int 16, .ref (a435_16 q427_16)]) (by show F0 m 438 ls [.ref (a431_16 s438_15.1), .int 16, .ref (a431_16 q427_16)] = _; simp only [hE1 _ gr435_48, hE1 _ gr435_49, hE1 _ gr435_50]) ?_
  refine W.widen (k := 213) (n := 3170) (Nat.le_of_ble_eq_true rfl) (Nat.le_of_ble_eq_true rfl) ?_
  obtain ⟨g438_32, hf⟩ := gd_some hf
  obtain ⟨g438_33, hf⟩ := gd_some hf
  obtain ⟨s438_16, e438_16, hf⟩ := bnd_some hf
  refine aw_aast (j := 1) e438_16 hC hW (by decide) g438_32 g438_33 dX1_init_438 (fun H locs hW => ?_)
  have hN := n_pR e438_16 hN
  have g438_33 := ko_pR e438_16 g438_33
  refine lv_iinc (v := 17) (lv' := [(1, .int 17), (0, .ref (a435_16 o))]) hx hb dX1_init_439 hl (k := 0) rfl (by decide) (by decide) rfl (fun ls hl => ?_)
  refine lv_goto (tgt := 420) hx hb dX1_init_442 (by decide) ?_
  refine lv_iload_n hx hb dX1_init_420 rfl (lv_at hl 0 rfl) ?_
  refine lv_bipush (v := 20) hx hb dX1_init_421 (by decide) ?_
  refine lv_icmp_ge (tgt := 445) hx hb dX1_init_423 (by decide) (fun c423_17 => absurd c423_17 (by decide)) (fun _ => ?_)
  refine lv_aload_n hx hb dX1_init_426 rfl (lv_at hl 1 rfl) ?_
  obtain ⟨g427_17, hf⟩ := gd_some hf
  obtain ⟨q427_17, hq427_17, hf⟩ := bi_some hf
  refine aw_gR hC hW g427_17 fl_X1_25 rfl hq427_17 dX1_init_427 ?_
  refine lv_iload_n hx hb dX1_init_430 rfl (lv_at hl 0 rfl) ?_
  obtain ⟨gr431_34, hf⟩ := gd_some hf
  obtain ⟨gr431_35, hf⟩ := gd_some hf
  obtain ⟨s431_17, e431_17, hf⟩ := bnd_some hf
  refine aw_new (q := (RX2, TX2, 11)) (ci := 1) hC hW rfl q117 q118 q76 okT_X2 (Nat.le_of_ble_eq_true rfl) (Nat.le_of_ble_eq_true rfl) dX1_init_431 (fun a431_17 H hE1 hW => ?_)
  have hE : EX a a431_17 N0 := hE.trans hE1 hN
  have hN := n_nw e431_17 hN
  have g438_33 := ko_nw e431_17 g438_33
  have g427_17 := ko_nw e431_17 g427_17
  have hW := aw_eq e431_17 hW
  have hl : lv_has ls 2 [(1, .int 17), (0, .ref (a431_17 o))] := by simp only [hE1 _ gr431_34, hE1 _ gr431_35]; exact hl
  refine W.eq (g2 := F0 m 434 ls [.ref (a431_17 s438_16.1), .int 17, .ref (a431_17 q427_17)]) (by simp only [hE1 _ gr431_34, hE1 _ gr431_35]) ?_
  refine W.widen (k := 214) (n := 3181) (Nat.le_of_ble_eq_true rfl) (Nat.le_of_ble_eq_true rfl) ?_
  have gn431_17 := ko_new e431_17
  refine lv_dup hx hb dX1_init_434 rfl ?_
  obtain ⟨gr435_51, hf⟩ := gd_some hf
  obtain ⟨gr435_52, hf⟩ := gd_some hf
  obtain ⟨gr435_53, hf⟩ := gd_some hf
  obtain ⟨_, s435_17, h435_17, hf⟩ := ob_some hf
  refine aw_run hC hW (aw_runI hC hW hl.1 (r := s438_16.1) (As := []) (rest := [.ref (a431_17 s438_16.1), .int 17, .ref (a431_17 q427_17)]) (cta_X2_init l G a431_17 s438_16.1 s431_17 () s435_17 h435_17) iy_X2_init (Or.inr ⟨_, q119⟩) rfl rfl (Nat.le_of_ble_eq_true rfl) ⟨Nat.le_of_ble_eq_true rfl, Nat.le_of_ble_eq_true rfl⟩ ⟨Nat.le_of_ble_eq_true rfl, Nat.le_of_ble_eq_true rfl⟩ dX1_init_435) (fun v9 a435_17 s9 H locs hp9 hW => ?_)
  obtain ⟨rfl, h9s, hE1, hN1⟩ := hp9
  rw [h9s] at hW
  have hE : EX a a435_17 N0 := hE.trans hE1 hN
  have hN := Nat.le_trans hN hN1
  have hl : lv_has ls 2 [(1, .int 17), (0, .ref (a435_17 o))] := by simp only [hE1 _ gr435_51, hE1 _ gr435_52, hE1 _ gr435_53]; exact hl
  refine W.eq (g2 := F0 m 438 ls [.ref (a435_17 s438_16.1), .int 17, .ref (a435_17 q427_17)]) (by show F0 m 438 ls [.ref (a431_17 s438_16.1), .int 17, .ref (a431_17 q427_17)] = _; simp only [hE1 _ gr435_51, hE1 _ gr435_52, hE1 _ gr435_53]) ?_
  refine W.widen (k := 220) (n := 3293) (Nat.le_of_ble_eq_true rfl) (Nat.le_of_ble_eq_true rfl) ?_
  obtain ⟨g438_34, hf⟩ := gd_some hf
  obtain ⟨g438_35, hf⟩ := gd_some hf
  obtain ⟨s438_17, e438_17, hf⟩ := bnd_some hf
  refine aw_aast (j := 1) e438_17 hC hW (by decide) g438_34 g438_35 dX1_init_438 (fun H locs hW => ?_)
  have hN := n_pR e438_17 hN
  have g438_35 := ko_pR e438_17 g438_35
  refine lv_iinc (v := 18) (lv' := [(1, .int 18), (0, .ref (a435_17 o))]) hx hb dX1_init_439 hl (k := 0) rfl (by decide) (by decide) rfl (fun ls hl => ?_)
  refine lv_goto (tgt := 420) hx hb dX1_init_442 (by decide) ?_
  refine lv_iload_n hx hb dX1_init_420 rfl (lv_at hl 0 rfl) ?_
  refine lv_bipush (v := 20) hx hb dX1_init_421 (by decide) ?_
  refine lv_icmp_ge (tgt := 445) hx hb dX1_init_423 (by decide) (fun c423_18 => absurd c423_18 (by decide)) (fun _ => ?_)
  refine lv_aload_n hx hb dX1_init_426 rfl (lv_at hl 1 rfl) ?_
  obtain ⟨g427_18, hf⟩ := gd_some hf
  obtain ⟨q427_18, hq427_18, hf⟩ := bi_some hf
  refine aw_gR hC hW g427_18 fl_X1_25 rfl hq427_18 dX1_init_427 ?_
  refine lv_iload_n hx hb dX1_init_430 rfl (lv_at hl 0 rfl) ?_
  obtain ⟨gr431_36, hf⟩ := gd_some hf
  obtain ⟨gr431_37, hf⟩ := gd_some hf
  obtain ⟨s431_18, e431_18, hf⟩ := bnd_some hf
  refine aw_new (q := (RX2, TX2, 11)) (ci := 1) hC hW rfl q117 q118 q76 okT_X2 (Nat.le_of_ble_eq_true rfl) (Nat.le_of_ble_eq_true rfl) dX1_init_431 (fun a431_18 H hE1 hW => ?_)
  have hE : EX a a431_18 N0 := hE.trans hE1 hN
  have hN := n_nw e431_18 hN
  have g438_35 := ko_nw e431_18 g438_35
  have g427_18 := ko_nw e431_18 g427_18
  have hW := aw_eq e431_18 hW
  have hl : lv_has ls 2 [(1, .int 18), (0, .ref (a431_18 o))] := by simp only [hE1 _ gr431_36, hE1 _ gr431_37]; exact hl
  refine W.eq (g2 := F0 m 434 ls [.ref (a431_18 s438_17.1), .int 18, .ref (a431_18 q427_18)]) (by simp only [hE1 _ gr431_36, hE1 _ gr431_37]) ?_
  refine W.widen (k := 221) (n := 3304) (Nat.le_of_ble_eq_true rfl) (Nat.le_of_ble_eq_true rfl) ?_
  have gn431_18 := ko_new e431_18
  refine lv_dup hx hb dX1_init_434 rfl ?_
  obtain ⟨gr435_54, hf⟩ := gd_some hf
  obtain ⟨gr435_55, hf⟩ := gd_some hf
  obtain ⟨gr435_56, hf⟩ := gd_some hf
  obtain ⟨_, s435_18, h435_18, hf⟩ := ob_some hf
  refine aw_run hC hW (aw_runI hC hW hl.1 (r := s438_17.1) (As := []) (rest := [.ref (a431_18 s438_17.1), .int 18, .ref (a431_18 q427_18)]) (cta_X2_init l G a431_18 s438_17.1 s431_18 () s435_18 h435_18) iy_X2_init (Or.inr ⟨_, q119⟩) rfl rfl (Nat.le_of_ble_eq_true rfl) ⟨Nat.le_of_ble_eq_true rfl, Nat.le_of_ble_eq_true rfl⟩ ⟨Nat.le_of_ble_eq_true rfl, Nat.le_of_ble_eq_true rfl⟩ dX1_init_435) (fun v9 a435_18 s9 H locs hp9 hW => ?_)
  obtain ⟨rfl, h9s, hE1, hN1⟩ := hp9
  rw [h9s] at hW
  have hE : EX a a435_18 N0 := hE.trans hE1 hN
  have hN := Nat.le_trans hN hN1
  have hl : lv_has ls 2 [(1, .int 18), (0, .ref (a435_18 o))] := by simp only [hE1 _ gr435_54, hE1 _ gr435_55, hE1 _ gr435_56]; exact hl
  refine W.eq (g2 := F0 m 438 ls [.ref (a435_18 s438_17.1), .int 18, .ref (a435_18 q427_18)]) (by show F0 m 438 ls [.ref (a431_18 s438_17.1), .int 18, .ref (a431_18 q427_18)] = _; simp only [hE1 _ gr435_54, hE1 _ gr435_55, hE1 _ gr435_56]) ?_
  refine W.widen (k := 227) (n := 3416) (Nat.le_of_ble_eq_true rfl) (Nat.le_of_ble_eq_true rfl) ?_
  obtain ⟨g438_36, hf⟩ := gd_some hf
  obtain ⟨g438_37, hf⟩ := gd_some hf
  obtain ⟨s438_18, e438_18, hf⟩ := bnd_some hf
  refine aw_aast (j := 1) e438_18 hC hW (by decide) g438_36 g438_37 dX1_init_438 (fun H locs hW => ?_)
  have hN := n_pR e438_18 hN
  have g438_37 := ko_pR e438_18 g438_37
  refine lv_iinc (v := 19) (lv' := [(1, .int 19), (0, .ref (a435_18 o))]) hx hb dX1_init_439 hl (k := 0) rfl (by decide) (by decide) rfl (fun ls hl => ?_)
  refine lv_goto (tgt := 420) hx hb dX1_init_442 (by decide) ?_
  refine lv_iload_n hx hb dX1_init_420 rfl (lv_at hl 0 rfl) ?_
  refine lv_bipush (v := 20) hx hb dX1_init_421 (by decide) ?_
  refine lv_icmp_ge (tgt := 445) hx hb dX1_init_423 (by decide) (fun c423_19 => absurd c423_19 (by decide)) (fun _ => ?_)
  refine lv_aload_n hx hb dX1_init_426 rfl (lv_at hl 1 rfl) ?_
  obtain ⟨g427_19, hf⟩ := gd_some hf
  obtain ⟨q427_19, hq427_19, hf⟩ := bi_some hf
  refine aw_gR hC hW g427_19 fl_X1_25 rfl hq427_19 dX1_init_427 ?_
  refine lv_iload_n hx hb dX1_init_430 rfl (lv_at hl 0 rfl) ?_
  obtain ⟨gr431_38, hf⟩ := gd_some hf
  obtain ⟨gr431_39, hf⟩ := gd_some hf
  obtain ⟨s431_19, e431_19, hf⟩ := bnd_some hf
  refine aw_new (q := (RX2, TX2, 11)) (ci := 1) hC hW rfl q117 q118 q76 okT_X2 (Nat.le_of_ble_eq_true rfl) (Nat.le_of_ble_eq_true rfl) dX1_init_431 (fun a431_19 H hE1 hW => ?_)
  have hE : EX a a431_19 N0 := hE.trans hE1 hN
  have hN := n_nw e431_19 hN
  have g438_37 := ko_nw e431_19 g438_37
  have g427_19 := ko_nw e431_19 g427_19
  have hW := aw_eq e431_19 hW
  have hl : lv_has ls 2 [(1, .int 19), (0, .ref (a431_19 o))] := by simp only [hE1 _ gr431_38, hE1 _ gr431_39]; exact hl
  refine W.eq (g2 := F0 m 434 ls [.ref (a431_19 s438_18.1), .int 19, .ref (a431_19 q427_19)]) (by simp only [hE1 _ gr431_38, hE1 _ gr431_39]) ?_
  refine W.widen (k := 228) (n := 3427) (Nat.le_of_ble_eq_true rfl) (Nat.le_of_ble_eq_true rfl) ?_
  have gn431_19 := ko_new e431_19
  refine lv_dup hx hb dX1_init_434 rfl ?_
  obtain ⟨gr435_57, hf⟩ := gd_some hf
  obtain ⟨gr435_58, hf⟩ := gd_some hf
  obtain ⟨gr435_59, hf⟩ := gd_some hf
  obtain ⟨_, s435_19, h435_19, hf⟩ := ob_some hf
  refine aw_run hC hW (aw_runI hC hW hl.1 (r := s438_18.1) (As := []) (rest := [.ref (a431_19 s438_18.1), .int 19, .ref (a431_19 q427_19)]) (cta_X2_init l G a431_19 s438_18.1 s431_19 () s435_19 h435_19) iy_X2_init (Or.inr ⟨_, q119⟩) rfl rfl (Nat.le_of_ble_eq_true rfl) ⟨Nat.le_of_ble_eq_true rfl, Nat.le_of_ble_eq_true rfl⟩ ⟨Nat.le_of_ble_eq_true rfl, Nat.le_of_ble_eq_true rfl⟩ dX1_init_435) (fun v9 a435_19 s9 H locs hp9 hW => ?_)
  obtain ⟨rfl, h9s, hE1, hN1⟩ := hp9
  rw [h9s] at hW
  have hE : EX a a435_19 N0 := hE.trans hE1 hN
  have hN := Nat.le_trans hN hN1
  have hl : lv_has ls 2 [(1, .int 19), (0, .ref (a435_19 o))] := by simp only [hE1 _ gr435_57, hE1 _ gr435_58, hE1 _ gr435_59]; exact hl
  refine W.eq (g2 := F0 m 438 ls [.ref (a435_19 s438_18.1), .int 19, .ref (a435_19 q427_19)]) (by show F0 m 438 ls [.ref (a431_19 s438_18.1), .int 19, .ref (a431_19 q427_19)] = _; simp only [hE1 _ gr435_57, hE1 _ gr435_58, hE1 _ gr435_59]) ?_
  refine W.widen (k := 234) (n := 3539) (Nat.le_of_ble_eq_true rfl) (Nat.le_of_ble_eq_true rfl) ?_
  obtain ⟨g438_38, hf⟩ := gd_some hf
  obtain ⟨g438_39, hf⟩ := gd_some hf
  obtain ⟨s438_19, e438_19, hf⟩ := bnd_some hf
  refine aw_aast (j := 1) e438_19 hC hW (by decide) g438_38 g438_39 dX1_init_438 (fun H locs hW => ?_)
  have hN := n_pR e438_19 hN
  have g438_39 := ko_pR e438_19 g438_39
  refine lv_iinc (v := 20) (lv' := [(1, .int 20), (0, .ref (a435_19 o))]) hx hb dX1_init_439 hl (k := 0) rfl (by decide) (by decide) rfl (fun ls hl => ?_)
  refine lv_goto (tgt := 420) hx hb dX1_init_442 (by decide) ?_
  refine lv_iload_n hx hb dX1_init_420 rfl (lv_at hl 0 rfl) ?_
  refine lv_bipush (v := 20) hx hb dX1_init_421 (by decide) ?_
  refine lv_icmp_ge (tgt := 445) hx hb dX1_init_423 (by decide) (fun _ => ?_) (fun c423_20 => absurd (by decide) c423_20)
  obtain ⟨e1, e2⟩ := so_inj hf
  exact aw_vret hC hW hr (p_eq (hP _ hE (e2 ▸ hN)) rfl e2) (Nat.le_of_ble_eq_true rfl) (Nat.le_of_ble_eq_true rfl) dX1_init_445
