set_option maxRecDepth 100000
def f_law_c47 (L : Nat) (xs : Nat → Int32) (K : Nat → Nat → Nat → Int32 → ST → Option Unit) (r1 r2 r3 : Nat) (x4 : Int32) (s : ST) : Option Unit :=
  gd (¬ (((x4 + 1) : Int32) < 0 ∨ L ≤ ((x4 + 1) : Int32).toNatClampNeg)) <|
  gd (r1 < s.1 ∧ (kd s r1).1 = 1) <|
  ob (f_X1_again r1 (xs ((x4 + 1) : Int32).toNatClampNeg) s) fun v1654 s1654 =>
  gd (s.1 ≤ s1654.1) <|
  gd (¬ (((x4 + 1) : Int32) < 0 ∨ L ≤ ((x4 + 1) : Int32).toNatClampNeg)) <|
  gd (r2 < s1654.1 ∧ (kd s1654 r2).1 = 14) <|
  ob (f_X14_again r2 (xs ((x4 + 1) : Int32).toNatClampNeg) s1654) fun v1664 s1664 =>
  gd (s1654.1 ≤ s1664.1) <|
  if v1654 = v1664 then (K r1 r2 r3 x4 s1664) else none
set_option maxHeartbeats 4000000 in
theorem lc_47 {p : Program} {l : Launch} {e : Env} {s0 : State} {m : MethodId} {b L : Nat} {xs : Nat → Int32} {below : List Frame} {meth : Method} {c : Code} {G : GM} (hlt : l.stackTraces = false) (hC : CX p s0 m #[Value.ref b] meth c G (fun q => s0.heap.size ≤ q) code R_law 8) (hr : meth.sig.returnType = ret) (hX : va_X b L xs s0 s0.heap) (hbl : b < s0.heap.size) {K : Nat → Nat → Nat → Int32 → ST → Option Unit} {kc ks : Nat} (hkc : kc + 20 ≤ 603072) (hks : ks + 300 ≤ 7067754) (hK : KL p l e s0 m b below meth c G K (kc + 20) (ks + 300) 1752) : KL p l e s0 m b below meth c G (f_law_c47 L xs K) kc ks 1647 := by
  intro a r1 r2 r3 x4 s hf H locs ls hl hW
  have hx := hC.1
  have hb := hC.2.1
  have hts := hC.2.2.2.2.1
  obtain ⟨N0, hN0⟩ : ∃ N0, N0 = 0 := ⟨_, rfl⟩
  have hE : EX a a N0 := EX.rf
  have hN : N0 ≤ s.1 := by omega
  unfold f_law_c47 at hf
  refine lv_aload_n hx hb dL_law_1647 rfl (lv_at hl 1 rfl) ?_
  refine lv_aload_n hx hb dL_law_1648 rfl (lv_at hl 0 rfl) ?_
  refine lv_iload hx hb dL_law_1649 (lv_at hl 4 rfl) ?_
  refine lv_iconst (v := 1) hx hb dL_law_1651 (by decide) ?_
  refine lv_iadd hx hb dL_law_1652 ?_
  obtain ⟨g1653, hf⟩ := gd_some hf
  refine lw_xld hx hb hX hbl hW g1653 dL_law_1653 ?_
  obtain ⟨g1654, hf⟩ := gd_some hf
  obtain ⟨v1654, s1654, h1654, hf⟩ := ob_some hf
  obtain ⟨hN1, hf⟩ := gd_some hf
  have hN := Nat.le_trans hN hN1
  refine aw_dV1 (r := r1) (As := [.int (xs ((x4 + 1) : Int32).toNatClampNeg)]) (rest := []) (ct_X1_again l G a r1 (xs ((x4 + 1) : Int32).toNatClampNeg) s v1654 s1654 h1654) hC hW hl.1 vy_X1_again (Or.inl q1292) g1654 rfl rfl rfl rfl (Nat.le_of_ble_eq_true rfl) ⟨Nat.le_of_ble_eq_true rfl, Nat.le_of_ble_eq_true rfl⟩ ⟨(by show kc ≤ 603072; omega), (by show ks ≤ 7067754; omega)⟩ dL_law_1654 (fun H locs hW => ?_)
  refine lv_aload_n hx hb dL_law_1657 rfl (lv_at hl 2 rfl) ?_
  refine lv_aload_n hx hb dL_law_1658 rfl (lv_at hl 0 rfl) ?_
  refine lv_iload hx hb dL_law_1659 (lv_at hl 4 rfl) ?_
  refine lv_iconst (v := 1) hx hb dL_law_1661 (by decide) ?_
  refine lv_iadd hx hb dL_law_1662 ?_
  obtain ⟨g1663, hf⟩ := gd_some hf
  refine lw_xld hx hb hX hbl hW g1663 dL_law_1663 ?_
  obtain ⟨g1664, hf⟩ := gd_some hf
  obtain ⟨v1664, s1664, h1664, hf⟩ := ob_some hf
  obtain ⟨hN1, hf⟩ := gd_some hf
  have hN := Nat.le_trans hN hN1
  refine aw_dV1 (r := r2) (As := [.int (xs ((x4 + 1) : Int32).toNatClampNeg)]) (rest := [.int v1654]) (ct_X14_again l G a r2 (xs ((x4 + 1) : Int32).toNatClampNeg) s1654 v1664 s1664 h1664) hC hW hl.1 vy_X14_again (Or.inl q1928) g1664 rfl rfl rfl rfl (Nat.le_of_ble_eq_true rfl) ⟨Nat.le_of_ble_eq_true rfl, Nat.le_of_ble_eq_true rfl⟩ ⟨(by show kc ≤ 603072; omega), (by show ks ≤ 7067754; omega)⟩ dL_law_1664 (fun H locs hW => ?_)
  refine lv_icmp_eq (tgt := 1752) hx hb dL_law_1667 (by decide) (fun c1667 => ?_) (fun c1667 => ?_)
  · have hf := ifp c1667 hf
    refine W.widen (k := kc + 20) (n := ks + 300) (by omega) (by omega) ?_
    exact hK a r1 r2 r3 x4 s1664 hf _ _ _ (lv_sub hl [0, 1, 2, 3, 4] rfl) hW
  · have hf := ifn c1667 hf
    refine lv_iconst (v := 0) hx hb dL_law_1670 (by decide) ?_
    cases hf
def f_law_c48 (L : Nat) (xs : Nat → Int32) (K : Nat → Nat → Nat → Int32 → ST → Option Unit) (r1 r2 r3 : Nat) (x4 : Int32) (s : ST) : Option Unit :=
  gd (¬ (((x4 + 1) : Int32) < 0 ∨ L ≤ ((x4 + 1) : Int32).toNatClampNeg)) <|
  gd (r1 < s.1 ∧ (kd s r1).1 = 1) <|
  ob (f_X1_count r1 (xs ((x4 + 1) : Int32).toNatClampNeg) s) fun v1679 s1679 =>
  gd (s.1 ≤ s1679.1) <|
  gd (¬ (((x4 + 1) : Int32) < 0 ∨ L ≤ ((x4 + 1) : Int32).toNatClampNeg)) <|
  gd (r2 < s1679.1 ∧ (kd s1679 r2).1 = 14) <|
  ob (f_X14_count r2 (xs ((x4 + 1) : Int32).toNatClampNeg) s1679) fun v1689 s1689 =>
  gd (s1679.1 ≤ s1689.1) <|
  if v1679 = v1689 then (K r1 r2 r3 x4 s1689) else none
set_option maxHeartbeats 4000000 in
theorem lc_48 {p : Program} {l : Launch} {e : Env} {s0 : State} {m : MethodId} {b L : Nat} {xs : Nat → Int32} {below : List Frame} {meth : Method} {c : Code} {G : GM} (hlt : l.stackTraces = false) (hC : CX p s0 m #[Value.ref b] meth c G (fun q => s0.heap.size ≤ q) code R_law 8) (hr : meth.sig.returnType = ret) (hX : va_X b L xs s0 s0.heap) (hbl : b < s0.heap.size) {K : Nat → Nat → Nat → Int32 → ST → Option Unit} {kc ks : Nat} (hkc : kc + 20 ≤ 603072) (hks : ks + 300 ≤ 7067754) (hK : KL p l e s0 m b below meth c G K (kc + 20) (ks + 300) 1752) : KL p l e s0 m b below meth c G (f_law_c48 L xs K) kc ks 1672 := by
  intro a r1 r2 r3 x4 s hf H locs ls hl hW
  have hx := hC.1
  have hb := hC.2.1
  have hts := hC.2.2.2.2.1
  obtain ⟨N0, hN0⟩ : ∃ N0, N0 = 0 := ⟨_, rfl⟩
  have hE : EX a a N0 := EX.rf
  have hN : N0 ≤ s.1 := by omega
  unfold f_law_c48 at hf
  refine lv_aload_n hx hb dL_law_1672 rfl (lv_at hl 1 rfl) ?_
  refine lv_aload_n hx hb dL_law_1673 rfl (lv_at hl 0 rfl) ?_
  refine lv_iload hx hb dL_law_1674 (lv_at hl 4 rfl) ?_
  refine lv_iconst (v := 1) hx hb dL_law_1676 (by decide) ?_
  refine lv_iadd hx hb dL_law_1677 ?_
  obtain ⟨g1678, hf⟩ := gd_some hf
  refine lw_xld hx hb hX hbl hW g1678 dL_law_1678 ?_
  obtain ⟨g1679, hf⟩ := gd_some hf
  obtain ⟨v1679, s1679, h1679, hf⟩ := ob_some hf
  obtain ⟨hN1, hf⟩ := gd_some hf
  have hN := Nat.le_trans hN hN1
  refine aw_dV1 (r := r1) (As := [.int (xs ((x4 + 1) : Int32).toNatClampNeg)]) (rest := []) (ct_X1_count l G a r1 (xs ((x4 + 1) : Int32).toNatClampNeg) s v1679 s1679 h1679) hC hW hl.1 vy_X1_count (Or.inl q1296) g1679 rfl rfl rfl rfl (Nat.le_of_ble_eq_true rfl) ⟨Nat.le_of_ble_eq_true rfl, Nat.le_of_ble_eq_true rfl⟩ ⟨(by show kc ≤ 603072; omega), (by show ks ≤ 7067754; omega)⟩ dL_law_1679 (fun H locs hW => ?_)
  refine lv_aload_n hx hb dL_law_1682 rfl (lv_at hl 2 rfl) ?_
  refine lv_aload_n hx hb dL_law_1683 rfl (lv_at hl 0 rfl) ?_
  refine lv_iload hx hb dL_law_1684 (lv_at hl 4 rfl) ?_
  refine lv_iconst (v := 1) hx hb dL_law_1686 (by decide) ?_
  refine lv_iadd hx hb dL_law_1687 ?_
  obtain ⟨g1688, hf⟩ := gd_some hf
  refine lw_xld hx hb hX hbl hW g1688 dL_law_1688 ?_
  obtain ⟨g1689, hf⟩ := gd_some hf
  obtain ⟨v1689, s1689, h1689, hf⟩ := ob_some hf
  obtain ⟨hN1, hf⟩ := gd_some hf
  have hN := Nat.le_trans hN hN1
  refine aw_dV1 (r := r2) (As := [.int (xs ((x4 + 1) : Int32).toNatClampNeg)]) (rest := [.int v1679]) (ct_X14_count l G a r2 (xs ((x4 + 1) : Int32).toNatClampNeg) s1679 v1689 s1689 h1689) hC hW hl.1 vy_X14_count (Or.inl q1932) g1689 rfl rfl rfl rfl (Nat.le_of_ble_eq_true rfl) ⟨Nat.le_of_ble_eq_true rfl, Nat.le_of_ble_eq_true rfl⟩ ⟨(by show kc ≤ 603072; omega), (by show ks ≤ 7067754; omega)⟩ dL_law_1689 (fun H locs hW => ?_)
  refine lv_icmp_eq (tgt := 1752) hx hb dL_law_1692 (by decide) (fun c1692 => ?_) (fun c1692 => ?_)
  · have hf := ifp c1692 hf
    refine W.widen (k := kc + 20) (n := ks + 300) (by omega) (by omega) ?_
    exact hK a r1 r2 r3 x4 s1689 hf _ _ _ (lv_sub hl [0, 1, 2, 3, 4] rfl) hW
  · have hf := ifn c1692 hf
    refine lv_iconst (v := 0) hx hb dL_law_1695 (by decide) ?_
    cases hf
def f_law_c49 (L : Nat) (xs : Nat → Int32) (K : Nat → Nat → Nat → Int32 → ST → Option Unit) (r1 r2 r3 : Nat) (x4 : Int32) (s : ST) : Option Unit :=
  gd (¬ (((x4 + 1) : Int32) < 0 ∨ L ≤ ((x4 + 1) : Int32).toNatClampNeg)) <|
  gd (r1 < s.1) <|
  gd (r2 < s.1) <|
  gd (r3 < s.1) <|
  ob (f_X0_row r1 (xs ((x4 + 1) : Int32).toNatClampNeg) r3 s) fun v1705 s1705 =>
  gd (¬ (((x4 + 1) : Int32) < 0 ∨ L ≤ ((x4 + 1) : Int32).toNatClampNeg)) <|
  gd (r2 < s1705.1 ∧ (kd s1705 r2).1 = 14) <|
  ob (f_X14_row r2 (xs ((x4 + 1) : Int32).toNatClampNeg) s1705) fun v1717 s1717 =>
  gd (s1705.1 ≤ s1717.1) <|
  gd (r2 < s1717.1 ∧ (kd s1717 r2).1 = 14) <|
  ob (f_X14_thrown r2 s1717) fun v1723 s1723 =>
  gd (s1717.1 ≤ s1723.1) <|
  if v1723 = v1705 then (if v1705 = 0 then (gd (r3 < s1723.1 ∧ (kd s1723 r3).1 = 104 ∧ ¬ ((0 : Int32) < 0 ∨ (kd s1723 r3).2 ≤ (0 : Int32).toNatClampNeg)) <|
  if (lg_cmp (gl s1723 r3 (0 : Int32).toNatClampNeg) v1717) = 0 then (K r1 r2 r3 x4 s1723) else none) else K r1 r2 r3 x4 s1723) else none
set_option maxHeartbeats 4000000 in
theorem lc_49 {p : Program} {l : Launch} {e : Env} {s0 : State} {m : MethodId} {b L : Nat} {xs : Nat → Int32} {below : List Frame} {meth : Method} {c : Code} {G : GM} (hlt : l.stackTraces = false) (hC : CX p s0 m #[Value.ref b] meth c G (fun q => s0.heap.size ≤ q) code R_law 8) (hr : meth.sig.returnType = ret) (hX : va_X b L xs s0 s0.heap) (hbl : b < s0.heap.size) {K : Nat → Nat → Nat → Int32 → ST → Option Unit} {kc ks : Nat} (hkc : kc + 20 ≤ 603072) (hks : ks + 300 ≤ 7067754) (hK : KL p l e s0 m b below meth c G K (kc + 20) (ks + 300) 1752) : KL p l e s0 m b below meth c G (f_law_c49 L xs K) kc ks 1697 := by
  intro a r1 r2 r3 x4 s hf H locs ls hl hW
  have hx := hC.1
  have hb := hC.2.1
  have hts := hC.2.2.2.2.1
  obtain ⟨N0, hN0⟩ : ∃ N0, N0 = 0 := ⟨_, rfl⟩
  have hE : EX a a N0 := EX.rf
  have hN : N0 ≤ s.1 := by omega
  unfold f_law_c49 at hf
  refine lv_aload_n hx hb dL_law_1697 rfl (lv_at hl 1 rfl) ?_
  refine lv_aload_n hx hb dL_law_1698 rfl (lv_at hl 0 rfl) ?_
  refine lv_iload hx hb dL_law_1699 (lv_at hl 4 rfl) ?_
  refine lv_iconst (v := 1) hx hb dL_law_1701 (by decide) ?_
  refine lv_iadd hx hb dL_law_1702 ?_
  obtain ⟨g1703, hf⟩ := gd_some hf
  refine lw_xld hx hb hX hbl hW g1703 dL_law_1703 ?_
  refine lv_aload_n hx hb dL_law_1704 rfl (lv_at hl 3 rfl) ?_
  obtain ⟨gr1705, hf⟩ := gd_some hf
  obtain ⟨gr1705_1, hf⟩ := gd_some hf
  obtain ⟨gr1705_2, hf⟩ := gd_some hf
  obtain ⟨v1705, s1705, h1705, hf⟩ := ob_some hf
  refine aw_run hC hW (aw_runSW (n := 3) hC hW hl.1 (As := [.ref (a r1), .int (xs ((x4 + 1) : Int32).toNatClampNeg), .ref (a r3)]) (rest := []) (cta_X0_row l hlt G a r1 (xs ((x4 + 1) : Int32).toNatClampNeg) r3 s v1705 s1705 h1705) q1350 q74 q1351 ⟨by decide +kernel, by decide +kernel, by decide +kernel⟩ q1349 rfl rfl (Nat.le_of_ble_eq_true rfl) ⟨Nat.le_of_ble_eq_true rfl, Nat.le_of_ble_eq_true rfl⟩ ⟨(by show kc + 1 ≤ 603072; omega), (by show ks + 6 ≤ 7067754; omega)⟩ dL_law_1705) (fun v9 a1705 s9 H locs hp9 hW => ?_)
  obtain ⟨rfl, h9s, hE1, hN1⟩ := hp9
  rw [h9s] at hW
  have hE : EX a a1705 N0 := hE.trans hE1 hN
  have hN := Nat.le_trans hN hN1
  have hl : lv_has ls 8 [(0, .ref b), (1, .ref (a1705 r1)), (2, .ref (a1705 r2)), (3, .ref (a1705 r3)), (4, .int x4)] := by simp only [hE1 _ gr1705, hE1 _ gr1705_1, hE1 _ gr1705_2]; exact hl
  refine W.eq (g2 := F0 m 1708 ls [.int v1705]) rfl ?_
  refine W.widen (k := kc + 20) (n := ks + 300) (by show kc + 1 ≤ kc + 20; omega) (by show ks + 6 ≤ ks + 300; omega) ?_
  refine lv_istore (lv' := [(5, .int v1705), (0, .ref b), (1, .ref (a1705 r1)), (2, .ref (a1705 r2)), (3, .ref (a1705 r3)), (4, .int x4)]) hx hb dL_law_1708 hl (by decide) rfl (fun ls hl => ?_)
  refine lv_aload_n hx hb dL_law_1710 rfl (lv_at hl 3 rfl) ?_
  refine lv_aload_n hx hb dL_law_1711 rfl (lv_at hl 1 rfl) ?_
  refine lv_iload hx hb dL_law_1712 (lv_at hl 5 rfl) ?_
  refine lv_iconst (v := 1) hx hb dL_law_1714 (by decide) ?_
  refine lv_iadd hx hb dL_law_1715 ?_
  obtain ⟨g1716, hf⟩ := gd_some hf
  refine lw_xld hx hb hX hbl hW g1716 dL_law_1716 ?_
  obtain ⟨g1717, hf⟩ := gd_some hf
  obtain ⟨v1717, s1717, h1717, hf⟩ := ob_some hf
  obtain ⟨hN1, hf⟩ := gd_some hf
  have hN := Nat.le_trans hN hN1
  refine aw_dV1 (r := r2) (As := [.int (xs ((x4 + 1) : Int32).toNatClampNeg)]) (rest := []) (ct_X14_row l G a1705 r2 (xs ((x4 + 1) : Int32).toNatClampNeg) s1705 v1717 s1717 h1717) hC hW hl.1 vy_X14_row (Or.inl q1940) g1717 rfl rfl rfl rfl (Nat.le_of_ble_eq_true rfl) ⟨Nat.le_of_ble_eq_true rfl, Nat.le_of_ble_eq_true rfl⟩ ⟨(by show kc + 20 ≤ 603072; omega), (by show ks + 300 ≤ 7067754; omega)⟩ dL_law_1717 (fun H locs hW => ?_)
  refine lv_lstore (lv' := [(6, .long v1717), (5, .int v1705), (0, .ref b), (1, .ref (a1705 r1)), (2, .ref (a1705 r2)), (3, .ref (a1705 r3)), (4, .int x4)]) hx hb dL_law_1720 hl (by decide) rfl (fun ls hl => ?_)
  refine lv_aload_n hx hb dL_law_1722 rfl (lv_at hl 4 rfl) ?_
  obtain ⟨g1723, hf⟩ := gd_some hf
  obtain ⟨v1723, s1723, h1723, hf⟩ := ob_some hf
  obtain ⟨hN1, hf⟩ := gd_some hf
  have hN := Nat.le_trans hN hN1
  refine aw_dV1 (r := r2) (As := []) (rest := []) (ct_X14_thrown l G a1705 r2 s1717 v1723 s1723 h1723) hC hW hl.1 vy_X14_thrown (Or.inl q1356) g1723 rfl rfl rfl rfl (Nat.le_of_ble_eq_true rfl) ⟨Nat.le_of_ble_eq_true rfl, Nat.le_of_ble_eq_true rfl⟩ ⟨(by show kc + 20 ≤ 603072; omega), (by show ks + 300 ≤ 7067754; omega)⟩ dL_law_1723 (fun H locs hW => ?_)
  refine lv_iload hx hb dL_law_1726 (lv_at hl 1 rfl) ?_
  refine lv_icmp_eq (tgt := 1733) hx hb dL_law_1728 (by decide) (fun c1728 => ?_) (fun c1728 => ?_)
  · have hf := ifp c1728 hf
    refine lv_iload hx hb dL_law_1733 (lv_at hl 1 rfl) ?_
    refine lv_if_ne (tgt := 1749) hx hb dL_law_1735 (by decide) (fun c1735 => ?_) (fun c1735 => ?_)
    · have hf := ifn c1735 hf
      refine lv_goto (tgt := 1752) hx hb dL_law_1749 (by decide) ?_
      exact hK a1705 r1 r2 r3 x4 s1723 hf _ _ _ (lv_sub hl [2, 3, 4, 5, 6] rfl) hW
    · have hf := ifp c1735 hf
      refine lv_aload_n hx hb dL_law_1738 rfl (lv_at hl 5 rfl) ?_
      refine lv_iconst (v := 0) hx hb dL_law_1739 (by decide) ?_
      obtain ⟨g1740, hf⟩ := gd_some hf
      refine aw_lald hC hW g1740 dL_law_1740 ?_
      refine lv_lload hx hb dL_law_1741 (lv_at hl 0 rfl) ?_
      refine W.lcmp hx hb dL_law_1743 ?_
      refine lv_if_eq (tgt := 1749) hx hb dL_law_1744 (by decide) (fun c1744 => ?_) (fun c1744 => ?_)
      · have hf := ifp c1744 hf
        refine lv_goto (tgt := 1752) hx hb dL_law_1749 (by decide) ?_
        exact hK a1705 r1 r2 r3 x4 s1723 hf _ _ _ (lv_sub hl [2, 3, 4, 5, 6] rfl) hW
      · have hf := ifn c1744 hf
        refine lv_iconst (v := 0) hx hb dL_law_1747 (by decide) ?_
        cases hf
  · have hf := ifn c1728 hf
    refine lv_iconst (v := 0) hx hb dL_law_1731 (by decide) ?_
    cases hf
def f_law_hd (L : Nat) (xs : Nat → Int32) (K : Nat → Nat → Nat → Int32 → ST → Option Unit) (r1 r2 r3 : Nat) (x4 : Int32) (s : ST) : Option Unit :=
  if ((Int32.ofNat L) - 5) < x4 then (some ()) else gd (¬ ((x4 : Int32) < 0 ∨ L ≤ (x4 : Int32).toNatClampNeg)) <|
  bnd (((xs (x4 : Int32).toNatClampNeg) &&& 63) : Int32) fun v39 =>
  if v39 = 0 then (f_law_c0 L xs K r1 r2 r3 x4 s) else
  if v39 = 1 then (f_law_c1 L xs K r1 r2 r3 x4 s) else
  if v39 = 2 then (f_law_c2 L xs K r1 r2 r3 x4 s) else
  if v39 = 3 then (f_law_c3 L xs K r1 r2 r3 x4 s) else
  if v39 = 4 then (f_law_c4 L xs K r1 r2 r3 x4 s) else
  if v39 = 5 then (f_law_c5 L xs K r1 r2 r3 x4 s) else
  if v39 = 6 then (f_law_c6 L xs K r1 r2 r3 x4 s) else
  if v39 = 7 then (f_law_c7 L xs K r1 r2 r3 x4 s) else
  if v39 = 8 then (f_law_c8 L xs K r1 r2 r3 x4 s) else
  if v39 = 9 then (f_law_c9 L xs K r1 r2 r3 x4 s) else
  if v39 = 10 then (f_law_c10 L xs K r1 r2 r3 x4 s) else
  if v39 = 11 then (f_law_c11 L xs K r1 r2 r3 x4 s) else
  if v39 = 12 then (f_law_c12 L xs K r1 r2 r3 x4 s) else
  if v39 = 13 then (f_law_c13 L xs K r1 r2 r3 x4 s) else
  if v39 = 14 then (f_law_c14 L xs K r1 r2 r3 x4 s) else
  if v39 = 15 then (f_law_c15 L xs K r1 r2 r3 x4 s) else
  if v39 = 16 then (f_law_c16 L xs K r1 r2 r3 x4 s) else
  if v39 = 17 then (f_law_c17 L xs K r1 r2 r3 x4 s) else
  if v39 = 18 then (f_law_c18 L xs K r1 r2 r3 x4 s) else
  if v39 = 19 then (f_law_c19 L xs K r1 r2 r3 x4 s) else
  if v39 = 20 then (f_law_c20 L xs K r1 r2 r3 x4 s) else
  if v39 = 21 then (f_law_c21 L xs K r1 r2 r3 x4 s) else
  if v39 = 22 then (f_law_c22 L xs K r1 r2 r3 x4 s) else
  if v39 = 23 then (f_law_c23 L xs K r1 r2 r3 x4 s) else
  if v39 = 24 then (f_law_c24 L xs K r1 r2 r3 x4 s) else
  if v39 = 25 then (f_law_c25 L xs K r1 r2 r3 x4 s) else
  if v39 = 26 then (f_law_c26 L xs K r1 r2 r3 x4 s) else
  if v39 = 27 then (f_law_c27 L xs K r1 r2 r3 x4 s) else
  if v39 = 28 then (f_law_c28 L xs K r1 r2 r3 x4 s) else
  if v39 = 29 then (f_law_c29 L xs K r1 r2 r3 x4 s) else
  if v39 = 30 then (f_law_c30 L xs K r1 r2 r3 x4 s) else
  if v39 = 31 then (f_law_c31 L xs K r1 r2 r3 x4 s) else
  if v39 = 32 then (f_law_c32 L xs K r1 r2 r3 x4 s) else
  if v39 = 33 then (f_law_c33 L xs K r1 r2 r3 x4 s) else
  if v39 = 34 then (f_law_c34 L xs K r1 r2 r3 x4 s) else
  if v39 = 35 then (f_law_c35 L xs K r1 r2 r3 x4 s) else
  if v39 = 36 then (f_law_c36 L xs K r1 r2 r3 x4 s) else
  if v39 = 37 then (f_law_c37 L xs K r1 r2 r3 x4 s) else
  if v39 = 38 then (f_law_c38 L xs K r1 r2 r3 x4 s) else
  if v39 = 39 then (f_law_c39 L xs K r1 r2 r3 x4 s) else
  if v39 = 40 then (f_law_c40 L xs K r1 r2 r3 x4 s) else
  if v39 = 41 then (f_law_c41 L xs K r1 r2 r3 x4 s) else
  if v39 = 42 then (f_law_c42 L xs K r1 r2 r3 x4 s) else
  if v39 = 43 then (f_law_c43 L xs K r1 r2 r3 x4 s) else
  if v39 = 44 then (f_law_c44 L xs K r1 r2 r3 x4 s) else
  if v39 = 45 then (f_law_c45 L xs K r1 r2 r3 x4 s) else
  if v39 = 46 then (f_law_c46 L xs K r1 r2 r3 x4 s) else
  if v39 = 47 then (f_law_c47 L xs K r1 r2 r3 x4 s) else
  if v39 = 48 then (f_law_c48 L xs K r1 r2 r3 x4 s) else
  if v39 = 49 then (f_law_c49 L xs K r1 r2 r3 x4 s) else
  K r1 r2 r3 x4 s
set_option maxHeartbeats 4000000 in
theorem lw_hd {p : Program} {l : Launch} {e : Env} {s0 : State} {m : MethodId} {b L : Nat} {xs : Nat → Int32} {below : List Frame} {meth : Method} {c : Code} {G : GM} (hlt : l.stackTraces = false) (hC : CX p s0 m #[Value.ref b] meth c G (fun q => s0.heap.size ≤ q) code R_law 8) (hr : meth.sig.returnType = ret) (hX : va_X b L xs s0 s0.heap) (hbl : b < s0.heap.size) {K : Nat → Nat → Nat → Int32 → ST → Option Unit} {kc ks : Nat} (hkc : kc + 20 ≤ 603072) (hks : ks + 300 ≤ 7067754) (hK : KL p l e s0 m b below meth c G K (kc + 20) (ks + 300) 1752) : KL p l e s0 m b below meth c G (f_law_hd L xs K) kc ks 23 := by
  intro a r1 r2 r3 x4 s hf H locs ls hl hW
  have hx := hC.1
  have hb := hC.2.1
  have hts := hC.2.2.2.2.1
  unfold f_law_hd at hf
  refine lv_iload hx hb dL_law_23 (lv_at hl 4 rfl) ?_
  refine lv_aload_n hx hb dL_law_25 rfl (lv_at hl 0 rfl) ?_
  refine lw_xlen hx hb hX hbl hW dL_law_26 ?_
  refine lv_iconst (v := 5) hx hb dL_law_27 (by decide) ?_
  refine lv_isub hx hb dL_law_28 ?_
  refine lv_icmp_gt (tgt := 1758) hx hb dL_law_29 (by decide) (fun c29 => ?_) (fun c29 => ?_)
  · have hf := ifp c29 hf
    refine lv_iconst (v := 1) hx hb dL_law_1758 (by decide) ?_
    exact lw_end hC rfl hr hW (by omega) (by omega) dL_law_1759
  · have hf := ifn c29 hf
    refine lv_aload_n hx hb dL_law_32 rfl (lv_at hl 0 rfl) ?_
    refine lv_iload hx hb dL_law_33 (lv_at hl 4 rfl) ?_
    obtain ⟨g35, hf⟩ := gd_some hf
    refine lw_xld hx hb hX hbl hW g35 dL_law_35 ?_
    refine lv_bipush (v := 63) hx hb dL_law_36 (by decide) ?_
    refine lv_iand hx hb dL_law_38 ?_
    obtain ⟨v39, ev39, hf⟩ := bnd_some hf
    refine top_i ev39 ?_
    by_cases c39 : v39 = 0
    · have hf := ifp c39 hf
      refine lv_tableIn (tgt := 252) hx hb dL_law_39 (by rw [c39]; decide) (by rw [c39]; decide) (by rw [c39]; rfl) (by decide) ?_
      exact lc_0 hlt hC hr hX hbl hkc hks hK a r1 r2 r3 x4 s hf _ _ _ (lv_sub hl [0, 1, 2, 3, 4] rfl) hW
    have hf := ifn c39 hf
    by_cases c39_1 : v39 = 1
    · have hf := ifp c39_1 hf
      refine lv_tableIn (tgt := 277) hx hb dL_law_39 (by rw [c39_1]; decide) (by rw [c39_1]; decide) (by rw [c39_1]; rfl) (by decide) ?_
      exact lc_1 hlt hC hr hX hbl hkc hks hK a r1 r2 r3 x4 s hf _ _ _ (lv_sub hl [0, 1, 2, 3, 4] rfl) hW
    have hf := ifn c39_1 hf
    by_cases c39_2 : v39 = 2
    · have hf := ifp c39_2 hf
      refine lv_tableIn (tgt := 302) hx hb dL_law_39 (by rw [c39_2]; decide) (by rw [c39_2]; decide) (by rw [c39_2]; rfl) (by decide) ?_
      exact lc_2 hlt hC hr hX hbl hkc hks hK a r1 r2 r3 x4 s hf _ _ _ (lv_sub hl [0, 1, 2, 3, 4] rfl) hW
    have hf := ifn c39_2 hf
    by_cases c39_3 : v39 = 3
    · have hf := ifp c39_3 hf
      refine lv_tableIn (tgt := 315) hx hb dL_law_39 (by rw [c39_3]; decide) (by rw [c39_3]; decide) (by rw [c39_3]; rfl) (by decide) ?_
      exact lc_3 hlt hC hr hX hbl hkc hks hK a r1 r2 r3 x4 s hf _ _ _ (lv_sub hl [0, 1, 2, 3, 4] rfl) hW
    have hf := ifn c39_3 hf
    by_cases c39_4 : v39 = 4
    · have hf := ifp c39_4 hf
      refine lv_tableIn (tgt := 328) hx hb dL_law_39 (by rw [c39_4]; decide) (by rw [c39_4]; decide) (by rw [c39_4]; rfl) (by decide) ?_
      exact lc_4 hlt hC hr hX hbl hkc hks hK a r1 r2 r3 x4 s hf _ _ _ (lv_sub hl [0, 1, 2, 3, 4] rfl) hW
    have hf := ifn c39_4 hf
    by_cases c39_5 : v39 = 5
    · have hf := ifp c39_5 hf
      refine lv_tableIn (tgt := 353) hx hb dL_law_39 (by rw [c39_5]; decide) (by rw [c39_5]; decide) (by rw [c39_5]; rfl) (by decide) ?_
      exact lc_5 hlt hC hr hX hbl hkc hks hK a r1 r2 r3 x4 s hf _ _ _ (lv_sub hl [0, 1, 2, 3, 4] rfl) hW
    have hf := ifn c39_5 hf
    by_cases c39_6 : v39 = 6
    · have hf := ifp c39_6 hf
      refine lv_tableIn (tgt := 421) hx hb dL_law_39 (by rw [c39_6]; decide) (by rw [c39_6]; decide) (by rw [c39_6]; rfl) (by decide) ?_
      exact lc_6 hlt hC hr hX hbl hkc hks hK a r1 r2 r3 x4 s hf _ _ _ (lv_sub hl [0, 1, 2, 3, 4] rfl) hW
    have hf := ifn c39_6 hf
    by_cases c39_7 : v39 = 7
    · have hf := ifp c39_7 hf
      refine lv_tableIn (tgt := 489) hx hb dL_law_39 (by rw [c39_7]; decide) (by rw [c39_7]; decide) (by rw [c39_7]; rfl) (by decide) ?_
      exact lc_7 hlt hC hr hX hbl hkc hks hK a r1 r2 r3 x4 s hf _ _ _ (lv_sub hl [0, 1, 2, 3, 4] rfl) hW
    have hf := ifn c39_7 hf
    by_cases c39_8 : v39 = 8
    · have hf := ifp c39_8 hf
      refine lv_tableIn (tgt := 538) hx hb dL_law_39 (by rw [c39_8]; decide) (by rw [c39_8]; decide) (by rw [c39_8]; rfl) (by decide) ?_
      exact lc_8 hlt hC hr hX hbl hkc hks hK a r1 r2 r3 x4 s hf _ _ _ (lv_sub hl [0, 1, 2, 3, 4] rfl) hW
    have hf := ifn c39_8 hf
    by_cases c39_9 : v39 = 9
    · have hf := ifp c39_9 hf
      refine lv_tableIn (tgt := 575) hx hb dL_law_39 (by rw [c39_9]; decide) (by rw [c39_9]; decide) (by rw [c39_9]; rfl) (by decide) ?_
      exact lc_9 hlt hC hr hX hbl hkc hks hK a r1 r2 r3 x4 s hf _ _ _ (lv_sub hl [0, 1, 2, 3, 4] rfl) hW
    have hf := ifn c39_9 hf
    by_cases c39_10 : v39 = 10
    · have hf := ifp c39_10 hf
      refine lv_tableIn (tgt := 636) hx hb dL_law_39 (by rw [c39_10]; decide) (by rw [c39_10]; decide) (by rw [c39_10]; rfl) (by decide) ?_
      exact lc_10 hlt hC hr hX hbl hkc hks hK a r1 r2 r3 x4 s hf _ _ _ (lv_sub hl [0, 1, 2, 3, 4] rfl) hW
    have hf := ifn c39_10 hf
    by_cases c39_11 : v39 = 11
    · have hf := ifp c39_11 hf
      refine lv_tableIn (tgt := 661) hx hb dL_law_39 (by rw [c39_11]; decide) (by rw [c39_11]; decide) (by rw [c39_11]; rfl) (by decide) ?_
      exact lc_11 hlt hC hr hX hbl hkc hks hK a r1 r2 r3 x4 s hf _ _ _ (lv_sub hl [0, 1, 2, 3, 4] rfl) hW
    have hf := ifn c39_11 hf
    by_cases c39_12 : v39 = 12
    · have hf := ifp c39_12 hf
      refine lv_tableIn (tgt := 686) hx hb dL_law_39 (by rw [c39_12]; decide) (by rw [c39_12]; decide) (by rw [c39_12]; rfl) (by decide) ?_
      exact lc_12 hlt hC hr hX hbl hkc hks hK a r1 r2 r3 x4 s hf _ _ _ (lv_sub hl [0, 1, 2, 3, 4] rfl) hW
    have hf := ifn c39_12 hf
    by_cases c39_13 : v39 = 13
    · have hf := ifp c39_13 hf
      refine lv_tableIn (tgt := 699) hx hb dL_law_39 (by rw [c39_13]; decide) (by rw [c39_13]; decide) (by rw [c39_13]; rfl) (by decide) ?_
      exact lc_13 hlt hC hr hX hbl hkc hks hK a r1 r2 r3 x4 s hf _ _ _ (lv_sub hl [0, 1, 2, 3, 4] rfl) hW
    have hf := ifn c39_13 hf
    by_cases c39_14 : v39 = 14
    · have hf := ifp c39_14 hf
      refine lv_tableIn (tgt := 712) hx hb dL_law_39 (by rw [c39_14]; decide) (by rw [c39_14]; decide) (by rw [c39_14]; rfl) (by decide) ?_
      exact lc_14 hlt hC hr hX hbl hkc hks hK a r1 r2 r3 x4 s hf _ _ _ (lv_sub hl [0, 1, 2, 3, 4] rfl) hW
    have hf := ifn c39_14 hf
    by_cases c39_15 : v39 = 15
    · have hf := ifp c39_15 hf
      refine lv_tableIn (tgt := 780) hx hb dL_law_39 (by rw [c39_15]; decide) (by rw [c39_15]; decide) (by rw [c39_15]; rfl) (by decide) ?_
      exact lc_15 hlt hC hr hX hbl hkc hks hK a r1 r2 r3 x4 s hf _ _ _ (lv_sub hl [0, 1, 2, 3, 4] rfl) hW
    have hf := ifn c39_15 hf
    by_cases c39_16 : v39 = 16
    · have hf := ifp c39_16 hf
      refine lv_tableIn (tgt := 817) hx hb dL_law_39 (by rw [c39_16]; decide) (by rw [c39_16]; decide) (by rw [c39_16]; rfl) (by decide) ?_
      exact lc_16 hlt hC hr hX hbl hkc hks hK a r1 r2 r3 x4 s hf _ _ _ (lv_sub hl [0, 1, 2, 3, 4] rfl) hW
    have hf := ifn c39_16 hf
    by_cases c39_17 : v39 = 17
    · have hf := ifp c39_17 hf
      refine lv_tableIn (tgt := 854) hx hb dL_law_39 (by rw [c39_17]; decide) (by rw [c39_17]; decide) (by rw [c39_17]; rfl) (by decide) ?_
      exact lc_17 hlt hC hr hX hbl hkc hks hK a r1 r2 r3 x4 s hf _ _ _ (lv_sub hl [0, 1, 2, 3, 4] rfl) hW
    have hf := ifn c39_17 hf
    by_cases c39_18 : v39 = 18
    · have hf := ifp c39_18 hf
      refine lv_tableIn (tgt := 879) hx hb dL_law_39 (by rw [c39_18]; decide) (by rw [c39_18]; decide) (by rw [c39_18]; rfl) (by decide) ?_
      exact lc_18 hlt hC hr hX hbl hkc hks hK a r1 r2 r3 x4 s hf _ _ _ (lv_sub hl [0, 1, 2, 3, 4] rfl) hW
    have hf := ifn c39_18 hf
    by_cases c39_19 : v39 = 19
    · have hf := ifp c39_19 hf
      refine lv_tableIn (tgt := 892) hx hb dL_law_39 (by rw [c39_19]; decide) (by rw [c39_19]; decide) (by rw [c39_19]; rfl) (by decide) ?_
      exact lc_19 hlt hC hr hX hbl hkc hks hK a r1 r2 r3 x4 s hf _ _ _ (lv_sub hl [0, 1, 2, 3, 4] rfl) hW
    have hf := ifn c39_19 hf
    by_cases c39_20 : v39 = 20
    · have hf := ifp c39_20 hf
      refine lv_tableIn (tgt := 917) hx hb dL_law_39 (by rw [c39_20]; decide) (by rw [c39_20]; decide) (by rw [c39_20]; rfl) (by decide) ?_
      exact lc_20 hlt hC hr hX hbl hkc hks hK a r1 r2 r3 x4 s hf _ _ _ (lv_sub hl [0, 1, 2, 3, 4] rfl) hW
    have hf := ifn c39_20 hf
    by_cases c39_21 : v39 = 21
    · have hf := ifp c39_21 hf
      refine lv_tableIn (tgt := 954) hx hb dL_law_39 (by rw [c39_21]; decide) (by rw [c39_21]; decide) (by rw [c39_21]; rfl) (by decide) ?_
      exact lc_21 hlt hC hr hX hbl hkc hks hK a r1 r2 r3 x4 s hf _ _ _ (lv_sub hl [0, 1, 2, 3, 4] rfl) hW
    have hf := ifn c39_21 hf
    by_cases c39_22 : v39 = 22
    · have hf := ifp c39_22 hf
      refine lv_tableIn (tgt := 979) hx hb dL_law_39 (by rw [c39_22]; decide) (by rw [c39_22]; decide) (by rw [c39_22]; rfl) (by decide) ?_
      exact lc_22 hlt hC hr hX hbl hkc hks hK a r1 r2 r3 x4 s hf _ _ _ (lv_sub hl [0, 1, 2, 3, 4] rfl) hW
    have hf := ifn c39_22 hf
    by_cases c39_23 : v39 = 23
    · have hf := ifp c39_23 hf
      refine lv_tableIn (tgt := 1004) hx hb dL_law_39 (by rw [c39_23]; decide) (by rw [c39_23]; decide) (by rw [c39_23]; rfl) (by decide) ?_
      exact lc_23 hlt hC hr hX hbl hkc hks hK a r1 r2 r3 x4 s hf _ _ _ (lv_sub hl [0, 1, 2, 3, 4] rfl) hW
    have hf := ifn c39_23 hf
    by_cases c39_24 : v39 = 24
    · have hf := ifp c39_24 hf
      refine lv_tableIn (tgt := 1029) hx hb dL_law_39 (by rw [c39_24]; decide) (by rw [c39_24]; decide) (by rw [c39_24]; rfl) (by decide) ?_
      exact lc_24 hlt hC hr hX hbl hkc hks hK a r1 r2 r3 x4 s hf _ _ _ (lv_sub hl [0, 1, 2, 3, 4] rfl) hW
    have hf := ifn c39_24 hf
    by_cases c39_25 : v39 = 25
    · have hf := ifp c39_25 hf
      refine lv_tableIn (tgt := 1066) hx hb dL_law_39 (by rw [c39_25]; decide) (by rw [c39_25]; decide) (by rw [c39_25]; rfl) (by decide) ?_
      exact lc_25 hlt hC hr hX hbl hkc hks hK a r1 r2 r3 x4 s hf _ _ _ (lv_sub hl [0, 1, 2, 3, 4] rfl) hW
    have hf := ifn c39_25 hf
    by_cases c39_26 : v39 = 26
    · have hf := ifp c39_26 hf
      refine lv_tableIn (tgt := 1103) hx hb dL_law_39 (by rw [c39_26]; decide) (by rw [c39_26]; decide) (by rw [c39_26]; rfl) (by decide) ?_
      exact lc_26 hlt hC hr hX hbl hkc hks hK a r1 r2 r3 x4 s hf _ _ _ (lv_sub hl [0, 1, 2, 3, 4] rfl) hW
    have hf := ifn c39_26 hf
    by_cases c39_27 : v39 = 27
    · have hf := ifp c39_27 hf
      refine lv_tableIn (tgt := 1128) hx hb dL_law_39 (by rw [c39_27]; decide) (by rw [c39_27]; decide) (by rw [c39_27]; rfl) (by decide) ?_
      exact lc_27 hlt hC hr hX hbl hkc hks hK a r1 r2 r3 x4 s hf _ _ _ (lv_sub hl [0, 1, 2, 3, 4] rfl) hW
    have hf := ifn c39_27 hf
    by_cases c39_28 : v39 = 28
    · have hf := ifp c39_28 hf
      refine lv_tableIn (tgt := 1165) hx hb dL_law_39 (by rw [c39_28]; decide) (by rw [c39_28]; decide) (by rw [c39_28]; rfl) (by decide) ?_
      exact lc_28 hlt hC hr hX hbl hkc hks hK a r1 r2 r3 x4 s hf _ _ _ (lv_sub hl [0, 1, 2, 3, 4] rfl) hW
    have hf := ifn c39_28 hf
    by_cases c39_29 : v39 = 29
    · have hf := ifp c39_29 hf
      refine lv_tableIn (tgt := 1233) hx hb dL_law_39 (by rw [c39_29]; decide) (by rw [c39_29]; decide) (by rw [c39_29]; rfl) (by decide) ?_
      exact lc_29 hlt hC hr hX hbl hkc hks hK a r1 r2 r3 x4 s hf _ _ _ (lv_sub hl [0, 1, 2, 3, 4] rfl) hW
    have hf := ifn c39_29 hf
    by_cases c39_30 : v39 = 30
    · have hf := ifp c39_30 hf
      refine lv_tableIn (tgt := 1258) hx hb dL_law_39 (by rw [c39_30]; decide) (by rw [c39_30]; decide) (by rw [c39_30]; rfl) (by decide) ?_
      exact lc_30 hlt hC hr hX hbl hkc hks hK a r1 r2 r3 x4 s hf _ _ _ (lv_sub hl [0, 1, 2, 3, 4] rfl) hW
    have hf := ifn c39_30 hf
    by_cases c39_31 : v39 = 31
    · have hf := ifp c39_31 hf
      refine lv_tableIn (tgt := 1295) hx hb dL_law_39 (by rw [c39_31]; decide) (by rw [c39_31]; decide) (by rw [c39_31]; rfl) (by decide) ?_
      exact lc_31 hlt hC hr hX hbl hkc hks hK a r1 r2 r3 x4 s hf _ _ _ (lv_sub hl [0, 1, 2, 3, 4] rfl) hW
    have hf := ifn c39_31 hf
    by_cases c39_32 : v39 = 32
    · have hf := ifp c39_32 hf
      refine lv_tableIn (tgt := 1332) hx hb dL_law_39 (by rw [c39_32]; decide) (by rw [c39_32]; decide) (by rw [c39_32]; rfl) (by decide) ?_
      exact lc_32 hlt hC hr hX hbl hkc hks hK a r1 r2 r3 x4 s hf _ _ _ (lv_sub hl [0, 1, 2, 3, 4] rfl) hW
    have hf := ifn c39_32 hf
    by_cases c39_33 : v39 = 33
    · have hf := ifp c39_33 hf
      refine lv_tableIn (tgt := 1345) hx hb dL_law_39 (by rw [c39_33]; decide) (by rw [c39_33]; decide) (by rw [c39_33]; rfl) (by decide) ?_
      exact lc_33 hlt hC hr hX hbl hkc hks hK a r1 r2 r3 x4 s hf _ _ _ (lv_sub hl [0, 1, 2, 3, 4] rfl) hW
    have hf := ifn c39_33 hf
    by_cases c39_34 : v39 = 34
    · have hf := ifp c39_34 hf
      refine lv_tableIn (tgt := 1382) hx hb dL_law_39 (by rw [c39_34]; decide) (by rw [c39_34]; decide) (by rw [c39_34]; rfl) (by decide) ?_
      exact lc_34 hlt hC hr hX hbl hkc hks hK a r1 r2 r3 x4 s hf _ _ _ (lv_sub hl [0, 1, 2, 3, 4] rfl) hW
    have hf := ifn c39_34 hf
    by_cases c39_35 : v39 = 35
    · have hf := ifp c39_35 hf
      refine lv_tableIn (tgt := 1395) hx hb dL_law_39 (by rw [c39_35]; decide) (by rw [c39_35]; decide) (by rw [c39_35]; rfl) (by decide) ?_
      exact lc_35 hlt hC hr hX hbl hkc hks hK a r1 r2 r3 x4 s hf _ _ _ (lv_sub hl [0, 1, 2, 3, 4] rfl) hW
    have hf := ifn c39_35 hf
    by_cases c39_36 : v39 = 36
    · have hf := ifp c39_36 hf
      refine lv_tableIn (tgt := 1408) hx hb dL_law_39 (by rw [c39_36]; decide) (by rw [c39_36]; decide) (by rw [c39_36]; rfl) (by decide) ?_
      exact lc_36 hlt hC hr hX hbl hkc hks hK a r1 r2 r3 x4 s hf _ _ _ (lv_sub hl [0, 1, 2, 3, 4] rfl) hW
    have hf := ifn c39_36 hf
    by_cases c39_37 : v39 = 37
    · have hf := ifp c39_37 hf
      refine lv_tableIn (tgt := 1433) hx hb dL_law_39 (by rw [c39_37]; decide) (by rw [c39_37]; decide) (by rw [c39_37]; rfl) (by decide) ?_
      exact lc_37 hlt hC hr hX hbl hkc hks hK a r1 r2 r3 x4 s hf _ _ _ (lv_sub hl [0, 1, 2, 3, 4] rfl) hW
    have hf := ifn c39_37 hf
    by_cases c39_38 : v39 = 38
    · have hf := ifp c39_38 hf
      refine lv_tableIn (tgt := 1446) hx hb dL_law_39 (by rw [c39_38]; decide) (by rw [c39_38]; decide) (by rw [c39_38]; rfl) (by decide) ?_
      exact lc_38 hlt hC hr hX hbl hkc hks hK a r1 r2 r3 x4 s hf _ _ _ (lv_sub hl [0, 1, 2, 3, 4] rfl) hW
    have hf := ifn c39_38 hf
    by_cases c39_39 : v39 = 39
    · have hf := ifp c39_39 hf
      refine lv_tableIn (tgt := 1459) hx hb dL_law_39 (by rw [c39_39]; decide) (by rw [c39_39]; decide) (by rw [c39_39]; rfl) (by decide) ?_
      exact lc_39 hlt hC hr hX hbl hkc hks hK a r1 r2 r3 x4 s hf _ _ _ (lv_sub hl [0, 1, 2, 3, 4] rfl) hW
    have hf := ifn c39_39 hf
    by_cases c39_40 : v39 = 40
    · have hf := ifp c39_40 hf
      refine lv_tableIn (tgt := 1496) hx hb dL_law_39 (by rw [c39_40]; decide) (by rw [c39_40]; decide) (by rw [c39_40]; rfl) (by decide) ?_
      exact lc_40 hlt hC hr hX hbl hkc hks hK a r1 r2 r3 x4 s hf _ _ _ (lv_sub hl [0, 1, 2, 3, 4] rfl) hW
    have hf := ifn c39_40 hf
    by_cases c39_41 : v39 = 41
    · have hf := ifp c39_41 hf
      refine lv_tableIn (tgt := 1509) hx hb dL_law_39 (by rw [c39_41]; decide) (by rw [c39_41]; decide) (by rw [c39_41]; rfl) (by decide) ?_
      exact lc_41 hlt hC hr hX hbl hkc hks hK a r1 r2 r3 x4 s hf _ _ _ (lv_sub hl [0, 1, 2, 3, 4] rfl) hW
    have hf := ifn c39_41 hf
    by_cases c39_42 : v39 = 42
    · have hf := ifp c39_42 hf
      refine lv_tableIn (tgt := 1534) hx hb dL_law_39 (by rw [c39_42]; decide) (by rw [c39_42]; decide) (by rw [c39_42]; rfl) (by decide) ?_
      exact lc_42 hlt hC hr hX hbl hkc hks hK a r1 r2 r3 x4 s hf _ _ _ (lv_sub hl [0, 1, 2, 3, 4] rfl) hW
    have hf := ifn c39_42 hf
    by_cases c39_43 : v39 = 43
    · have hf := ifp c39_43 hf
      refine lv_tableIn (tgt := 1547) hx hb dL_law_39 (by rw [c39_43]; decide) (by rw [c39_43]; decide) (by rw [c39_43]; rfl) (by decide) ?_
      exact lc_43 hlt hC hr hX hbl hkc hks hK a r1 r2 r3 x4 s hf _ _ _ (lv_sub hl [0, 1, 2, 3, 4] rfl) hW
    have hf := ifn c39_43 hf
    by_cases c39_44 : v39 = 44
    · have hf := ifp c39_44 hf
      refine lv_tableIn (tgt := 1572) hx hb dL_law_39 (by rw [c39_44]; decide) (by rw [c39_44]; decide) (by rw [c39_44]; rfl) (by decide) ?_
      exact lc_44 hlt hC hr hX hbl hkc hks hK a r1 r2 r3 x4 s hf _ _ _ (lv_sub hl [0, 1, 2, 3, 4] rfl) hW
    have hf := ifn c39_44 hf
    by_cases c39_45 : v39 = 45
    · have hf := ifp c39_45 hf
      refine lv_tableIn (tgt := 1609) hx hb dL_law_39 (by rw [c39_45]; decide) (by rw [c39_45]; decide) (by rw [c39_45]; rfl) (by decide) ?_
      exact lc_45 hlt hC hr hX hbl hkc hks hK a r1 r2 r3 x4 s hf _ _ _ (lv_sub hl [0, 1, 2, 3, 4] rfl) hW
    have hf := ifn c39_45 hf
    by_cases c39_46 : v39 = 46
    · have hf := ifp c39_46 hf
      refine lv_tableIn (tgt := 1622) hx hb dL_law_39 (by rw [c39_46]; decide) (by rw [c39_46]; decide) (by rw [c39_46]; rfl) (by decide) ?_
      exact lc_46 hlt hC hr hX hbl hkc hks hK a r1 r2 r3 x4 s hf _ _ _ (lv_sub hl [0, 1, 2, 3, 4] rfl) hW
    have hf := ifn c39_46 hf
    by_cases c39_47 : v39 = 47
    · have hf := ifp c39_47 hf
      refine lv_tableIn (tgt := 1647) hx hb dL_law_39 (by rw [c39_47]; decide) (by rw [c39_47]; decide) (by rw [c39_47]; rfl) (by decide) ?_
      exact lc_47 hlt hC hr hX hbl hkc hks hK a r1 r2 r3 x4 s hf _ _ _ (lv_sub hl [0, 1, 2, 3, 4] rfl) hW
    have hf := ifn c39_47 hf
    by_cases c39_48 : v39 = 48
    · have hf := ifp c39_48 hf
      refine lv_tableIn (tgt := 1672) hx hb dL_law_39 (by rw [c39_48]; decide) (by rw [c39_48]; decide) (by rw [c39_48]; rfl) (by decide) ?_
      exact lc_48 hlt hC hr hX hbl hkc hks hK a r1 r2 r3 x4 s hf _ _ _ (lv_sub hl [0, 1, 2, 3, 4] rfl) hW
    have hf := ifn c39_48 hf
    by_cases c39_49 : v39 = 49
    · have hf := ifp c39_49 hf
      refine lv_tableIn (tgt := 1697) hx hb dL_law_39 (by rw [c39_49]; decide) (by rw [c39_49]; decide) (by rw [c39_49]; rfl) (by decide) ?_
      exact lc_49 hlt hC hr hX hbl hkc hks hK a r1 r2 r3 x4 s hf _ _ _ (lv_sub hl [0, 1, 2, 3, 4] rfl) hW
    have hf := ifn c39_49 hf
    have zc39 := lv_neT (a := 0) c39 (by decide)
    have zc39_1 := lv_neT (a := 1) c39_1 (by decide)
    have zc39_2 := lv_neT (a := 2) c39_2 (by decide)
    have zc39_3 := lv_neT (a := 3) c39_3 (by decide)
    have zc39_4 := lv_neT (a := 4) c39_4 (by decide)
    have zc39_5 := lv_neT (a := 5) c39_5 (by decide)
    have zc39_6 := lv_neT (a := 6) c39_6 (by decide)
    have zc39_7 := lv_neT (a := 7) c39_7 (by decide)
    have zc39_8 := lv_neT (a := 8) c39_8 (by decide)
    have zc39_9 := lv_neT (a := 9) c39_9 (by decide)
    have zc39_10 := lv_neT (a := 10) c39_10 (by decide)
    have zc39_11 := lv_neT (a := 11) c39_11 (by decide)
    have zc39_12 := lv_neT (a := 12) c39_12 (by decide)
    have zc39_13 := lv_neT (a := 13) c39_13 (by decide)
    have zc39_14 := lv_neT (a := 14) c39_14 (by decide)
    have zc39_15 := lv_neT (a := 15) c39_15 (by decide)
    have zc39_16 := lv_neT (a := 16) c39_16 (by decide)
    have zc39_17 := lv_neT (a := 17) c39_17 (by decide)
    have zc39_18 := lv_neT (a := 18) c39_18 (by decide)
    have zc39_19 := lv_neT (a := 19) c39_19 (by decide)
    have zc39_20 := lv_neT (a := 20) c39_20 (by decide)
    have zc39_21 := lv_neT (a := 21) c39_21 (by decide)
    have zc39_22 := lv_neT (a := 22) c39_22 (by decide)
    have zc39_23 := lv_neT (a := 23) c39_23 (by decide)
    have zc39_24 := lv_neT (a := 24) c39_24 (by decide)
    have zc39_25 := lv_neT (a := 25) c39_25 (by decide)
    have zc39_26 := lv_neT (a := 26) c39_26 (by decide)
    have zc39_27 := lv_neT (a := 27) c39_27 (by decide)
    have zc39_28 := lv_neT (a := 28) c39_28 (by decide)
    have zc39_29 := lv_neT (a := 29) c39_29 (by decide)
    have zc39_30 := lv_neT (a := 30) c39_30 (by decide)
    have zc39_31 := lv_neT (a := 31) c39_31 (by decide)
    have zc39_32 := lv_neT (a := 32) c39_32 (by decide)
    have zc39_33 := lv_neT (a := 33) c39_33 (by decide)
    have zc39_34 := lv_neT (a := 34) c39_34 (by decide)
    have zc39_35 := lv_neT (a := 35) c39_35 (by decide)
    have zc39_36 := lv_neT (a := 36) c39_36 (by decide)
    have zc39_37 := lv_neT (a := 37) c39_37 (by decide)
    have zc39_38 := lv_neT (a := 38) c39_38 (by decide)
    have zc39_39 := lv_neT (a := 39) c39_39 (by decide)
    have zc39_40 := lv_neT (a := 40) c39_40 (by decide)
    have zc39_41 := lv_neT (a := 41) c39_41 (by decide)
    have zc39_42 := lv_neT (a := 42) c39_42 (by decide)
    have zc39_43 := lv_neT (a := 43) c39_43 (by decide)
    have zc39_44 := lv_neT (a := 44) c39_44 (by decide)
    have zc39_45 := lv_neT (a := 45) c39_45 (by decide)
    have zc39_46 := lv_neT (a := 46) c39_46 (by decide)
    have zc39_47 := lv_neT (a := 47) c39_47 (by decide)
    have zc39_48 := lv_neT (a := 48) c39_48 (by decide)
    have zc39_49 := lv_neT (a := 49) c39_49 (by decide)
    refine lv_tableOut (tgt := 1752) hx hb dL_law_39 (by omega) (by decide) ?_
    refine W.widen (k := kc + 20) (n := ks + 300) (by omega) (by omega) ?_
    exact hK a r1 r2 r3 x4 s hf _ _ _ (lv_sub hl [0, 1, 2, 3, 4] rfl) hW
def f_law_nx (F : Nat → Nat → Nat → Int32 → ST → Option Unit) : Nat → Nat → Nat → Int32 → ST → Option Unit := fun r1 r2 r3 x4 s => bnd (x4 + 5 : Int32) fun v => F r1 r2 r3 v s
def f_law_head (L : Nat) (xs : Nat → Int32) : Nat → Nat → Nat → Nat → Int32 → ST → Option Unit
  | 0 => fun _ _ _ _ _ => none
  | n + 1 => f_law_hd L xs (f_law_nx (f_law_head L xs n))
theorem lw_loop {p : Program} {l : Launch} {e : Env} {s0 : State} {m : MethodId} {b L : Nat} {xs : Nat → Int32} {below : List Frame} {meth : Method} {c : Code} {G : GM} (hlt : l.stackTraces = false) (hC : CX p s0 m #[Value.ref b] meth c G (fun q => s0.heap.size ≤ q) code R_law 8) (hr : meth.sig.returnType = ret) (hX : va_X b L xs s0 s0.heap) (hbl : b < s0.heap.size) : ∀ (n kc ks : Nat), kc + 20 * n ≤ 603072 → ks + 300 * n ≤ 7067754 → KL p l e s0 m b below meth c G (f_law_head L xs n) kc ks 23 := by
  intro n
  induction n with
  | zero => intro kc ks _ _ a r1 r2 r3 x4 s hf; cases hf
  | succ n ih =>
    intro kc ks hkc hks
    refine lw_hd hlt hC hr hX hbl (by omega) (by omega) ?_
    intro a r1 r2 r3 x4 s hf H locs ls hl hW
    have hx := hC.1
    have hb := hC.2.1
    obtain ⟨v, ev, hf⟩ := bnd_some hf
    refine lv_iinc (v := v) (lv' := [(4, .int v), (0, .ref b), (1, .ref (a r1)), (2, .ref (a r2)), (3, .ref (a r3))]) hx hb dL_law_1752 hl (k := 4) rfl (by rw [ev]; rfl) (by decide) rfl (fun ls hl => ?_)
    refine lv_goto (tgt := 23) hx hb dL_law_1755 (by decide) ?_
    exact ih _ _ (by omega) (by omega) a r1 r2 r3 v s hf _ _ _ (lv_sub hl [1, 2, 3, 4, 0] rfl) hW
theorem okT_X1 : ∀ j, j < 40 → okT (tF 0 j) = true := by decide +kernel
theorem okT_X14 : ∀ j, j < 46 → okT (tF 13 j) = true := by decide +kernel
theorem iy_X1_init : IY yX1_init cX1_init 2 0 := ⟨q110, rfl, q75, q111, ⟨by decide +kernel, by decide +kernel, by decide +kernel⟩⟩
theorem iy_X14_init : IY yX14_init cX14_init 1 0 := ⟨q1363, rfl, q88, q1364, ⟨by decide +kernel, by decide +kernel, by decide +kernel⟩⟩
def f_law_in (K : Nat → Nat → Nat → Int32 → ST → Option Unit) (s : ST) : Option Unit :=
  bnd (nw s 1 0 (fun _ => 0)) fun s0z =>
  gd (s.1 < s0z.1) <|
  ob (f_X1_init s.1 s0z) fun _ s4 =>
  gd (s.1 < s4.1) <|
  bnd (nw s4 14 0 (fun _ => 0)) fun s8 =>
  gd (s.1 < s8.1) <|
  gd (s4.1 < s8.1) <|
  ob (f_X14_init s4.1 s8) fun _ s12 =>
  gd (s4.1 < s12.1) <|
  gd (s.1 < s12.1) <|
  bnd (nw s12 104 1 (fun _ => 0)) fun s17 =>
  K s.1 s4.1 s12.1 0 s17
set_option maxHeartbeats 4000000 in
theorem lw_in0 {p : Program} {l : Launch} {e : Env} {s0 : State} {m : MethodId} {b L : Nat} {xs : Nat → Int32} {below : List Frame} {meth : Method} {c : Code} {G : GM} (hlt : l.stackTraces = false) (hC : CX p s0 m #[Value.ref b] meth c G (fun q => s0.heap.size ≤ q) code R_law 8) (hr : meth.sig.returnType = ret) (hX : va_X b L xs s0 s0.heap) (hbl : b < s0.heap.size) {K : Nat → Nat → Nat → Int32 → ST → Option Unit} (hK : KL p l e s0 m b below meth c G K 300 8000 23) (a : Nat → Nat) (s : ST) (hf : f_law_in K s = some ()) (ls : Array Slot) (hl : lv_has ls 8 [(0, .ref b)]) (hW : AW G a (fun q => s0.heap.size ≤ q) s s0.heap s0.heap []) : W p l e room_1 s0 m #[Value.ref b] below meth c s0.heap [] 0 0 (lw_Z below #[Value.ref b] s0) (F0 m 0 ls []) := by
  have hx := hC.1
  have hb := hC.2.1
  have hts := hC.2.2.2.2.1
  obtain ⟨N0, hN0⟩ : ∃ N0, N0 = 0 := ⟨_, rfl⟩
  have hE : EX a a N0 := EX.rf
  have hN : N0 ≤ s.1 := by omega
  unfold f_law_in at hf
  obtain ⟨s0z, e0, hf⟩ := bnd_some hf
  refine aw_new (q := (RX1, TX1, 40)) (ci := 0) hC hW rfl q107 q108 q75 okT_X1 (Nat.le_of_ble_eq_true rfl) (Nat.le_of_ble_eq_true rfl) dL_law_0 (fun a0 H hE1 hW => ?_)
  have hE : EX a a0 N0 := hE.trans hE1 hN
  have hN := n_nw e0 hN
  have hW := aw_eq e0 hW
  refine W.eq (g2 := F0 m 3 ls [.ref (a0 s.1)]) rfl ?_
  refine W.widen (k := 1) (n := 40) (Nat.le_of_ble_eq_true rfl) (Nat.le_of_ble_eq_true rfl) ?_
  have gn0 := ko_new e0
  refine lv_dup hx hb dL_law_3 rfl ?_
  obtain ⟨gr4, hf⟩ := gd_some hf
  obtain ⟨_, s4, h4, hf⟩ := ob_some hf
  refine aw_run hC hW (aw_runI hC hW hl.1 (r := s.1) (As := []) (rest := [.ref (a0 s.1)]) (cta_X1_init l G a0 s.1 s0z () s4 h4) iy_X1_init (Or.inl q109) rfl rfl (Nat.le_of_ble_eq_true rfl) ⟨Nat.le_of_ble_eq_true rfl, Nat.le_of_ble_eq_true rfl⟩ ⟨Nat.le_of_ble_eq_true rfl, Nat.le_of_ble_eq_true rfl⟩ dL_law_4) (fun v9 a4 s9 H locs hp9 hW => ?_)
  obtain ⟨rfl, h9s, hE1, hN1⟩ := hp9
  rw [h9s] at hW
  have hE : EX a a4 N0 := hE.trans hE1 hN
  have hN := Nat.le_trans hN hN1
  refine W.eq (g2 := F0 m 7 ls [.ref (a4 s.1)]) (by show F0 m 7 ls [.ref (a0 s.1)] = _; simp only [hE1 _ gr4]) ?_
  refine W.widen (k := 235) (n := 3579) (Nat.le_of_ble_eq_true rfl) (Nat.le_of_ble_eq_true rfl) ?_
  refine lv_astore_n (lv' := [(1, .ref (a4 s.1)), (0, .ref b)]) hx hb dL_law_7 rfl hl (by decide) rfl (fun ls hl => ?_)
  obtain ⟨gr8, hf⟩ := gd_some hf
  obtain ⟨s8, e8, hf⟩ := bnd_some hf
  refine aw_new (q := (RX14, TX14, 46)) (ci := 13) hC hW rfl q1360 q1361 q88 okT_X14 (Nat.le_of_ble_eq_true rfl) (Nat.le_of_ble_eq_true rfl) dL_law_8 (fun a8 H hE1 hW => ?_)
  have hE : EX a a8 N0 := hE.trans hE1 hN
  have hN := n_nw e8 hN
  have hW := aw_eq e8 hW
  have hl : lv_has ls 8 [(1, .ref (a8 s.1)), (0, .ref b)] := by simp only [hE1 _ gr8]; exact hl
  refine W.eq (g2 := F0 m 11 ls [.ref (a8 s4.1)]) rfl ?_
  refine W.widen (k := 236) (n := 3625) (Nat.le_of_ble_eq_true rfl) (Nat.le_of_ble_eq_true rfl) ?_
  have gn8 := ko_new e8
  refine lv_dup hx hb dL_law_11 rfl ?_
  obtain ⟨gr12, hf⟩ := gd_some hf
  obtain ⟨gr12_1, hf⟩ := gd_some hf
  obtain ⟨_, s12, h12, hf⟩ := ob_some hf
  refine aw_run hC hW (aw_runI hC hW hl.1 (r := s4.1) (As := []) (rest := [.ref (a8 s4.1)]) (cta_X14_init l G a8 s4.1 s8 () s12 h12) iy_X14_init (Or.inl q1362) rfl rfl (Nat.le_of_ble_eq_true rfl) ⟨Nat.le_of_ble_eq_true rfl, Nat.le_of_ble_eq_true rfl⟩ ⟨Nat.le_of_ble_eq_true rfl, Nat.le_of_ble_eq_true rfl⟩ dL_law_12) (fun v9 a12 s9 H locs hp9 hW => ?_)
  obtain ⟨rfl, h9s, hE1, hN1⟩ := hp9
  rw [h9s] at hW
  have hE : EX a a12 N0 := hE.trans hE1 hN
  have hN := Nat.le_trans hN hN1
  have hl : lv_has ls 8 [(1, .ref (a12 s.1)), (0, .ref b)] := by simp only [hE1 _ gr12, hE1 _ gr12_1]; exact hl
  refine W.eq (g2 := F0 m 15 ls [.ref (a12 s4.1)]) (by show F0 m 15 ls [.ref (a8 s4.1)] = _; simp only [hE1 _ gr12, hE1 _ gr12_1]) ?_
  refine W.widen (k := 265) (n := 7307) (Nat.le_of_ble_eq_true rfl) (Nat.le_of_ble_eq_true rfl) ?_
  refine lv_astore_n (lv' := [(2, .ref (a12 s4.1)), (1, .ref (a12 s.1)), (0, .ref b)]) hx hb dL_law_15 rfl hl (by decide) rfl (fun ls hl => ?_)
  refine lv_iconst (v := 1) hx hb dL_law_16 (by decide) ?_
  obtain ⟨gr17, hf⟩ := gd_some hf
  obtain ⟨gr17_1, hf⟩ := gd_some hf
  obtain ⟨s17, e17, hf⟩ := bnd_some hf
  refine aw_newI (atype := .long) (N := 1) 4 hC hW q210 rfl rfl (fun h => h) (cellL _) (by decide) rfl (Nat.le_of_ble_eq_true rfl) (Nat.le_of_ble_eq_true rfl) (Nat.le_of_ble_eq_true rfl) dL_law_17 (fun a17 H hE1 hW => ?_)
  have hE : EX a a17 N0 := hE.trans hE1 hN
  have hN := n_nw e17 hN
  have hW := aw_eq e17 hW
  have hl : lv_has ls 8 [(2, .ref (a17 s4.1)), (1, .ref (a17 s.1)), (0, .ref b)] := by simp only [hE1 _ gr17, hE1 _ gr17_1]; exact hl
  refine W.eq (g2 := F0 m 19 ls [.ref (a17 s12.1)]) rfl ?_
  refine W.widen (k := 266) (n := 7308) (Nat.le_of_ble_eq_true rfl) (Nat.le_of_ble_eq_true rfl) ?_
  refine lv_astore_n (lv' := [(3, .ref (a17 s12.1)), (2, .ref (a17 s4.1)), (1, .ref (a17 s.1)), (0, .ref b)]) hx hb dL_law_19 rfl hl (by decide) rfl (fun ls hl => ?_)
  refine lv_iconst (v := 0) hx hb dL_law_20 (by decide) ?_
  refine lv_istore (lv' := [(4, .int 0), (3, .ref (a17 s12.1)), (2, .ref (a17 s4.1)), (1, .ref (a17 s.1)), (0, .ref b)]) hx hb dL_law_21 hl (by decide) rfl (fun ls hl => ?_)
  refine W.widen (k := 300) (n := 8000) (Nat.le_of_ble_eq_true rfl) (Nat.le_of_ble_eq_true rfl) ?_
  exact hK a17 s.1 s4.1 s12.1 0 s17 hf _ _ _ (lv_sub hl [4, 3, 2, 1, 0] rfl) hW
def st0 : ST := (0, fun _ => (0, 0), fun _ _ => 0, fun _ _ => 0, fun _ _ => none)
/-- the law, as a function of the script -/
def f_law (L : Nat) (xs : Nat → Int32) : Option Unit := f_law_in (f_law_head L xs 65) st0
theorem whole_of {p : Program} {e : Env} {s : State} {m : MethodId} {below : List Frame} {meth : Method} {c : Code} (l : Launch) (hflags : l.flags = flags0) {b L : Nat} {xs : Nat → Int32} (hlaw : f_law L xs = some ()) (C0 : lw_At p s m meth c b L xs) : W p l e room_1 s m #[Value.ref b] below meth c s.heap [] 0 0 (lw_Z below #[Value.ref b] s) (entryFrame m ([Value.ref b] : List Value).toArray 8) := by
  obtain ⟨hx, hb, hr, hml, hown, hts, hX, hbl, hlocks, hgv⟩ := id C0
  have hlt : l.stackTraces = false := by unfold Launch.stackTraces; rw [hflags]; decide +kernel
  obtain ⟨G, hK, hSB, hG⟩ := st_SB hts hgv
  have hC : CX p s m #[Value.ref b] meth c G (fun q => s.heap.size ≤ q) code R_law 8 := ⟨hx, hb, hml, hown, fun w h => hts w (lw_all_tbl h), hK, hSB, fun q h => h, fun q h => by rw [hG]; exact h, hlocks⟩
  have hl := lv_entry ([.ref b]) (n := 8) (Nat.le_of_ble_eq_true rfl)
  rw [lg_entry_eq]
  generalize (lg_sl ([.ref b]) ++ List.replicate (8 - (lg_sl ([.ref b])).length) Slot.unset).toArray = ls at hl ⊢
  have hl : lv_has ls 8 [(0, .ref b)] := hl
  have hW : AW G (fun _ => 0) (fun q => s.heap.size ≤ q) st0 s.heap s.heap [] := by
    refine ⟨fun k q h => ?_, ⟨fun i j p q h => ?_, fun k q h => ?_⟩, va_S.rf, ?_⟩
    · simp [wl, st0] at h
    · simp [wl, st0] at h
    · simp [wl, st0] at h
    · refine ⟨fun r k q hr => ?_, fun r hr => ?_⟩
      · exact absurd (show (none : Option Nat) = some q from hr) (fun z => by cases z)
      · exact absurd hr (Nat.not_lt_zero _)
  exact lw_in0 hlt hC hr hX hbl (K := f_law_head L xs 65) (lw_loop hlt hC hr hX hbl 65 300 8000 (by omega) (by omega)) _ st0 hlaw ls hl hW
