set_option maxRecDepth 100000
def f_law_c20 (L : Nat) (xs : Nat → Int32) (K : Nat → Nat → Nat → Int32 → ST → Option Unit) (r1 r2 r3 : Nat) (x4 : Int32) (s : ST) : Option Unit :=
  gd (¬ (((x4 + 1) : Int32) < 0 ∨ L ≤ ((x4 + 1) : Int32).toNatClampNeg)) <|
  gd (¬ (((x4 + 2) : Int32) < 0 ∨ L ≤ ((x4 + 2) : Int32).toNatClampNeg)) <|
  gd (r1 < s.1 ∧ (kd s r1).1 = 1) <|
  ob (f_X1_later r1 (xs ((x4 + 1) : Int32).toNatClampNeg) (xs ((x4 + 2) : Int32).toNatClampNeg) s) fun v930 s930 =>
  gd (s.1 ≤ s930.1) <|
  gd (¬ (((x4 + 1) : Int32) < 0 ∨ L ≤ ((x4 + 1) : Int32).toNatClampNeg)) <|
  gd (¬ (((x4 + 2) : Int32) < 0 ∨ L ≤ ((x4 + 2) : Int32).toNatClampNeg)) <|
  gd (r2 < s930.1 ∧ (kd s930 r2).1 = 14) <|
  ob (f_X14_later r2 (xs ((x4 + 1) : Int32).toNatClampNeg) (xs ((x4 + 2) : Int32).toNatClampNeg) s930) fun v946 s946 =>
  gd (s930.1 ≤ s946.1) <|
  if v930 = v946 then (K r1 r2 r3 x4 s946) else none
set_option maxHeartbeats 4000000 in
theorem lc_20 {p : Program} {l : Launch} {e : Env} {s0 : State} {m : MethodId} {b L : Nat} {xs : Nat → Int32} {below : List Frame} {meth : Method} {c : Code} {G : GM} (hlt : l.stackTraces = false) (hC : CX p s0 m #[Value.ref b] meth c G (fun q => s0.heap.size ≤ q) code R_law 8) (hr : meth.sig.returnType = ret) (hX : va_X b L xs s0 s0.heap) (hbl : b < s0.heap.size) {K : Nat → Nat → Nat → Int32 → ST → Option Unit} {kc ks : Nat} (hkc : kc + 20 ≤ 603072) (hks : ks + 300 ≤ 7067754) (hK : KL p l e s0 m b below meth c G K (kc + 20) (ks + 300) 1752) : KL p l e s0 m b below meth c G (f_law_c20 L xs K) kc ks 917 := by
  intro a r1 r2 r3 x4 s hf H locs ls hl hW
  have hx := hC.1
  have hb := hC.2.1
  have hts := hC.2.2.2.2.1
  obtain ⟨N0, hN0⟩ : ∃ N0, N0 = 0 := ⟨_, rfl⟩
  have hE : EX a a N0 := EX.rf
  have hN : N0 ≤ s.1 := by omega
  unfold f_law_c20 at hf
  refine lv_aload_n hx hb dL_law_917 rfl (lv_at hl 1 rfl) ?_
  refine lv_aload_n hx hb dL_law_918 rfl (lv_at hl 0 rfl) ?_
  refine lv_iload hx hb dL_law_919 (lv_at hl 4 rfl) ?_
  refine lv_iconst (v := 1) hx hb dL_law_921 (by decide) ?_
  refine lv_iadd hx hb dL_law_922 ?_
  obtain ⟨g923, hf⟩ := gd_some hf
  refine lw_xld hx hb hX hbl hW g923 dL_law_923 ?_
  refine lv_aload_n hx hb dL_law_924 rfl (lv_at hl 0 rfl) ?_
  refine lv_iload hx hb dL_law_925 (lv_at hl 4 rfl) ?_
  refine lv_iconst (v := 2) hx hb dL_law_927 (by decide) ?_
  refine lv_iadd hx hb dL_law_928 ?_
  obtain ⟨g929, hf⟩ := gd_some hf
  refine lw_xld hx hb hX hbl hW g929 dL_law_929 ?_
  obtain ⟨g930, hf⟩ := gd_some hf
  obtain ⟨v930, s930, h930, hf⟩ := ob_some hf
  obtain ⟨hN1, hf⟩ := gd_some hf
  have hN := Nat.le_trans hN hN1
  refine aw_dV1 (r := r1) (As := [.int (xs ((x4 + 1) : Int32).toNatClampNeg), .int (xs ((x4 + 2) : Int32).toNatClampNeg)]) (rest := []) (ct_X1_later l G a r1 (xs ((x4 + 1) : Int32).toNatClampNeg) (xs ((x4 + 2) : Int32).toNatClampNeg) s v930 s930 h930) hC hW hl.1 vy_X1_later (Or.inl q1060) g930 rfl rfl rfl rfl (Nat.le_of_ble_eq_true rfl) ⟨Nat.le_of_ble_eq_true rfl, Nat.le_of_ble_eq_true rfl⟩ ⟨(by show kc ≤ 603072; omega), (by show ks ≤ 7067754; omega)⟩ dL_law_930 (fun H locs hW => ?_)
  refine lv_aload_n hx hb dL_law_933 rfl (lv_at hl 2 rfl) ?_
  refine lv_aload_n hx hb dL_law_934 rfl (lv_at hl 0 rfl) ?_
  refine lv_iload hx hb dL_law_935 (lv_at hl 4 rfl) ?_
  refine lv_iconst (v := 1) hx hb dL_law_937 (by decide) ?_
  refine lv_iadd hx hb dL_law_938 ?_
  obtain ⟨g939, hf⟩ := gd_some hf
  refine lw_xld hx hb hX hbl hW g939 dL_law_939 ?_
  refine lv_aload_n hx hb dL_law_940 rfl (lv_at hl 0 rfl) ?_
  refine lv_iload hx hb dL_law_941 (lv_at hl 4 rfl) ?_
  refine lv_iconst (v := 2) hx hb dL_law_943 (by decide) ?_
  refine lv_iadd hx hb dL_law_944 ?_
  obtain ⟨g945, hf⟩ := gd_some hf
  refine lw_xld hx hb hX hbl hW g945 dL_law_945 ?_
  obtain ⟨g946, hf⟩ := gd_some hf
  obtain ⟨v946, s946, h946, hf⟩ := ob_some hf
  obtain ⟨hN1, hf⟩ := gd_some hf
  have hN := Nat.le_trans hN hN1
  refine aw_dV1 (r := r2) (As := [.int (xs ((x4 + 1) : Int32).toNatClampNeg), .int (xs ((x4 + 2) : Int32).toNatClampNeg)]) (rest := [.int v930]) (ct_X14_later l G a r2 (xs ((x4 + 1) : Int32).toNatClampNeg) (xs ((x4 + 2) : Int32).toNatClampNeg) s930 v946 s946 h946) hC hW hl.1 vy_X14_later (Or.inl q1742) g946 rfl rfl rfl rfl (Nat.le_of_ble_eq_true rfl) ⟨Nat.le_of_ble_eq_true rfl, Nat.le_of_ble_eq_true rfl⟩ ⟨(by show kc ≤ 603072; omega), (by show ks ≤ 7067754; omega)⟩ dL_law_946 (fun H locs hW => ?_)
  refine lv_icmp_eq (tgt := 1752) hx hb dL_law_949 (by decide) (fun c949 => ?_) (fun c949 => ?_)
  · have hf := ifp c949 hf
    refine W.widen (k := kc + 20) (n := ks + 300) (by omega) (by omega) ?_
    exact hK a r1 r2 r3 x4 s946 hf _ _ _ (lv_sub hl [0, 1, 2, 3, 4] rfl) hW
  · have hf := ifn c949 hf
    refine lv_iconst (v := 0) hx hb dL_law_952 (by decide) ?_
    cases hf
def f_law_c21 (L : Nat) (xs : Nat → Int32) (K : Nat → Nat → Nat → Int32 → ST → Option Unit) (r1 r2 r3 : Nat) (x4 : Int32) (s : ST) : Option Unit :=
  gd (¬ (((x4 + 1) : Int32) < 0 ∨ L ≤ ((x4 + 1) : Int32).toNatClampNeg)) <|
  gd (r1 < s.1 ∧ (kd s r1).1 = 1) <|
  ob (f_X1_then r1 (xs ((x4 + 1) : Int32).toNatClampNeg) s) fun v961 s961 =>
  gd (s.1 ≤ s961.1) <|
  gd (¬ (((x4 + 1) : Int32) < 0 ∨ L ≤ ((x4 + 1) : Int32).toNatClampNeg)) <|
  gd (r2 < s961.1 ∧ (kd s961 r2).1 = 14) <|
  ob (f_X14_then r2 (xs ((x4 + 1) : Int32).toNatClampNeg) s961) fun v971 s971 =>
  gd (s961.1 ≤ s971.1) <|
  if v961 = v971 then (K r1 r2 r3 x4 s971) else none
set_option maxHeartbeats 4000000 in
theorem lc_21 {p : Program} {l : Launch} {e : Env} {s0 : State} {m : MethodId} {b L : Nat} {xs : Nat → Int32} {below : List Frame} {meth : Method} {c : Code} {G : GM} (hlt : l.stackTraces = false) (hC : CX p s0 m #[Value.ref b] meth c G (fun q => s0.heap.size ≤ q) code R_law 8) (hr : meth.sig.returnType = ret) (hX : va_X b L xs s0 s0.heap) (hbl : b < s0.heap.size) {K : Nat → Nat → Nat → Int32 → ST → Option Unit} {kc ks : Nat} (hkc : kc + 20 ≤ 603072) (hks : ks + 300 ≤ 7067754) (hK : KL p l e s0 m b below meth c G K (kc + 20) (ks + 300) 1752) : KL p l e s0 m b below meth c G (f_law_c21 L xs K) kc ks 954 := by
  intro a r1 r2 r3 x4 s hf H locs ls hl hW
  have hx := hC.1
  have hb := hC.2.1
  have hts := hC.2.2.2.2.1
  obtain ⟨N0, hN0⟩ : ∃ N0, N0 = 0 := ⟨_, rfl⟩
  have hE : EX a a N0 := EX.rf
  have hN : N0 ≤ s.1 := by omega
  unfold f_law_c21 at hf
  refine lv_aload_n hx hb dL_law_954 rfl (lv_at hl 1 rfl) ?_
  refine lv_aload_n hx hb dL_law_955 rfl (lv_at hl 0 rfl) ?_
  refine lv_iload hx hb dL_law_956 (lv_at hl 4 rfl) ?_
  refine lv_iconst (v := 1) hx hb dL_law_958 (by decide) ?_
  refine lv_iadd hx hb dL_law_959 ?_
  obtain ⟨g960, hf⟩ := gd_some hf
  refine lw_xld hx hb hX hbl hW g960 dL_law_960 ?_
  obtain ⟨g961, hf⟩ := gd_some hf
  obtain ⟨v961, s961, h961, hf⟩ := ob_some hf
  obtain ⟨hN1, hf⟩ := gd_some hf
  have hN := Nat.le_trans hN hN1
  refine aw_dV1 (r := r1) (As := [.int (xs ((x4 + 1) : Int32).toNatClampNeg)]) (rest := []) (ct_X1_then l G a r1 (xs ((x4 + 1) : Int32).toNatClampNeg) s v961 s961 h961) hC hW hl.1 vy_X1_then (Or.inl q1064) g961 rfl rfl rfl rfl (Nat.le_of_ble_eq_true rfl) ⟨Nat.le_of_ble_eq_true rfl, Nat.le_of_ble_eq_true rfl⟩ ⟨(by show kc ≤ 603072; omega), (by show ks ≤ 7067754; omega)⟩ dL_law_961 (fun H locs hW => ?_)
  refine lv_aload_n hx hb dL_law_964 rfl (lv_at hl 2 rfl) ?_
  refine lv_aload_n hx hb dL_law_965 rfl (lv_at hl 0 rfl) ?_
  refine lv_iload hx hb dL_law_966 (lv_at hl 4 rfl) ?_
  refine lv_iconst (v := 1) hx hb dL_law_968 (by decide) ?_
  refine lv_iadd hx hb dL_law_969 ?_
  obtain ⟨g970, hf⟩ := gd_some hf
  refine lw_xld hx hb hX hbl hW g970 dL_law_970 ?_
  obtain ⟨g971, hf⟩ := gd_some hf
  obtain ⟨v971, s971, h971, hf⟩ := ob_some hf
  obtain ⟨hN1, hf⟩ := gd_some hf
  have hN := Nat.le_trans hN hN1
  refine aw_dV1 (r := r2) (As := [.int (xs ((x4 + 1) : Int32).toNatClampNeg)]) (rest := [.int v961]) (ct_X14_then l G a r2 (xs ((x4 + 1) : Int32).toNatClampNeg) s961 v971 s971 h971) hC hW hl.1 vy_X14_then (Or.inl q1764) g971 rfl rfl rfl rfl (Nat.le_of_ble_eq_true rfl) ⟨Nat.le_of_ble_eq_true rfl, Nat.le_of_ble_eq_true rfl⟩ ⟨(by show kc ≤ 603072; omega), (by show ks ≤ 7067754; omega)⟩ dL_law_971 (fun H locs hW => ?_)
  refine lv_icmp_eq (tgt := 1752) hx hb dL_law_974 (by decide) (fun c974 => ?_) (fun c974 => ?_)
  · have hf := ifp c974 hf
    refine W.widen (k := kc + 20) (n := ks + 300) (by omega) (by omega) ?_
    exact hK a r1 r2 r3 x4 s971 hf _ _ _ (lv_sub hl [0, 1, 2, 3, 4] rfl) hW
  · have hf := ifn c974 hf
    refine lv_iconst (v := 0) hx hb dL_law_977 (by decide) ?_
    cases hf
def f_law_c22 (L : Nat) (xs : Nat → Int32) (K : Nat → Nat → Nat → Int32 → ST → Option Unit) (r1 r2 r3 : Nat) (x4 : Int32) (s : ST) : Option Unit :=
  gd (¬ (((x4 + 1) : Int32) < 0 ∨ L ≤ ((x4 + 1) : Int32).toNatClampNeg)) <|
  gd (r1 < s.1 ∧ (kd s r1).1 = 1) <|
  ob (f_X1_soonest r1 (xs ((x4 + 1) : Int32).toNatClampNeg) s) fun v986 s986 =>
  gd (s.1 ≤ s986.1) <|
  gd (¬ (((x4 + 1) : Int32) < 0 ∨ L ≤ ((x4 + 1) : Int32).toNatClampNeg)) <|
  gd (r2 < s986.1 ∧ (kd s986 r2).1 = 14) <|
  ob (f_X14_soonest r2 (xs ((x4 + 1) : Int32).toNatClampNeg) s986) fun v996 s996 =>
  gd (s986.1 ≤ s996.1) <|
  if v986 = v996 then (K r1 r2 r3 x4 s996) else none
set_option maxHeartbeats 4000000 in
theorem lc_22 {p : Program} {l : Launch} {e : Env} {s0 : State} {m : MethodId} {b L : Nat} {xs : Nat → Int32} {below : List Frame} {meth : Method} {c : Code} {G : GM} (hlt : l.stackTraces = false) (hC : CX p s0 m #[Value.ref b] meth c G (fun q => s0.heap.size ≤ q) code R_law 8) (hr : meth.sig.returnType = ret) (hX : va_X b L xs s0 s0.heap) (hbl : b < s0.heap.size) {K : Nat → Nat → Nat → Int32 → ST → Option Unit} {kc ks : Nat} (hkc : kc + 20 ≤ 603072) (hks : ks + 300 ≤ 7067754) (hK : KL p l e s0 m b below meth c G K (kc + 20) (ks + 300) 1752) : KL p l e s0 m b below meth c G (f_law_c22 L xs K) kc ks 979 := by
  intro a r1 r2 r3 x4 s hf H locs ls hl hW
  have hx := hC.1
  have hb := hC.2.1
  have hts := hC.2.2.2.2.1
  obtain ⟨N0, hN0⟩ : ∃ N0, N0 = 0 := ⟨_, rfl⟩
  have hE : EX a a N0 := EX.rf
  have hN : N0 ≤ s.1 := by omega
  unfold f_law_c22 at hf
  refine lv_aload_n hx hb dL_law_979 rfl (lv_at hl 1 rfl) ?_
  refine lv_aload_n hx hb dL_law_980 rfl (lv_at hl 0 rfl) ?_
  refine lv_iload hx hb dL_law_981 (lv_at hl 4 rfl) ?_
  refine lv_iconst (v := 1) hx hb dL_law_983 (by decide) ?_
  refine lv_iadd hx hb dL_law_984 ?_
  obtain ⟨g985, hf⟩ := gd_some hf
  refine lw_xld hx hb hX hbl hW g985 dL_law_985 ?_
  obtain ⟨g986, hf⟩ := gd_some hf
  obtain ⟨v986, s986, h986, hf⟩ := ob_some hf
  obtain ⟨hN1, hf⟩ := gd_some hf
  have hN := Nat.le_trans hN hN1
  refine aw_dV1 (r := r1) (As := [.int (xs ((x4 + 1) : Int32).toNatClampNeg)]) (rest := []) (ct_X1_soonest l G a r1 (xs ((x4 + 1) : Int32).toNatClampNeg) s v986 s986 h986) hC hW hl.1 vy_X1_soonest (Or.inl q1068) g986 rfl rfl rfl rfl (Nat.le_of_ble_eq_true rfl) ⟨Nat.le_of_ble_eq_true rfl, Nat.le_of_ble_eq_true rfl⟩ ⟨(by show kc ≤ 603072; omega), (by show ks ≤ 7067754; omega)⟩ dL_law_986 (fun H locs hW => ?_)
  refine lv_aload_n hx hb dL_law_989 rfl (lv_at hl 2 rfl) ?_
  refine lv_aload_n hx hb dL_law_990 rfl (lv_at hl 0 rfl) ?_
  refine lv_iload hx hb dL_law_991 (lv_at hl 4 rfl) ?_
  refine lv_iconst (v := 1) hx hb dL_law_993 (by decide) ?_
  refine lv_iadd hx hb dL_law_994 ?_
  obtain ⟨g995, hf⟩ := gd_some hf
  refine lw_xld hx hb hX hbl hW g995 dL_law_995 ?_
  obtain ⟨g996, hf⟩ := gd_some hf
  obtain ⟨v996, s996, h996, hf⟩ := ob_some hf
  obtain ⟨hN1, hf⟩ := gd_some hf
  have hN := Nat.le_trans hN hN1
  refine aw_dV1 (r := r2) (As := [.int (xs ((x4 + 1) : Int32).toNatClampNeg)]) (rest := [.int v986]) (ct_X14_soonest l G a r2 (xs ((x4 + 1) : Int32).toNatClampNeg) s986 v996 s996 h996) hC hW hl.1 vy_X14_soonest (Or.inl q1768) g996 rfl rfl rfl rfl (Nat.le_of_ble_eq_true rfl) ⟨Nat.le_of_ble_eq_true rfl, Nat.le_of_ble_eq_true rfl⟩ ⟨(by show kc ≤ 603072; omega), (by show ks ≤ 7067754; omega)⟩ dL_law_996 (fun H locs hW => ?_)
  refine lv_icmp_eq (tgt := 1752) hx hb dL_law_999 (by decide) (fun c999 => ?_) (fun c999 => ?_)
  · have hf := ifp c999 hf
    refine W.widen (k := kc + 20) (n := ks + 300) (by omega) (by omega) ?_
    exact hK a r1 r2 r3 x4 s996 hf _ _ _ (lv_sub hl [0, 1, 2, 3, 4] rfl) hW
  · have hf := ifn c999 hf
    refine lv_iconst (v := 0) hx hb dL_law_1002 (by decide) ?_
    cases hf
def f_law_c23 (L : Nat) (xs : Nat → Int32) (K : Nat → Nat → Nat → Int32 → ST → Option Unit) (r1 r2 r3 : Nat) (x4 : Int32) (s : ST) : Option Unit :=
  gd (¬ (((x4 + 1) : Int32) < 0 ∨ L ≤ ((x4 + 1) : Int32).toNatClampNeg)) <|
  gd (r1 < s.1 ∧ (kd s r1).1 = 1) <|
  ob (f_X1_ever r1 (xs ((x4 + 1) : Int32).toNatClampNeg) s) fun v1011 s1011 =>
  gd (s.1 ≤ s1011.1) <|
  gd (¬ (((x4 + 1) : Int32) < 0 ∨ L ≤ ((x4 + 1) : Int32).toNatClampNeg)) <|
  gd (r2 < s1011.1 ∧ (kd s1011 r2).1 = 14) <|
  ob (f_X14_ever r2 (xs ((x4 + 1) : Int32).toNatClampNeg) s1011) fun v1021 s1021 =>
  gd (s1011.1 ≤ s1021.1) <|
  if v1011 = v1021 then (K r1 r2 r3 x4 s1021) else none
set_option maxHeartbeats 4000000 in
theorem lc_23 {p : Program} {l : Launch} {e : Env} {s0 : State} {m : MethodId} {b L : Nat} {xs : Nat → Int32} {below : List Frame} {meth : Method} {c : Code} {G : GM} (hlt : l.stackTraces = false) (hC : CX p s0 m #[Value.ref b] meth c G (fun q => s0.heap.size ≤ q) code R_law 8) (hr : meth.sig.returnType = ret) (hX : va_X b L xs s0 s0.heap) (hbl : b < s0.heap.size) {K : Nat → Nat → Nat → Int32 → ST → Option Unit} {kc ks : Nat} (hkc : kc + 20 ≤ 603072) (hks : ks + 300 ≤ 7067754) (hK : KL p l e s0 m b below meth c G K (kc + 20) (ks + 300) 1752) : KL p l e s0 m b below meth c G (f_law_c23 L xs K) kc ks 1004 := by
  intro a r1 r2 r3 x4 s hf H locs ls hl hW
  have hx := hC.1
  have hb := hC.2.1
  have hts := hC.2.2.2.2.1
  obtain ⟨N0, hN0⟩ : ∃ N0, N0 = 0 := ⟨_, rfl⟩
  have hE : EX a a N0 := EX.rf
  have hN : N0 ≤ s.1 := by omega
  unfold f_law_c23 at hf
  refine lv_aload_n hx hb dL_law_1004 rfl (lv_at hl 1 rfl) ?_
  refine lv_aload_n hx hb dL_law_1005 rfl (lv_at hl 0 rfl) ?_
  refine lv_iload hx hb dL_law_1006 (lv_at hl 4 rfl) ?_
  refine lv_iconst (v := 1) hx hb dL_law_1008 (by decide) ?_
  refine lv_iadd hx hb dL_law_1009 ?_
  obtain ⟨g1010, hf⟩ := gd_some hf
  refine lw_xld hx hb hX hbl hW g1010 dL_law_1010 ?_
  obtain ⟨g1011, hf⟩ := gd_some hf
  obtain ⟨v1011, s1011, h1011, hf⟩ := ob_some hf
  obtain ⟨hN1, hf⟩ := gd_some hf
  have hN := Nat.le_trans hN hN1
  refine aw_dV1 (r := r1) (As := [.int (xs ((x4 + 1) : Int32).toNatClampNeg)]) (rest := []) (ct_X1_ever l G a r1 (xs ((x4 + 1) : Int32).toNatClampNeg) s v1011 s1011 h1011) hC hW hl.1 vy_X1_ever (Or.inl q1072) g1011 rfl rfl rfl rfl (Nat.le_of_ble_eq_true rfl) ⟨Nat.le_of_ble_eq_true rfl, Nat.le_of_ble_eq_true rfl⟩ ⟨(by show kc ≤ 603072; omega), (by show ks ≤ 7067754; omega)⟩ dL_law_1011 (fun H locs hW => ?_)
  refine lv_aload_n hx hb dL_law_1014 rfl (lv_at hl 2 rfl) ?_
  refine lv_aload_n hx hb dL_law_1015 rfl (lv_at hl 0 rfl) ?_
  refine lv_iload hx hb dL_law_1016 (lv_at hl 4 rfl) ?_
  refine lv_iconst (v := 1) hx hb dL_law_1018 (by decide) ?_
  refine lv_iadd hx hb dL_law_1019 ?_
  obtain ⟨g1020, hf⟩ := gd_some hf
  refine lw_xld hx hb hX hbl hW g1020 dL_law_1020 ?_
  obtain ⟨g1021, hf⟩ := gd_some hf
  obtain ⟨v1021, s1021, h1021, hf⟩ := ob_some hf
  obtain ⟨hN1, hf⟩ := gd_some hf
  have hN := Nat.le_trans hN hN1
  refine aw_dV1 (r := r2) (As := [.int (xs ((x4 + 1) : Int32).toNatClampNeg)]) (rest := [.int v1011]) (ct_X14_ever l G a r2 (xs ((x4 + 1) : Int32).toNatClampNeg) s1011 v1021 s1021 h1021) hC hW hl.1 vy_X14_ever (Or.inl q1772) g1021 rfl rfl rfl rfl (Nat.le_of_ble_eq_true rfl) ⟨Nat.le_of_ble_eq_true rfl, Nat.le_of_ble_eq_true rfl⟩ ⟨(by show kc ≤ 603072; omega), (by show ks ≤ 7067754; omega)⟩ dL_law_1021 (fun H locs hW => ?_)
  refine lv_icmp_eq (tgt := 1752) hx hb dL_law_1024 (by decide) (fun c1024 => ?_) (fun c1024 => ?_)
  · have hf := ifp c1024 hf
    refine W.widen (k := kc + 20) (n := ks + 300) (by omega) (by omega) ?_
    exact hK a r1 r2 r3 x4 s1021 hf _ _ _ (lv_sub hl [0, 1, 2, 3, 4] rfl) hW
  · have hf := ifn c1024 hf
    refine lv_iconst (v := 0) hx hb dL_law_1027 (by decide) ?_
    cases hf
def f_law_c24 (L : Nat) (xs : Nat → Int32) (K : Nat → Nat → Nat → Int32 → ST → Option Unit) (r1 r2 r3 : Nat) (x4 : Int32) (s : ST) : Option Unit :=
  gd (¬ (((x4 + 1) : Int32) < 0 ∨ L ≤ ((x4 + 1) : Int32).toNatClampNeg)) <|
  gd (¬ (((x4 + 2) : Int32) < 0 ∨ L ≤ ((x4 + 2) : Int32).toNatClampNeg)) <|
  gd (r1 < s.1 ∧ (kd s r1).1 = 1) <|
  ob (f_X1_most r1 (xs ((x4 + 1) : Int32).toNatClampNeg) (xs ((x4 + 2) : Int32).toNatClampNeg) s) fun v1042 s1042 =>
  gd (s.1 ≤ s1042.1) <|
  gd (¬ (((x4 + 1) : Int32) < 0 ∨ L ≤ ((x4 + 1) : Int32).toNatClampNeg)) <|
  gd (¬ (((x4 + 2) : Int32) < 0 ∨ L ≤ ((x4 + 2) : Int32).toNatClampNeg)) <|
  gd (r2 < s1042.1 ∧ (kd s1042 r2).1 = 14) <|
  ob (f_X14_most r2 (xs ((x4 + 1) : Int32).toNatClampNeg) (xs ((x4 + 2) : Int32).toNatClampNeg) s1042) fun v1058 s1058 =>
  gd (s1042.1 ≤ s1058.1) <|
  if v1042 = v1058 then (K r1 r2 r3 x4 s1058) else none
set_option maxHeartbeats 4000000 in
theorem lc_24 {p : Program} {l : Launch} {e : Env} {s0 : State} {m : MethodId} {b L : Nat} {xs : Nat → Int32} {below : List Frame} {meth : Method} {c : Code} {G : GM} (hlt : l.stackTraces = false) (hC : CX p s0 m #[Value.ref b] meth c G (fun q => s0.heap.size ≤ q) code R_law 8) (hr : meth.sig.returnType = ret) (hX : va_X b L xs s0 s0.heap) (hbl : b < s0.heap.size) {K : Nat → Nat → Nat → Int32 → ST → Option Unit} {kc ks : Nat} (hkc : kc + 20 ≤ 603072) (hks : ks + 300 ≤ 7067754) (hK : KL p l e s0 m b below meth c G K (kc + 20) (ks + 300) 1752) : KL p l e s0 m b below meth c G (f_law_c24 L xs K) kc ks 1029 := by
  intro a r1 r2 r3 x4 s hf H locs ls hl hW
  have hx := hC.1
  have hb := hC.2.1
  have hts := hC.2.2.2.2.1
  obtain ⟨N0, hN0⟩ : ∃ N0, N0 = 0 := ⟨_, rfl⟩
  have hE : EX a a N0 := EX.rf
  have hN : N0 ≤ s.1 := by omega
  unfold f_law_c24 at hf
  refine lv_aload_n hx hb dL_law_1029 rfl (lv_at hl 1 rfl) ?_
  refine lv_aload_n hx hb dL_law_1030 rfl (lv_at hl 0 rfl) ?_
  refine lv_iload hx hb dL_law_1031 (lv_at hl 4 rfl) ?_
  refine lv_iconst (v := 1) hx hb dL_law_1033 (by decide) ?_
  refine lv_iadd hx hb dL_law_1034 ?_
  obtain ⟨g1035, hf⟩ := gd_some hf
  refine lw_xld hx hb hX hbl hW g1035 dL_law_1035 ?_
  refine lv_aload_n hx hb dL_law_1036 rfl (lv_at hl 0 rfl) ?_
  refine lv_iload hx hb dL_law_1037 (lv_at hl 4 rfl) ?_
  refine lv_iconst (v := 2) hx hb dL_law_1039 (by decide) ?_
  refine lv_iadd hx hb dL_law_1040 ?_
  obtain ⟨g1041, hf⟩ := gd_some hf
  refine lw_xld hx hb hX hbl hW g1041 dL_law_1041 ?_
  obtain ⟨g1042, hf⟩ := gd_some hf
  obtain ⟨v1042, s1042, h1042, hf⟩ := ob_some hf
  obtain ⟨hN1, hf⟩ := gd_some hf
  have hN := Nat.le_trans hN hN1
  refine aw_dV1 (r := r1) (As := [.int (xs ((x4 + 1) : Int32).toNatClampNeg), .int (xs ((x4 + 2) : Int32).toNatClampNeg)]) (rest := []) (ct_X1_most l G a r1 (xs ((x4 + 1) : Int32).toNatClampNeg) (xs ((x4 + 2) : Int32).toNatClampNeg) s v1042 s1042 h1042) hC hW hl.1 vy_X1_most (Or.inl q1081) g1042 rfl rfl rfl rfl (Nat.le_of_ble_eq_true rfl) ⟨Nat.le_of_ble_eq_true rfl, Nat.le_of_ble_eq_true rfl⟩ ⟨(by show kc ≤ 603072; omega), (by show ks ≤ 7067754; omega)⟩ dL_law_1042 (fun H locs hW => ?_)
  refine lv_aload_n hx hb dL_law_1045 rfl (lv_at hl 2 rfl) ?_
  refine lv_aload_n hx hb dL_law_1046 rfl (lv_at hl 0 rfl) ?_
  refine lv_iload hx hb dL_law_1047 (lv_at hl 4 rfl) ?_
  refine lv_iconst (v := 1) hx hb dL_law_1049 (by decide) ?_
  refine lv_iadd hx hb dL_law_1050 ?_
  obtain ⟨g1051, hf⟩ := gd_some hf
  refine lw_xld hx hb hX hbl hW g1051 dL_law_1051 ?_
  refine lv_aload_n hx hb dL_law_1052 rfl (lv_at hl 0 rfl) ?_
  refine lv_iload hx hb dL_law_1053 (lv_at hl 4 rfl) ?_
  refine lv_iconst (v := 2) hx hb dL_law_1055 (by decide) ?_
  refine lv_iadd hx hb dL_law_1056 ?_
  obtain ⟨g1057, hf⟩ := gd_some hf
  refine lw_xld hx hb hX hbl hW g1057 dL_law_1057 ?_
  obtain ⟨g1058, hf⟩ := gd_some hf
  obtain ⟨v1058, s1058, h1058, hf⟩ := ob_some hf
  obtain ⟨hN1, hf⟩ := gd_some hf
  have hN := Nat.le_trans hN hN1
  refine aw_dV1 (r := r2) (As := [.int (xs ((x4 + 1) : Int32).toNatClampNeg), .int (xs ((x4 + 2) : Int32).toNatClampNeg)]) (rest := [.int v1042]) (ct_X14_most l G a r2 (xs ((x4 + 1) : Int32).toNatClampNeg) (xs ((x4 + 2) : Int32).toNatClampNeg) s1042 v1058 s1058 h1058) hC hW hl.1 vy_X14_most (Or.inl q1777) g1058 rfl rfl rfl rfl (Nat.le_of_ble_eq_true rfl) ⟨Nat.le_of_ble_eq_true rfl, Nat.le_of_ble_eq_true rfl⟩ ⟨(by show kc ≤ 603072; omega), (by show ks ≤ 7067754; omega)⟩ dL_law_1058 (fun H locs hW => ?_)
  refine lv_icmp_eq (tgt := 1752) hx hb dL_law_1061 (by decide) (fun c1061 => ?_) (fun c1061 => ?_)
  · have hf := ifp c1061 hf
    refine W.widen (k := kc + 20) (n := ks + 300) (by omega) (by omega) ?_
    exact hK a r1 r2 r3 x4 s1058 hf _ _ _ (lv_sub hl [0, 1, 2, 3, 4] rfl) hW
  · have hf := ifn c1061 hf
    refine lv_iconst (v := 0) hx hb dL_law_1064 (by decide) ?_
    cases hf
def f_law_c25 (L : Nat) (xs : Nat → Int32) (K : Nat → Nat → Nat → Int32 → ST → Option Unit) (r1 r2 r3 : Nat) (x4 : Int32) (s : ST) : Option Unit :=
  gd (¬ (((x4 + 1) : Int32) < 0 ∨ L ≤ ((x4 + 1) : Int32).toNatClampNeg)) <|
  gd (¬ (((x4 + 2) : Int32) < 0 ∨ L ≤ ((x4 + 2) : Int32).toNatClampNeg)) <|
  gd (r1 < s.1 ∧ (kd s r1).1 = 1) <|
  ob (f_X1_rests r1 (xs ((x4 + 1) : Int32).toNatClampNeg) (xs ((x4 + 2) : Int32).toNatClampNeg) s) fun v1079 s1079 =>
  gd (s.1 ≤ s1079.1) <|
  gd (¬ (((x4 + 1) : Int32) < 0 ∨ L ≤ ((x4 + 1) : Int32).toNatClampNeg)) <|
  gd (¬ (((x4 + 2) : Int32) < 0 ∨ L ≤ ((x4 + 2) : Int32).toNatClampNeg)) <|
  gd (r2 < s1079.1 ∧ (kd s1079 r2).1 = 14) <|
  ob (f_X14_rests r2 (xs ((x4 + 1) : Int32).toNatClampNeg) (xs ((x4 + 2) : Int32).toNatClampNeg) s1079) fun v1095 s1095 =>
  gd (s1079.1 ≤ s1095.1) <|
  if v1079 = v1095 then (K r1 r2 r3 x4 s1095) else none
set_option maxHeartbeats 4000000 in
theorem lc_25 {p : Program} {l : Launch} {e : Env} {s0 : State} {m : MethodId} {b L : Nat} {xs : Nat → Int32} {below : List Frame} {meth : Method} {c : Code} {G : GM} (hlt : l.stackTraces = false) (hC : CX p s0 m #[Value.ref b] meth c G (fun q => s0.heap.size ≤ q) code R_law 8) (hr : meth.sig.returnType = ret) (hX : va_X b L xs s0 s0.heap) (hbl : b < s0.heap.size) {K : Nat → Nat → Nat → Int32 → ST → Option Unit} {kc ks : Nat} (hkc : kc + 20 ≤ 603072) (hks : ks + 300 ≤ 7067754) (hK : KL p l e s0 m b below meth c G K (kc + 20) (ks + 300) 1752) : KL p l e s0 m b below meth c G (f_law_c25 L xs K) kc ks 1066 := by
  intro a r1 r2 r3 x4 s hf H locs ls hl hW
  have hx := hC.1
  have hb := hC.2.1
  have hts := hC.2.2.2.2.1
  obtain ⟨N0, hN0⟩ : ∃ N0, N0 = 0 := ⟨_, rfl⟩
  have hE : EX a a N0 := EX.rf
  have hN : N0 ≤ s.1 := by omega
  unfold f_law_c25 at hf
  refine lv_aload_n hx hb dL_law_1066 rfl (lv_at hl 1 rfl) ?_
  refine lv_aload_n hx hb dL_law_1067 rfl (lv_at hl 0 rfl) ?_
  refine lv_iload hx hb dL_law_1068 (lv_at hl 4 rfl) ?_
  refine lv_iconst (v := 1) hx hb dL_law_1070 (by decide) ?_
  refine lv_iadd hx hb dL_law_1071 ?_
  obtain ⟨g1072, hf⟩ := gd_some hf
  refine lw_xld hx hb hX hbl hW g1072 dL_law_1072 ?_
  refine lv_aload_n hx hb dL_law_1073 rfl (lv_at hl 0 rfl) ?_
  refine lv_iload hx hb dL_law_1074 (lv_at hl 4 rfl) ?_
  refine lv_iconst (v := 2) hx hb dL_law_1076 (by decide) ?_
  refine lv_iadd hx hb dL_law_1077 ?_
  obtain ⟨g1078, hf⟩ := gd_some hf
  refine lw_xld hx hb hX hbl hW g1078 dL_law_1078 ?_
  obtain ⟨g1079, hf⟩ := gd_some hf
  obtain ⟨v1079, s1079, h1079, hf⟩ := ob_some hf
  obtain ⟨hN1, hf⟩ := gd_some hf
  have hN := Nat.le_trans hN hN1
  refine aw_dV1 (r := r1) (As := [.int (xs ((x4 + 1) : Int32).toNatClampNeg), .int (xs ((x4 + 2) : Int32).toNatClampNeg)]) (rest := []) (ct_X1_rests l G a r1 (xs ((x4 + 1) : Int32).toNatClampNeg) (xs ((x4 + 2) : Int32).toNatClampNeg) s v1079 s1079 h1079) hC hW hl.1 vy_X1_rests (Or.inl q1091) g1079 rfl rfl rfl rfl (Nat.le_of_ble_eq_true rfl) ⟨Nat.le_of_ble_eq_true rfl, Nat.le_of_ble_eq_true rfl⟩ ⟨(by show kc ≤ 603072; omega), (by show ks ≤ 7067754; omega)⟩ dL_law_1079 (fun H locs hW => ?_)
  refine lv_aload_n hx hb dL_law_1082 rfl (lv_at hl 2 rfl) ?_
  refine lv_aload_n hx hb dL_law_1083 rfl (lv_at hl 0 rfl) ?_
  refine lv_iload hx hb dL_law_1084 (lv_at hl 4 rfl) ?_
  refine lv_iconst (v := 1) hx hb dL_law_1086 (by decide) ?_
  refine lv_iadd hx hb dL_law_1087 ?_
  obtain ⟨g1088, hf⟩ := gd_some hf
  refine lw_xld hx hb hX hbl hW g1088 dL_law_1088 ?_
  refine lv_aload_n hx hb dL_law_1089 rfl (lv_at hl 0 rfl) ?_
  refine lv_iload hx hb dL_law_1090 (lv_at hl 4 rfl) ?_
  refine lv_iconst (v := 2) hx hb dL_law_1092 (by decide) ?_
  refine lv_iadd hx hb dL_law_1093 ?_
  obtain ⟨g1094, hf⟩ := gd_some hf
  refine lw_xld hx hb hX hbl hW g1094 dL_law_1094 ?_
  obtain ⟨g1095, hf⟩ := gd_some hf
  obtain ⟨v1095, s1095, h1095, hf⟩ := ob_some hf
  obtain ⟨hN1, hf⟩ := gd_some hf
  have hN := Nat.le_trans hN hN1
  refine aw_dV1 (r := r2) (As := [.int (xs ((x4 + 1) : Int32).toNatClampNeg), .int (xs ((x4 + 2) : Int32).toNatClampNeg)]) (rest := [.int v1079]) (ct_X14_rests l G a r2 (xs ((x4 + 1) : Int32).toNatClampNeg) (xs ((x4 + 2) : Int32).toNatClampNeg) s1079 v1095 s1095 h1095) hC hW hl.1 vy_X14_rests (Or.inl q1783) g1095 rfl rfl rfl rfl (Nat.le_of_ble_eq_true rfl) ⟨Nat.le_of_ble_eq_true rfl, Nat.le_of_ble_eq_true rfl⟩ ⟨(by show kc ≤ 603072; omega), (by show ks ≤ 7067754; omega)⟩ dL_law_1095 (fun H locs hW => ?_)
  refine lv_icmp_eq (tgt := 1752) hx hb dL_law_1098 (by decide) (fun c1098 => ?_) (fun c1098 => ?_)
  · have hf := ifp c1098 hf
    refine W.widen (k := kc + 20) (n := ks + 300) (by omega) (by omega) ?_
    exact hK a r1 r2 r3 x4 s1095 hf _ _ _ (lv_sub hl [0, 1, 2, 3, 4] rfl) hW
  · have hf := ifn c1098 hf
    refine lv_iconst (v := 0) hx hb dL_law_1101 (by decide) ?_
    cases hf
def f_law_c26 (L : Nat) (xs : Nat → Int32) (K : Nat → Nat → Nat → Int32 → ST → Option Unit) (r1 r2 r3 : Nat) (x4 : Int32) (s : ST) : Option Unit :=
  gd (¬ (((x4 + 1) : Int32) < 0 ∨ L ≤ ((x4 + 1) : Int32).toNatClampNeg)) <|
  gd (r1 < s.1 ∧ (kd s r1).1 = 1) <|
  ob (f_X1_party r1 (xs ((x4 + 1) : Int32).toNatClampNeg) s) fun v1110 s1110 =>
  gd (s.1 ≤ s1110.1) <|
  gd (¬ (((x4 + 1) : Int32) < 0 ∨ L ≤ ((x4 + 1) : Int32).toNatClampNeg)) <|
  gd (r2 < s1110.1 ∧ (kd s1110 r2).1 = 14) <|
  ob (f_X14_party r2 (xs ((x4 + 1) : Int32).toNatClampNeg) s1110) fun v1120 s1120 =>
  gd (s1110.1 ≤ s1120.1) <|
  if v1110 = v1120 then (K r1 r2 r3 x4 s1120) else none
set_option maxHeartbeats 4000000 in
theorem lc_26 {p : Program} {l : Launch} {e : Env} {s0 : State} {m : MethodId} {b L : Nat} {xs : Nat → Int32} {below : List Frame} {meth : Method} {c : Code} {G : GM} (hlt : l.stackTraces = false) (hC : CX p s0 m #[Value.ref b] meth c G (fun q => s0.heap.size ≤ q) code R_law 8) (hr : meth.sig.returnType = ret) (hX : va_X b L xs s0 s0.heap) (hbl : b < s0.heap.size) {K : Nat → Nat → Nat → Int32 → ST → Option Unit} {kc ks : Nat} (hkc : kc + 20 ≤ 603072) (hks : ks + 300 ≤ 7067754) (hK : KL p l e s0 m b below meth c G K (kc + 20) (ks + 300) 1752) : KL p l e s0 m b below meth c G (f_law_c26 L xs K) kc ks 1103 := by
  intro a r1 r2 r3 x4 s hf H locs ls hl hW
  have hx := hC.1
  have hb := hC.2.1
  have hts := hC.2.2.2.2.1
  obtain ⟨N0, hN0⟩ : ∃ N0, N0 = 0 := ⟨_, rfl⟩
  have hE : EX a a N0 := EX.rf
  have hN : N0 ≤ s.1 := by omega
  unfold f_law_c26 at hf
  refine lv_aload_n hx hb dL_law_1103 rfl (lv_at hl 1 rfl) ?_
  refine lv_aload_n hx hb dL_law_1104 rfl (lv_at hl 0 rfl) ?_
  refine lv_iload hx hb dL_law_1105 (lv_at hl 4 rfl) ?_
  refine lv_iconst (v := 1) hx hb dL_law_1107 (by decide) ?_
  refine lv_iadd hx hb dL_law_1108 ?_
  obtain ⟨g1109, hf⟩ := gd_some hf
  refine lw_xld hx hb hX hbl hW g1109 dL_law_1109 ?_
  obtain ⟨g1110, hf⟩ := gd_some hf
  obtain ⟨v1110, s1110, h1110, hf⟩ := ob_some hf
  obtain ⟨hN1, hf⟩ := gd_some hf
  have hN := Nat.le_trans hN hN1
  refine aw_dV1 (r := r1) (As := [.int (xs ((x4 + 1) : Int32).toNatClampNeg)]) (rest := []) (ct_X1_party l G a r1 (xs ((x4 + 1) : Int32).toNatClampNeg) s v1110 s1110 h1110) hC hW hl.1 vy_X1_party (Or.inl q1104) g1110 rfl rfl rfl rfl (Nat.le_of_ble_eq_true rfl) ⟨Nat.le_of_ble_eq_true rfl, Nat.le_of_ble_eq_true rfl⟩ ⟨(by show kc ≤ 603072; omega), (by show ks ≤ 7067754; omega)⟩ dL_law_1110 (fun H locs hW => ?_)
  refine lv_aload_n hx hb dL_law_1113 rfl (lv_at hl 2 rfl) ?_
  refine lv_aload_n hx hb dL_law_1114 rfl (lv_at hl 0 rfl) ?_
  refine lv_iload hx hb dL_law_1115 (lv_at hl 4 rfl) ?_
  refine lv_iconst (v := 1) hx hb dL_law_1117 (by decide) ?_
  refine lv_iadd hx hb dL_law_1118 ?_
  obtain ⟨g1119, hf⟩ := gd_some hf
  refine lw_xld hx hb hX hbl hW g1119 dL_law_1119 ?_
  obtain ⟨g1120, hf⟩ := gd_some hf
  obtain ⟨v1120, s1120, h1120, hf⟩ := ob_some hf
  obtain ⟨hN1, hf⟩ := gd_some hf
  have hN := Nat.le_trans hN hN1
  refine aw_dV1 (r := r2) (As := [.int (xs ((x4 + 1) : Int32).toNatClampNeg)]) (rest := [.int v1110]) (ct_X14_party l G a r2 (xs ((x4 + 1) : Int32).toNatClampNeg) s1110 v1120 s1120 h1120) hC hW hl.1 vy_X14_party (Or.inl q1797) g1120 rfl rfl rfl rfl (Nat.le_of_ble_eq_true rfl) ⟨Nat.le_of_ble_eq_true rfl, Nat.le_of_ble_eq_true rfl⟩ ⟨(by show kc ≤ 603072; omega), (by show ks ≤ 7067754; omega)⟩ dL_law_1120 (fun H locs hW => ?_)
  refine lv_icmp_eq (tgt := 1752) hx hb dL_law_1123 (by decide) (fun c1123 => ?_) (fun c1123 => ?_)
  · have hf := ifp c1123 hf
    refine W.widen (k := kc + 20) (n := ks + 300) (by omega) (by omega) ?_
    exact hK a r1 r2 r3 x4 s1120 hf _ _ _ (lv_sub hl [0, 1, 2, 3, 4] rfl) hW
  · have hf := ifn c1123 hf
    refine lv_iconst (v := 0) hx hb dL_law_1126 (by decide) ?_
    cases hf
def f_law_c27 (L : Nat) (xs : Nat → Int32) (K : Nat → Nat → Nat → Int32 → ST → Option Unit) (r1 r2 r3 : Nat) (x4 : Int32) (s : ST) : Option Unit :=
  gd (¬ (((x4 + 1) : Int32) < 0 ∨ L ≤ ((x4 + 1) : Int32).toNatClampNeg)) <|
  gd (¬ (((x4 + 2) : Int32) < 0 ∨ L ≤ ((x4 + 2) : Int32).toNatClampNeg)) <|
  gd (r1 < s.1 ∧ (kd s r1).1 = 1) <|
  ob (f_X1_byTurns r1 (xs ((x4 + 1) : Int32).toNatClampNeg) (xs ((x4 + 2) : Int32).toNatClampNeg) s) fun v1141 s1141 =>
  gd (s.1 ≤ s1141.1) <|
  gd (¬ (((x4 + 1) : Int32) < 0 ∨ L ≤ ((x4 + 1) : Int32).toNatClampNeg)) <|
  gd (¬ (((x4 + 2) : Int32) < 0 ∨ L ≤ ((x4 + 2) : Int32).toNatClampNeg)) <|
  gd (r2 < s1141.1 ∧ (kd s1141 r2).1 = 14) <|
  ob (f_X14_byTurns r2 (xs ((x4 + 1) : Int32).toNatClampNeg) (xs ((x4 + 2) : Int32).toNatClampNeg) s1141) fun v1157 s1157 =>
  gd (s1141.1 ≤ s1157.1) <|
  if v1141 = v1157 then (K r1 r2 r3 x4 s1157) else none
set_option maxHeartbeats 4000000 in
theorem lc_27 {p : Program} {l : Launch} {e : Env} {s0 : State} {m : MethodId} {b L : Nat} {xs : Nat → Int32} {below : List Frame} {meth : Method} {c : Code} {G : GM} (hlt : l.stackTraces = false) (hC : CX p s0 m #[Value.ref b] meth c G (fun q => s0.heap.size ≤ q) code R_law 8) (hr : meth.sig.returnType = ret) (hX : va_X b L xs s0 s0.heap) (hbl : b < s0.heap.size) {K : Nat → Nat → Nat → Int32 → ST → Option Unit} {kc ks : Nat} (hkc : kc + 20 ≤ 603072) (hks : ks + 300 ≤ 7067754) (hK : KL p l e s0 m b below meth c G K (kc + 20) (ks + 300) 1752) : KL p l e s0 m b below meth c G (f_law_c27 L xs K) kc ks 1128 := by
  intro a r1 r2 r3 x4 s hf H locs ls hl hW
  have hx := hC.1
  have hb := hC.2.1
  have hts := hC.2.2.2.2.1
  obtain ⟨N0, hN0⟩ : ∃ N0, N0 = 0 := ⟨_, rfl⟩
  have hE : EX a a N0 := EX.rf
  have hN : N0 ≤ s.1 := by omega
  unfold f_law_c27 at hf
  refine lv_aload_n hx hb dL_law_1128 rfl (lv_at hl 1 rfl) ?_
  refine lv_aload_n hx hb dL_law_1129 rfl (lv_at hl 0 rfl) ?_
  refine lv_iload hx hb dL_law_1130 (lv_at hl 4 rfl) ?_
  refine lv_iconst (v := 1) hx hb dL_law_1132 (by decide) ?_
  refine lv_iadd hx hb dL_law_1133 ?_
  obtain ⟨g1134, hf⟩ := gd_some hf
  refine lw_xld hx hb hX hbl hW g1134 dL_law_1134 ?_
  refine lv_aload_n hx hb dL_law_1135 rfl (lv_at hl 0 rfl) ?_
  refine lv_iload hx hb dL_law_1136 (lv_at hl 4 rfl) ?_
  refine lv_iconst (v := 2) hx hb dL_law_1138 (by decide) ?_
  refine lv_iadd hx hb dL_law_1139 ?_
  obtain ⟨g1140, hf⟩ := gd_some hf
  refine lw_xld hx hb hX hbl hW g1140 dL_law_1140 ?_
  obtain ⟨g1141, hf⟩ := gd_some hf
  obtain ⟨v1141, s1141, h1141, hf⟩ := ob_some hf
  obtain ⟨hN1, hf⟩ := gd_some hf
  have hN := Nat.le_trans hN hN1
  refine aw_dV1 (r := r1) (As := [.int (xs ((x4 + 1) : Int32).toNatClampNeg), .int (xs ((x4 + 2) : Int32).toNatClampNeg)]) (rest := []) (ct_X1_byTurns l G a r1 (xs ((x4 + 1) : Int32).toNatClampNeg) (xs ((x4 + 2) : Int32).toNatClampNeg) s v1141 s1141 h1141) hC hW hl.1 vy_X1_byTurns (Or.inl q1112) g1141 rfl rfl rfl rfl (Nat.le_of_ble_eq_true rfl) ⟨Nat.le_of_ble_eq_true rfl, Nat.le_of_ble_eq_true rfl⟩ ⟨(by show kc ≤ 603072; omega), (by show ks ≤ 7067754; omega)⟩ dL_law_1141 (fun H locs hW => ?_)
  refine lv_aload_n hx hb dL_law_1144 rfl (lv_at hl 2 rfl) ?_
  refine lv_aload_n hx hb dL_law_1145 rfl (lv_at hl 0 rfl) ?_
  refine lv_iload hx hb dL_law_1146 (lv_at hl 4 rfl) ?_
  refine lv_iconst (v := 1) hx hb dL_law_1148 (by decide) ?_
  refine lv_iadd hx hb dL_law_1149 ?_
  obtain ⟨g1150, hf⟩ := gd_some hf
  refine lw_xld hx hb hX hbl hW g1150 dL_law_1150 ?_
  refine lv_aload_n hx hb dL_law_1151 rfl (lv_at hl 0 rfl) ?_
  refine lv_iload hx hb dL_law_1152 (lv_at hl 4 rfl) ?_
  refine lv_iconst (v := 2) hx hb dL_law_1154 (by decide) ?_
  refine lv_iadd hx hb dL_law_1155 ?_
  obtain ⟨g1156, hf⟩ := gd_some hf
  refine lw_xld hx hb hX hbl hW g1156 dL_law_1156 ?_
  obtain ⟨g1157, hf⟩ := gd_some hf
  obtain ⟨v1157, s1157, h1157, hf⟩ := ob_some hf
  obtain ⟨hN1, hf⟩ := gd_some hf
  have hN := Nat.le_trans hN hN1
  refine aw_dV1 (r := r2) (As := [.int (xs ((x4 + 1) : Int32).toNatClampNeg), .int (xs ((x4 + 2) : Int32).toNatClampNeg)]) (rest := [.int v1141]) (ct_X14_byTurns l G a r2 (xs ((x4 + 1) : Int32).toNatClampNeg) (xs ((x4 + 2) : Int32).toNatClampNeg) s1141 v1157 s1157 h1157) hC hW hl.1 vy_X14_byTurns (Or.inl q1805) g1157 rfl rfl rfl rfl (Nat.le_of_ble_eq_true rfl) ⟨Nat.le_of_ble_eq_true rfl, Nat.le_of_ble_eq_true rfl⟩ ⟨(by show kc ≤ 603072; omega), (by show ks ≤ 7067754; omega)⟩ dL_law_1157 (fun H locs hW => ?_)
  refine lv_icmp_eq (tgt := 1752) hx hb dL_law_1160 (by decide) (fun c1160 => ?_) (fun c1160 => ?_)
  · have hf := ifp c1160 hf
    refine W.widen (k := kc + 20) (n := ks + 300) (by omega) (by omega) ?_
    exact hK a r1 r2 r3 x4 s1157 hf _ _ _ (lv_sub hl [0, 1, 2, 3, 4] rfl) hW
  · have hf := ifn c1160 hf
    refine lv_iconst (v := 0) hx hb dL_law_1163 (by decide) ?_
    cases hf
def f_law_c28 (L : Nat) (xs : Nat → Int32) (K : Nat → Nat → Nat → Int32 → ST → Option Unit) (r1 r2 r3 : Nat) (x4 : Int32) (s : ST) : Option Unit :=
  gd (¬ (((x4 + 1) : Int32) < 0 ∨ L ≤ ((x4 + 1) : Int32).toNatClampNeg)) <|
  gd (¬ (((x4 + 2) : Int32) < 0 ∨ L ≤ ((x4 + 2) : Int32).toNatClampNeg)) <|
  gd (r1 < s.1) <|
  gd (r2 < s.1) <|
  gd (r3 < s.1) <|
  ob (f_X0_fool r1 (xs ((x4 + 1) : Int32).toNatClampNeg) (xs ((x4 + 2) : Int32).toNatClampNeg) r3 s) fun v1179 s1179 =>
  gd (¬ (((x4 + 1) : Int32) < 0 ∨ L ≤ ((x4 + 1) : Int32).toNatClampNeg)) <|
  gd (¬ (((x4 + 2) : Int32) < 0 ∨ L ≤ ((x4 + 2) : Int32).toNatClampNeg)) <|
  gd (r2 < s1179.1 ∧ (kd s1179 r2).1 = 14) <|
  ob (f_X14_fool r2 (xs ((x4 + 1) : Int32).toNatClampNeg) (xs ((x4 + 2) : Int32).toNatClampNeg) s1179) fun v1197 s1197 =>
  gd (s1179.1 ≤ s1197.1) <|
  gd (r2 < s1197.1 ∧ (kd s1197 r2).1 = 14) <|
  ob (f_X14_thrown r2 s1197) fun v1203 s1203 =>
  gd (s1197.1 ≤ s1203.1) <|
  if v1203 = v1179 then (if v1179 = 0 then (gd (r3 < s1203.1 ∧ (kd s1203 r3).1 = 104 ∧ ¬ ((0 : Int32) < 0 ∨ (kd s1203 r3).2 ≤ (0 : Int32).toNatClampNeg)) <|
  if (lg_cmp (gl s1203 r3 (0 : Int32).toNatClampNeg) ((v1197 : Int32).toInt64)) = 0 then (K r1 r2 r3 x4 s1203) else none) else K r1 r2 r3 x4 s1203) else none
set_option maxHeartbeats 4000000 in
theorem lc_28 {p : Program} {l : Launch} {e : Env} {s0 : State} {m : MethodId} {b L : Nat} {xs : Nat → Int32} {below : List Frame} {meth : Method} {c : Code} {G : GM} (hlt : l.stackTraces = false) (hC : CX p s0 m #[Value.ref b] meth c G (fun q => s0.heap.size ≤ q) code R_law 8) (hr : meth.sig.returnType = ret) (hX : va_X b L xs s0 s0.heap) (hbl : b < s0.heap.size) {K : Nat → Nat → Nat → Int32 → ST → Option Unit} {kc ks : Nat} (hkc : kc + 20 ≤ 603072) (hks : ks + 300 ≤ 7067754) (hK : KL p l e s0 m b below meth c G K (kc + 20) (ks + 300) 1752) : KL p l e s0 m b below meth c G (f_law_c28 L xs K) kc ks 1165 := by
  intro a r1 r2 r3 x4 s hf H locs ls hl hW
  have hx := hC.1
  have hb := hC.2.1
  have hts := hC.2.2.2.2.1
  obtain ⟨N0, hN0⟩ : ∃ N0, N0 = 0 := ⟨_, rfl⟩
  have hE : EX a a N0 := EX.rf
  have hN : N0 ≤ s.1 := by omega
  unfold f_law_c28 at hf
  refine lv_aload_n hx hb dL_law_1165 rfl (lv_at hl 1 rfl) ?_
  refine lv_aload_n hx hb dL_law_1166 rfl (lv_at hl 0 rfl) ?_
  refine lv_iload hx hb dL_law_1167 (lv_at hl 4 rfl) ?_
  refine lv_iconst (v := 1) hx hb dL_law_1169 (by decide) ?_
  refine lv_iadd hx hb dL_law_1170 ?_
  obtain ⟨g1171, hf⟩ := gd_some hf
  refine lw_xld hx hb hX hbl hW g1171 dL_law_1171 ?_
  refine lv_aload_n hx hb dL_law_1172 rfl (lv_at hl 0 rfl) ?_
  refine lv_iload hx hb dL_law_1173 (lv_at hl 4 rfl) ?_
  refine lv_iconst (v := 2) hx hb dL_law_1175 (by decide) ?_
  refine lv_iadd hx hb dL_law_1176 ?_
  obtain ⟨g1177, hf⟩ := gd_some hf
  refine lw_xld hx hb hX hbl hW g1177 dL_law_1177 ?_
  refine lv_aload_n hx hb dL_law_1178 rfl (lv_at hl 3 rfl) ?_
  obtain ⟨gr1179, hf⟩ := gd_some hf
  obtain ⟨gr1179_1, hf⟩ := gd_some hf
  obtain ⟨gr1179_2, hf⟩ := gd_some hf
  obtain ⟨v1179, s1179, h1179, hf⟩ := ob_some hf
  refine aw_run hC hW (aw_runSW (n := 4) hC hW hl.1 (As := [.ref (a r1), .int (xs ((x4 + 1) : Int32).toNatClampNeg), .int (xs ((x4 + 2) : Int32).toNatClampNeg), .ref (a r3)]) (rest := []) (cta_X0_fool l hlt G a r1 (xs ((x4 + 1) : Int32).toNatClampNeg) (xs ((x4 + 2) : Int32).toNatClampNeg) r3 s v1179 s1179 h1179) q1343 q74 q1344 ⟨by decide +kernel, by decide +kernel, by decide +kernel⟩ q1342 rfl rfl (Nat.le_of_ble_eq_true rfl) ⟨Nat.le_of_ble_eq_true rfl, Nat.le_of_ble_eq_true rfl⟩ ⟨(by show kc + 1 ≤ 603072; omega), (by show ks + 6 ≤ 7067754; omega)⟩ dL_law_1179) (fun v9 a1179 s9 H locs hp9 hW => ?_)
  obtain ⟨rfl, h9s, hE1, hN1⟩ := hp9
  rw [h9s] at hW
  have hE : EX a a1179 N0 := hE.trans hE1 hN
  have hN := Nat.le_trans hN hN1
  have hl : lv_has ls 8 [(0, .ref b), (1, .ref (a1179 r1)), (2, .ref (a1179 r2)), (3, .ref (a1179 r3)), (4, .int x4)] := by simp only [hE1 _ gr1179, hE1 _ gr1179_1, hE1 _ gr1179_2]; exact hl
  refine W.eq (g2 := F0 m 1182 ls [.int v1179]) rfl ?_
  refine W.widen (k := kc + 20) (n := ks + 300) (by show kc + 1 ≤ kc + 20; omega) (by show ks + 6 ≤ ks + 300; omega) ?_
  refine lv_istore (lv' := [(5, .int v1179), (0, .ref b), (1, .ref (a1179 r1)), (2, .ref (a1179 r2)), (3, .ref (a1179 r3)), (4, .int x4)]) hx hb dL_law_1182 hl (by decide) rfl (fun ls hl => ?_)
  refine lv_aload_n hx hb dL_law_1184 rfl (lv_at hl 3 rfl) ?_
  refine lv_aload_n hx hb dL_law_1185 rfl (lv_at hl 1 rfl) ?_
  refine lv_iload hx hb dL_law_1186 (lv_at hl 5 rfl) ?_
  refine lv_iconst (v := 1) hx hb dL_law_1188 (by decide) ?_
  refine lv_iadd hx hb dL_law_1189 ?_
  obtain ⟨g1190, hf⟩ := gd_some hf
  refine lw_xld hx hb hX hbl hW g1190 dL_law_1190 ?_
  refine lv_aload_n hx hb dL_law_1191 rfl (lv_at hl 1 rfl) ?_
  refine lv_iload hx hb dL_law_1192 (lv_at hl 5 rfl) ?_
  refine lv_iconst (v := 2) hx hb dL_law_1194 (by decide) ?_
  refine lv_iadd hx hb dL_law_1195 ?_
  obtain ⟨g1196, hf⟩ := gd_some hf
  refine lw_xld hx hb hX hbl hW g1196 dL_law_1196 ?_
  obtain ⟨g1197, hf⟩ := gd_some hf
  obtain ⟨v1197, s1197, h1197, hf⟩ := ob_some hf
  obtain ⟨hN1, hf⟩ := gd_some hf
  have hN := Nat.le_trans hN hN1
  refine aw_dV1 (r := r2) (As := [.int (xs ((x4 + 1) : Int32).toNatClampNeg), .int (xs ((x4 + 2) : Int32).toNatClampNeg)]) (rest := []) (ct_X14_fool l G a1179 r2 (xs ((x4 + 1) : Int32).toNatClampNeg) (xs ((x4 + 2) : Int32).toNatClampNeg) s1179 v1197 s1197 h1197) hC hW hl.1 vy_X14_fool (Or.inl q1809) g1197 rfl rfl rfl rfl (Nat.le_of_ble_eq_true rfl) ⟨Nat.le_of_ble_eq_true rfl, Nat.le_of_ble_eq_true rfl⟩ ⟨(by show kc + 20 ≤ 603072; omega), (by show ks + 300 ≤ 7067754; omega)⟩ dL_law_1197 (fun H locs hW => ?_)
  refine lv_istore (lv' := [(6, .int v1197), (5, .int v1179), (0, .ref b), (1, .ref (a1179 r1)), (2, .ref (a1179 r2)), (3, .ref (a1179 r3)), (4, .int x4)]) hx hb dL_law_1200 hl (by decide) rfl (fun ls hl => ?_)
  refine lv_aload_n hx hb dL_law_1202 rfl (lv_at hl 4 rfl) ?_
  obtain ⟨g1203, hf⟩ := gd_some hf
  obtain ⟨v1203, s1203, h1203, hf⟩ := ob_some hf
  obtain ⟨hN1, hf⟩ := gd_some hf
  have hN := Nat.le_trans hN hN1
  refine aw_dV1 (r := r2) (As := []) (rest := []) (ct_X14_thrown l G a1179 r2 s1197 v1203 s1203 h1203) hC hW hl.1 vy_X14_thrown (Or.inl q1356) g1203 rfl rfl rfl rfl (Nat.le_of_ble_eq_true rfl) ⟨Nat.le_of_ble_eq_true rfl, Nat.le_of_ble_eq_true rfl⟩ ⟨(by show kc + 20 ≤ 603072; omega), (by show ks + 300 ≤ 7067754; omega)⟩ dL_law_1203 (fun H locs hW => ?_)
  refine lv_iload hx hb dL_law_1206 (lv_at hl 1 rfl) ?_
  refine lv_icmp_eq (tgt := 1213) hx hb dL_law_1208 (by decide) (fun c1208 => ?_) (fun c1208 => ?_)
  · have hf := ifp c1208 hf
    refine lv_iload hx hb dL_law_1213 (lv_at hl 1 rfl) ?_
    refine lv_if_ne (tgt := 1230) hx hb dL_law_1215 (by decide) (fun c1215 => ?_) (fun c1215 => ?_)
    · have hf := ifn c1215 hf
      refine lv_goto (tgt := 1752) hx hb dL_law_1230 (by decide) ?_
      exact hK a1179 r1 r2 r3 x4 s1203 hf _ _ _ (lv_sub hl [2, 3, 4, 5, 6] rfl) hW
    · have hf := ifp c1215 hf
      refine lv_aload_n hx hb dL_law_1218 rfl (lv_at hl 5 rfl) ?_
      refine lv_iconst (v := 0) hx hb dL_law_1219 (by decide) ?_
      obtain ⟨g1220, hf⟩ := gd_some hf
      refine aw_lald hC hW g1220 dL_law_1220 ?_
      refine lv_iload hx hb dL_law_1221 (lv_at hl 0 rfl) ?_
      refine lv_i2l (v := (v1197 : Int32).toInt64) hx hb dL_law_1223 rfl ?_
      refine W.lcmp hx hb dL_law_1224 ?_
      refine lv_if_eq (tgt := 1230) hx hb dL_law_1225 (by decide) (fun c1225 => ?_) (fun c1225 => ?_)
      · have hf := ifp c1225 hf
        refine lv_goto (tgt := 1752) hx hb dL_law_1230 (by decide) ?_
        exact hK a1179 r1 r2 r3 x4 s1203 hf _ _ _ (lv_sub hl [2, 3, 4, 5, 6] rfl) hW
      · have hf := ifn c1225 hf
        refine lv_iconst (v := 0) hx hb dL_law_1228 (by decide) ?_
        cases hf
  · have hf := ifn c1208 hf
    refine lv_iconst (v := 0) hx hb dL_law_1211 (by decide) ?_
    cases hf
def f_law_c29 (L : Nat) (xs : Nat → Int32) (K : Nat → Nat → Nat → Int32 → ST → Option Unit) (r1 r2 r3 : Nat) (x4 : Int32) (s : ST) : Option Unit :=
  gd (¬ (((x4 + 1) : Int32) < 0 ∨ L ≤ ((x4 + 1) : Int32).toNatClampNeg)) <|
  gd (r1 < s.1 ∧ (kd s r1).1 = 1) <|
  ob (f_X1_hold r1 (xs ((x4 + 1) : Int32).toNatClampNeg) s) fun v1240 s1240 =>
  gd (s.1 ≤ s1240.1) <|
  gd (¬ (((x4 + 1) : Int32) < 0 ∨ L ≤ ((x4 + 1) : Int32).toNatClampNeg)) <|
  gd (r2 < s1240.1 ∧ (kd s1240 r2).1 = 14) <|
  ob (f_X14_hold r2 (xs ((x4 + 1) : Int32).toNatClampNeg) s1240) fun v1250 s1250 =>
  gd (s1240.1 ≤ s1250.1) <|
  if v1240 = v1250 then (K r1 r2 r3 x4 s1250) else none
set_option maxHeartbeats 4000000 in
theorem lc_29 {p : Program} {l : Launch} {e : Env} {s0 : State} {m : MethodId} {b L : Nat} {xs : Nat → Int32} {below : List Frame} {meth : Method} {c : Code} {G : GM} (hlt : l.stackTraces = false) (hC : CX p s0 m #[Value.ref b] meth c G (fun q => s0.heap.size ≤ q) code R_law 8) (hr : meth.sig.returnType = ret) (hX : va_X b L xs s0 s0.heap) (hbl : b < s0.heap.size) {K : Nat → Nat → Nat → Int32 → ST → Option Unit} {kc ks : Nat} (hkc : kc + 20 ≤ 603072) (hks : ks + 300 ≤ 7067754) (hK : KL p l e s0 m b below meth c G K (kc + 20) (ks + 300) 1752) : KL p l e s0 m b below meth c G (f_law_c29 L xs K) kc ks 1233 := by
  intro a r1 r2 r3 x4 s hf H locs ls hl hW
  have hx := hC.1
  have hb := hC.2.1
  have hts := hC.2.2.2.2.1
  obtain ⟨N0, hN0⟩ : ∃ N0, N0 = 0 := ⟨_, rfl⟩
  have hE : EX a a N0 := EX.rf
  have hN : N0 ≤ s.1 := by omega
  unfold f_law_c29 at hf
  refine lv_aload_n hx hb dL_law_1233 rfl (lv_at hl 1 rfl) ?_
  refine lv_aload_n hx hb dL_law_1234 rfl (lv_at hl 0 rfl) ?_
  refine lv_iload hx hb dL_law_1235 (lv_at hl 4 rfl) ?_
  refine lv_iconst (v := 1) hx hb dL_law_1237 (by decide) ?_
  refine lv_iadd hx hb dL_law_1238 ?_
  obtain ⟨g1239, hf⟩ := gd_some hf
  refine lw_xld hx hb hX hbl hW g1239 dL_law_1239 ?_
  obtain ⟨g1240, hf⟩ := gd_some hf
  obtain ⟨v1240, s1240, h1240, hf⟩ := ob_some hf
  obtain ⟨hN1, hf⟩ := gd_some hf
  have hN := Nat.le_trans hN hN1
  refine aw_dV1 (r := r1) (As := [.int (xs ((x4 + 1) : Int32).toNatClampNeg)]) (rest := []) (ct_X1_hold l G a r1 (xs ((x4 + 1) : Int32).toNatClampNeg) s v1240 s1240 h1240) hC hW hl.1 vy_X1_hold (Or.inl q1116) g1240 rfl rfl rfl rfl (Nat.le_of_ble_eq_true rfl) ⟨Nat.le_of_ble_eq_true rfl, Nat.le_of_ble_eq_true rfl⟩ ⟨(by show kc ≤ 603072; omega), (by show ks ≤ 7067754; omega)⟩ dL_law_1240 (fun H locs hW => ?_)
  refine lv_aload_n hx hb dL_law_1243 rfl (lv_at hl 2 rfl) ?_
  refine lv_aload_n hx hb dL_law_1244 rfl (lv_at hl 0 rfl) ?_
  refine lv_iload hx hb dL_law_1245 (lv_at hl 4 rfl) ?_
  refine lv_iconst (v := 1) hx hb dL_law_1247 (by decide) ?_
  refine lv_iadd hx hb dL_law_1248 ?_
  obtain ⟨g1249, hf⟩ := gd_some hf
  refine lw_xld hx hb hX hbl hW g1249 dL_law_1249 ?_
  obtain ⟨g1250, hf⟩ := gd_some hf
  obtain ⟨v1250, s1250, h1250, hf⟩ := ob_some hf
  obtain ⟨hN1, hf⟩ := gd_some hf
  have hN := Nat.le_trans hN hN1
  refine aw_dV1 (r := r2) (As := [.int (xs ((x4 + 1) : Int32).toNatClampNeg)]) (rest := [.int v1240]) (ct_X14_hold l G a r2 (xs ((x4 + 1) : Int32).toNatClampNeg) s1240 v1250 s1250 h1250) hC hW hl.1 vy_X14_hold (Or.inl q1813) g1250 rfl rfl rfl rfl (Nat.le_of_ble_eq_true rfl) ⟨Nat.le_of_ble_eq_true rfl, Nat.le_of_ble_eq_true rfl⟩ ⟨(by show kc ≤ 603072; omega), (by show ks ≤ 7067754; omega)⟩ dL_law_1250 (fun H locs hW => ?_)
  refine lv_icmp_eq (tgt := 1752) hx hb dL_law_1253 (by decide) (fun c1253 => ?_) (fun c1253 => ?_)
  · have hf := ifp c1253 hf
    refine W.widen (k := kc + 20) (n := ks + 300) (by omega) (by omega) ?_
    exact hK a r1 r2 r3 x4 s1250 hf _ _ _ (lv_sub hl [0, 1, 2, 3, 4] rfl) hW
  · have hf := ifn c1253 hf
    refine lv_iconst (v := 0) hx hb dL_law_1256 (by decide) ?_
    cases hf
def f_law_c30 (L : Nat) (xs : Nat → Int32) (K : Nat → Nat → Nat → Int32 → ST → Option Unit) (r1 r2 r3 : Nat) (x4 : Int32) (s : ST) : Option Unit :=
  gd (¬ (((x4 + 1) : Int32) < 0 ∨ L ≤ ((x4 + 1) : Int32).toNatClampNeg)) <|
  gd (¬ (((x4 + 2) : Int32) < 0 ∨ L ≤ ((x4 + 2) : Int32).toNatClampNeg)) <|
  gd (r1 < s.1 ∧ (kd s r1).1 = 1) <|
  ob (f_X1_bribe r1 (xs ((x4 + 1) : Int32).toNatClampNeg) (xs ((x4 + 2) : Int32).toNatClampNeg) s) fun v1271 s1271 =>
  gd (s.1 ≤ s1271.1) <|
  gd (¬ (((x4 + 1) : Int32) < 0 ∨ L ≤ ((x4 + 1) : Int32).toNatClampNeg)) <|
  gd (¬ (((x4 + 2) : Int32) < 0 ∨ L ≤ ((x4 + 2) : Int32).toNatClampNeg)) <|
  gd (r2 < s1271.1 ∧ (kd s1271 r2).1 = 14) <|
  ob (f_X14_bribe r2 (xs ((x4 + 1) : Int32).toNatClampNeg) (xs ((x4 + 2) : Int32).toNatClampNeg) s1271) fun v1287 s1287 =>
  gd (s1271.1 ≤ s1287.1) <|
  if v1271 = v1287 then (K r1 r2 r3 x4 s1287) else none
set_option maxHeartbeats 4000000 in
theorem lc_30 {p : Program} {l : Launch} {e : Env} {s0 : State} {m : MethodId} {b L : Nat} {xs : Nat → Int32} {below : List Frame} {meth : Method} {c : Code} {G : GM} (hlt : l.stackTraces = false) (hC : CX p s0 m #[Value.ref b] meth c G (fun q => s0.heap.size ≤ q) code R_law 8) (hr : meth.sig.returnType = ret) (hX : va_X b L xs s0 s0.heap) (hbl : b < s0.heap.size) {K : Nat → Nat → Nat → Int32 → ST → Option Unit} {kc ks : Nat} (hkc : kc + 20 ≤ 603072) (hks : ks + 300 ≤ 7067754) (hK : KL p l e s0 m b below meth c G K (kc + 20) (ks + 300) 1752) : KL p l e s0 m b below meth c G (f_law_c30 L xs K) kc ks 1258 := by
  intro a r1 r2 r3 x4 s hf H locs ls hl hW
  have hx := hC.1
  have hb := hC.2.1
  have hts := hC.2.2.2.2.1
  obtain ⟨N0, hN0⟩ : ∃ N0, N0 = 0 := ⟨_, rfl⟩
  have hE : EX a a N0 := EX.rf
  have hN : N0 ≤ s.1 := by omega
  unfold f_law_c30 at hf
  refine lv_aload_n hx hb dL_law_1258 rfl (lv_at hl 1 rfl) ?_
  refine lv_aload_n hx hb dL_law_1259 rfl (lv_at hl 0 rfl) ?_
  refine lv_iload hx hb dL_law_1260 (lv_at hl 4 rfl) ?_
  refine lv_iconst (v := 1) hx hb dL_law_1262 (by decide) ?_
  refine lv_iadd hx hb dL_law_1263 ?_
  obtain ⟨g1264, hf⟩ := gd_some hf
  refine lw_xld hx hb hX hbl hW g1264 dL_law_1264 ?_
  refine lv_aload_n hx hb dL_law_1265 rfl (lv_at hl 0 rfl) ?_
  refine lv_iload hx hb dL_law_1266 (lv_at hl 4 rfl) ?_
  refine lv_iconst (v := 2) hx hb dL_law_1268 (by decide) ?_
  refine lv_iadd hx hb dL_law_1269 ?_
  obtain ⟨g1270, hf⟩ := gd_some hf
  refine lw_xld hx hb hX hbl hW g1270 dL_law_1270 ?_
  obtain ⟨g1271, hf⟩ := gd_some hf
  obtain ⟨v1271, s1271, h1271, hf⟩ := ob_some hf
  obtain ⟨hN1, hf⟩ := gd_some hf
  have hN := Nat.le_trans hN hN1
  refine aw_dV1 (r := r1) (As := [.int (xs ((x4 + 1) : Int32).toNatClampNeg), .int (xs ((x4 + 2) : Int32).toNatClampNeg)]) (rest := []) (ct_X1_bribe l G a r1 (xs ((x4 + 1) : Int32).toNatClampNeg) (xs ((x4 + 2) : Int32).toNatClampNeg) s v1271 s1271 h1271) hC hW hl.1 vy_X1_bribe (Or.inl q1164) g1271 rfl rfl rfl rfl (Nat.le_of_ble_eq_true rfl) ⟨Nat.le_of_ble_eq_true rfl, Nat.le_of_ble_eq_true rfl⟩ ⟨(by show kc ≤ 603072; omega), (by show ks ≤ 7067754; omega)⟩ dL_law_1271 (fun H locs hW => ?_)
  refine lv_aload_n hx hb dL_law_1274 rfl (lv_at hl 2 rfl) ?_
  refine lv_aload_n hx hb dL_law_1275 rfl (lv_at hl 0 rfl) ?_
  refine lv_iload hx hb dL_law_1276 (lv_at hl 4 rfl) ?_
  refine lv_iconst (v := 1) hx hb dL_law_1278 (by decide) ?_
  refine lv_iadd hx hb dL_law_1279 ?_
  obtain ⟨g1280, hf⟩ := gd_some hf
  refine lw_xld hx hb hX hbl hW g1280 dL_law_1280 ?_
  refine lv_aload_n hx hb dL_law_1281 rfl (lv_at hl 0 rfl) ?_
  refine lv_iload hx hb dL_law_1282 (lv_at hl 4 rfl) ?_
  refine lv_iconst (v := 2) hx hb dL_law_1284 (by decide) ?_
  refine lv_iadd hx hb dL_law_1285 ?_
  obtain ⟨g1286, hf⟩ := gd_some hf
  refine lw_xld hx hb hX hbl hW g1286 dL_law_1286 ?_
  obtain ⟨g1287, hf⟩ := gd_some hf
  obtain ⟨v1287, s1287, h1287, hf⟩ := ob_some hf
  obtain ⟨hN1, hf⟩ := gd_some hf
  have hN := Nat.le_trans hN hN1
  refine aw_dV1 (r := r2) (As := [.int (xs ((x4 + 1) : Int32).toNatClampNeg), .int (xs ((x4 + 2) : Int32).toNatClampNeg)]) (rest := [.int v1271]) (ct_X14_bribe l G a r2 (xs ((x4 + 1) : Int32).toNatClampNeg) (xs ((x4 + 2) : Int32).toNatClampNeg) s1271 v1287 s1287 h1287) hC hW hl.1 vy_X14_bribe (Or.inl q1825) g1287 rfl rfl rfl rfl (Nat.le_of_ble_eq_true rfl) ⟨Nat.le_of_ble_eq_true rfl, Nat.le_of_ble_eq_true rfl⟩ ⟨(by show kc ≤ 603072; omega), (by show ks ≤ 7067754; omega)⟩ dL_law_1287 (fun H locs hW => ?_)
  refine lv_icmp_eq (tgt := 1752) hx hb dL_law_1290 (by decide) (fun c1290 => ?_) (fun c1290 => ?_)
  · have hf := ifp c1290 hf
    refine W.widen (k := kc + 20) (n := ks + 300) (by omega) (by omega) ?_
    exact hK a r1 r2 r3 x4 s1287 hf _ _ _ (lv_sub hl [0, 1, 2, 3, 4] rfl) hW
  · have hf := ifn c1290 hf
    refine lv_iconst (v := 0) hx hb dL_law_1293 (by decide) ?_
    cases hf
def f_law_c31 (L : Nat) (xs : Nat → Int32) (K : Nat → Nat → Nat → Int32 → ST → Option Unit) (r1 r2 r3 : Nat) (x4 : Int32) (s : ST) : Option Unit :=
  gd (¬ (((x4 + 1) : Int32) < 0 ∨ L ≤ ((x4 + 1) : Int32).toNatClampNeg)) <|
  gd (¬ (((x4 + 2) : Int32) < 0 ∨ L ≤ ((x4 + 2) : Int32).toNatClampNeg)) <|
  gd (r1 < s.1 ∧ (kd s r1).1 = 1) <|
  ob (f_X1_starve r1 (xs ((x4 + 1) : Int32).toNatClampNeg) (xs ((x4 + 2) : Int32).toNatClampNeg) s) fun v1308 s1308 =>
  gd (s.1 ≤ s1308.1) <|
  gd (¬ (((x4 + 1) : Int32) < 0 ∨ L ≤ ((x4 + 1) : Int32).toNatClampNeg)) <|
  gd (¬ (((x4 + 2) : Int32) < 0 ∨ L ≤ ((x4 + 2) : Int32).toNatClampNeg)) <|
  gd (r2 < s1308.1 ∧ (kd s1308 r2).1 = 14) <|
  ob (f_X14_starve r2 (xs ((x4 + 1) : Int32).toNatClampNeg) (xs ((x4 + 2) : Int32).toNatClampNeg) s1308) fun v1324 s1324 =>
  gd (s1308.1 ≤ s1324.1) <|
  if v1308 = v1324 then (K r1 r2 r3 x4 s1324) else none
set_option maxHeartbeats 4000000 in
theorem lc_31 {p : Program} {l : Launch} {e : Env} {s0 : State} {m : MethodId} {b L : Nat} {xs : Nat → Int32} {below : List Frame} {meth : Method} {c : Code} {G : GM} (hlt : l.stackTraces = false) (hC : CX p s0 m #[Value.ref b] meth c G (fun q => s0.heap.size ≤ q) code R_law 8) (hr : meth.sig.returnType = ret) (hX : va_X b L xs s0 s0.heap) (hbl : b < s0.heap.size) {K : Nat → Nat → Nat → Int32 → ST → Option Unit} {kc ks : Nat} (hkc : kc + 20 ≤ 603072) (hks : ks + 300 ≤ 7067754) (hK : KL p l e s0 m b below meth c G K (kc + 20) (ks + 300) 1752) : KL p l e s0 m b below meth c G (f_law_c31 L xs K) kc ks 1295 := by
  intro a r1 r2 r3 x4 s hf H locs ls hl hW
  have hx := hC.1
  have hb := hC.2.1
  have hts := hC.2.2.2.2.1
  obtain ⟨N0, hN0⟩ : ∃ N0, N0 = 0 := ⟨_, rfl⟩
  have hE : EX a a N0 := EX.rf
  have hN : N0 ≤ s.1 := by omega
  unfold f_law_c31 at hf
  refine lv_aload_n hx hb dL_law_1295 rfl (lv_at hl 1 rfl) ?_
  refine lv_aload_n hx hb dL_law_1296 rfl (lv_at hl 0 rfl) ?_
  refine lv_iload hx hb dL_law_1297 (lv_at hl 4 rfl) ?_
  refine lv_iconst (v := 1) hx hb dL_law_1299 (by decide) ?_
  refine lv_iadd hx hb dL_law_1300 ?_
  obtain ⟨g1301, hf⟩ := gd_some hf
  refine lw_xld hx hb hX hbl hW g1301 dL_law_1301 ?_
  refine lv_aload_n hx hb dL_law_1302 rfl (lv_at hl 0 rfl) ?_
  refine lv_iload hx hb dL_law_1303 (lv_at hl 4 rfl) ?_
  refine lv_iconst (v := 2) hx hb dL_law_1305 (by decide) ?_
  refine lv_iadd hx hb dL_law_1306 ?_
  obtain ⟨g1307, hf⟩ := gd_some hf
  refine lw_xld hx hb hX hbl hW g1307 dL_law_1307 ?_
  obtain ⟨g1308, hf⟩ := gd_some hf
  obtain ⟨v1308, s1308, h1308, hf⟩ := ob_some hf
  obtain ⟨hN1, hf⟩ := gd_some hf
  have hN := Nat.le_trans hN hN1
  refine aw_dV1 (r := r1) (As := [.int (xs ((x4 + 1) : Int32).toNatClampNeg), .int (xs ((x4 + 2) : Int32).toNatClampNeg)]) (rest := []) (ct_X1_starve l G a r1 (xs ((x4 + 1) : Int32).toNatClampNeg) (xs ((x4 + 2) : Int32).toNatClampNeg) s v1308 s1308 h1308) hC hW hl.1 vy_X1_starve (Or.inl q1169) g1308 rfl rfl rfl rfl (Nat.le_of_ble_eq_true rfl) ⟨Nat.le_of_ble_eq_true rfl, Nat.le_of_ble_eq_true rfl⟩ ⟨(by show kc ≤ 603072; omega), (by show ks ≤ 7067754; omega)⟩ dL_law_1308 (fun H locs hW => ?_)
  refine lv_aload_n hx hb dL_law_1311 rfl (lv_at hl 2 rfl) ?_
  refine lv_aload_n hx hb dL_law_1312 rfl (lv_at hl 0 rfl) ?_
  refine lv_iload hx hb dL_law_1313 (lv_at hl 4 rfl) ?_
  refine lv_iconst (v := 1) hx hb dL_law_1315 (by decide) ?_
  refine lv_iadd hx hb dL_law_1316 ?_
  obtain ⟨g1317, hf⟩ := gd_some hf
  refine lw_xld hx hb hX hbl hW g1317 dL_law_1317 ?_
  refine lv_aload_n hx hb dL_law_1318 rfl (lv_at hl 0 rfl) ?_
  refine lv_iload hx hb dL_law_1319 (lv_at hl 4 rfl) ?_
  refine lv_iconst (v := 2) hx hb dL_law_1321 (by decide) ?_
  refine lv_iadd hx hb dL_law_1322 ?_
  obtain ⟨g1323, hf⟩ := gd_some hf
  refine lw_xld hx hb hX hbl hW g1323 dL_law_1323 ?_
  obtain ⟨g1324, hf⟩ := gd_some hf
  obtain ⟨v1324, s1324, h1324, hf⟩ := ob_some hf
  obtain ⟨hN1, hf⟩ := gd_some hf
  have hN := Nat.le_trans hN hN1
  refine aw_dV1 (r := r2) (As := [.int (xs ((x4 + 1) : Int32).toNatClampNeg), .int (xs ((x4 + 2) : Int32).toNatClampNeg)]) (rest := [.int v1308]) (ct_X14_starve l G a r2 (xs ((x4 + 1) : Int32).toNatClampNeg) (xs ((x4 + 2) : Int32).toNatClampNeg) s1308 v1324 s1324 h1324) hC hW hl.1 vy_X14_starve (Or.inl q1829) g1324 rfl rfl rfl rfl (Nat.le_of_ble_eq_true rfl) ⟨Nat.le_of_ble_eq_true rfl, Nat.le_of_ble_eq_true rfl⟩ ⟨(by show kc ≤ 603072; omega), (by show ks ≤ 7067754; omega)⟩ dL_law_1324 (fun H locs hW => ?_)
  refine lv_icmp_eq (tgt := 1752) hx hb dL_law_1327 (by decide) (fun c1327 => ?_) (fun c1327 => ?_)
  · have hf := ifp c1327 hf
    refine W.widen (k := kc + 20) (n := ks + 300) (by omega) (by omega) ?_
    exact hK a r1 r2 r3 x4 s1324 hf _ _ _ (lv_sub hl [0, 1, 2, 3, 4] rfl) hW
  · have hf := ifn c1327 hf
    refine lv_iconst (v := 0) hx hb dL_law_1330 (by decide) ?_
    cases hf
def f_law_c32 (L : Nat) (xs : Nat → Int32) (K : Nat → Nat → Nat → Int32 → ST → Option Unit) (r1 r2 r3 : Nat) (x4 : Int32) (s : ST) : Option Unit :=
  gd (r1 < s.1 ∧ (kd s r1).1 = 1) <|
  ob (f_X1_cheapest r1 s) fun v1333 s1333 =>
  gd (s.1 ≤ s1333.1) <|
  gd (r2 < s1333.1 ∧ (kd s1333 r2).1 = 14) <|
  ob (f_X14_cheapest r2 s1333) fun v1337 s1337 =>
  gd (s1333.1 ≤ s1337.1) <|
  if v1333 = v1337 then (K r1 r2 r3 x4 s1337) else none
set_option maxHeartbeats 4000000 in
theorem lc_32 {p : Program} {l : Launch} {e : Env} {s0 : State} {m : MethodId} {b L : Nat} {xs : Nat → Int32} {below : List Frame} {meth : Method} {c : Code} {G : GM} (hlt : l.stackTraces = false) (hC : CX p s0 m #[Value.ref b] meth c G (fun q => s0.heap.size ≤ q) code R_law 8) (hr : meth.sig.returnType = ret) (hX : va_X b L xs s0 s0.heap) (hbl : b < s0.heap.size) {K : Nat → Nat → Nat → Int32 → ST → Option Unit} {kc ks : Nat} (hkc : kc + 20 ≤ 603072) (hks : ks + 300 ≤ 7067754) (hK : KL p l e s0 m b below meth c G K (kc + 20) (ks + 300) 1752) : KL p l e s0 m b below meth c G (f_law_c32 L xs K) kc ks 1332 := by
  intro a r1 r2 r3 x4 s hf H locs ls hl hW
  have hx := hC.1
  have hb := hC.2.1
  have hts := hC.2.2.2.2.1
  obtain ⟨N0, hN0⟩ : ∃ N0, N0 = 0 := ⟨_, rfl⟩
  have hE : EX a a N0 := EX.rf
  have hN : N0 ≤ s.1 := by omega
  unfold f_law_c32 at hf
  refine lv_aload_n hx hb dL_law_1332 rfl (lv_at hl 1 rfl) ?_
  obtain ⟨g1333, hf⟩ := gd_some hf
  obtain ⟨v1333, s1333, h1333, hf⟩ := ob_some hf
  obtain ⟨hN1, hf⟩ := gd_some hf
  have hN := Nat.le_trans hN hN1
  refine aw_dV1 (r := r1) (As := []) (rest := []) (ct_X1_cheapest l G a r1 s v1333 s1333 h1333) hC hW hl.1 vy_X1_cheapest (Or.inl q1173) g1333 rfl rfl rfl rfl (Nat.le_of_ble_eq_true rfl) ⟨Nat.le_of_ble_eq_true rfl, Nat.le_of_ble_eq_true rfl⟩ ⟨(by show kc ≤ 603072; omega), (by show ks ≤ 7067754; omega)⟩ dL_law_1333 (fun H locs hW => ?_)
  refine lv_aload_n hx hb dL_law_1336 rfl (lv_at hl 2 rfl) ?_
  obtain ⟨g1337, hf⟩ := gd_some hf
  obtain ⟨v1337, s1337, h1337, hf⟩ := ob_some hf
  obtain ⟨hN1, hf⟩ := gd_some hf
  have hN := Nat.le_trans hN hN1
  refine aw_dV1 (r := r2) (As := []) (rest := [.int v1333]) (ct_X14_cheapest l G a r2 s1333 v1337 s1337 h1337) hC hW hl.1 vy_X14_cheapest (Or.inl q1833) g1337 rfl rfl rfl rfl (Nat.le_of_ble_eq_true rfl) ⟨Nat.le_of_ble_eq_true rfl, Nat.le_of_ble_eq_true rfl⟩ ⟨(by show kc ≤ 603072; omega), (by show ks ≤ 7067754; omega)⟩ dL_law_1337 (fun H locs hW => ?_)
  refine lv_icmp_eq (tgt := 1752) hx hb dL_law_1340 (by decide) (fun c1340 => ?_) (fun c1340 => ?_)
  · have hf := ifp c1340 hf
    refine W.widen (k := kc + 20) (n := ks + 300) (by omega) (by omega) ?_
    exact hK a r1 r2 r3 x4 s1337 hf _ _ _ (lv_sub hl [0, 1, 2, 3, 4] rfl) hW
  · have hf := ifn c1340 hf
    refine lv_iconst (v := 0) hx hb dL_law_1343 (by decide) ?_
    cases hf
def f_law_c33 (L : Nat) (xs : Nat → Int32) (K : Nat → Nat → Nat → Int32 → ST → Option Unit) (r1 r2 r3 : Nat) (x4 : Int32) (s : ST) : Option Unit :=
  gd (¬ (((x4 + 1) : Int32) < 0 ∨ L ≤ ((x4 + 1) : Int32).toNatClampNeg)) <|
  gd (¬ (((x4 + 2) : Int32) < 0 ∨ L ≤ ((x4 + 2) : Int32).toNatClampNeg)) <|
  gd (r1 < s.1 ∧ (kd s r1).1 = 1) <|
  ob (f_X1_weighed r1 (xs ((x4 + 1) : Int32).toNatClampNeg) (xs ((x4 + 2) : Int32).toNatClampNeg) s) fun v1358 s1358 =>
  gd (s.1 ≤ s1358.1) <|
  gd (¬ (((x4 + 1) : Int32) < 0 ∨ L ≤ ((x4 + 1) : Int32).toNatClampNeg)) <|
  gd (¬ (((x4 + 2) : Int32) < 0 ∨ L ≤ ((x4 + 2) : Int32).toNatClampNeg)) <|
  gd (r2 < s1358.1 ∧ (kd s1358 r2).1 = 14) <|
  ob (f_X14_weighed r2 (xs ((x4 + 1) : Int32).toNatClampNeg) (xs ((x4 + 2) : Int32).toNatClampNeg) s1358) fun v1374 s1374 =>
  gd (s1358.1 ≤ s1374.1) <|
  if v1358 = v1374 then (K r1 r2 r3 x4 s1374) else none
set_option maxHeartbeats 4000000 in
theorem lc_33 {p : Program} {l : Launch} {e : Env} {s0 : State} {m : MethodId} {b L : Nat} {xs : Nat → Int32} {below : List Frame} {meth : Method} {c : Code} {G : GM} (hlt : l.stackTraces = false) (hC : CX p s0 m #[Value.ref b] meth c G (fun q => s0.heap.size ≤ q) code R_law 8) (hr : meth.sig.returnType = ret) (hX : va_X b L xs s0 s0.heap) (hbl : b < s0.heap.size) {K : Nat → Nat → Nat → Int32 → ST → Option Unit} {kc ks : Nat} (hkc : kc + 20 ≤ 603072) (hks : ks + 300 ≤ 7067754) (hK : KL p l e s0 m b below meth c G K (kc + 20) (ks + 300) 1752) : KL p l e s0 m b below meth c G (f_law_c33 L xs K) kc ks 1345 := by
  intro a r1 r2 r3 x4 s hf H locs ls hl hW
  have hx := hC.1
  have hb := hC.2.1
  have hts := hC.2.2.2.2.1
  obtain ⟨N0, hN0⟩ : ∃ N0, N0 = 0 := ⟨_, rfl⟩
  have hE : EX a a N0 := EX.rf
  have hN : N0 ≤ s.1 := by omega
  unfold f_law_c33 at hf
  refine lv_aload_n hx hb dL_law_1345 rfl (lv_at hl 1 rfl) ?_
  refine lv_aload_n hx hb dL_law_1346 rfl (lv_at hl 0 rfl) ?_
  refine lv_iload hx hb dL_law_1347 (lv_at hl 4 rfl) ?_
  refine lv_iconst (v := 1) hx hb dL_law_1349 (by decide) ?_
  refine lv_iadd hx hb dL_law_1350 ?_
  obtain ⟨g1351, hf⟩ := gd_some hf
  refine lw_xld hx hb hX hbl hW g1351 dL_law_1351 ?_
  refine lv_aload_n hx hb dL_law_1352 rfl (lv_at hl 0 rfl) ?_
  refine lv_iload hx hb dL_law_1353 (lv_at hl 4 rfl) ?_
  refine lv_iconst (v := 2) hx hb dL_law_1355 (by decide) ?_
  refine lv_iadd hx hb dL_law_1356 ?_
  obtain ⟨g1357, hf⟩ := gd_some hf
  refine lw_xld hx hb hX hbl hW g1357 dL_law_1357 ?_
  obtain ⟨g1358, hf⟩ := gd_some hf
  obtain ⟨v1358, s1358, h1358, hf⟩ := ob_some hf
  obtain ⟨hN1, hf⟩ := gd_some hf
  have hN := Nat.le_trans hN hN1
  refine aw_dV1 (r := r1) (As := [.int (xs ((x4 + 1) : Int32).toNatClampNeg), .int (xs ((x4 + 2) : Int32).toNatClampNeg)]) (rest := []) (ct_X1_weighed l G a r1 (xs ((x4 + 1) : Int32).toNatClampNeg) (xs ((x4 + 2) : Int32).toNatClampNeg) s v1358 s1358 h1358) hC hW hl.1 vy_X1_weighed (Or.inl q1177) g1358 rfl rfl rfl rfl (Nat.le_of_ble_eq_true rfl) ⟨Nat.le_of_ble_eq_true rfl, Nat.le_of_ble_eq_true rfl⟩ ⟨(by show kc ≤ 603072; omega), (by show ks ≤ 7067754; omega)⟩ dL_law_1358 (fun H locs hW => ?_)
  refine lv_aload_n hx hb dL_law_1361 rfl (lv_at hl 2 rfl) ?_
  refine lv_aload_n hx hb dL_law_1362 rfl (lv_at hl 0 rfl) ?_
  refine lv_iload hx hb dL_law_1363 (lv_at hl 4 rfl) ?_
  refine lv_iconst (v := 1) hx hb dL_law_1365 (by decide) ?_
  refine lv_iadd hx hb dL_law_1366 ?_
  obtain ⟨g1367, hf⟩ := gd_some hf
  refine lw_xld hx hb hX hbl hW g1367 dL_law_1367 ?_
  refine lv_aload_n hx hb dL_law_1368 rfl (lv_at hl 0 rfl) ?_
  refine lv_iload hx hb dL_law_1369 (lv_at hl 4 rfl) ?_
  refine lv_iconst (v := 2) hx hb dL_law_1371 (by decide) ?_
  refine lv_iadd hx hb dL_law_1372 ?_
  obtain ⟨g1373, hf⟩ := gd_some hf
  refine lw_xld hx hb hX hbl hW g1373 dL_law_1373 ?_
  obtain ⟨g1374, hf⟩ := gd_some hf
  obtain ⟨v1374, s1374, h1374, hf⟩ := ob_some hf
  obtain ⟨hN1, hf⟩ := gd_some hf
  have hN := Nat.le_trans hN hN1
  refine aw_dV1 (r := r2) (As := [.int (xs ((x4 + 1) : Int32).toNatClampNeg), .int (xs ((x4 + 2) : Int32).toNatClampNeg)]) (rest := [.int v1358]) (ct_X14_weighed l G a r2 (xs ((x4 + 1) : Int32).toNatClampNeg) (xs ((x4 + 2) : Int32).toNatClampNeg) s1358 v1374 s1374 h1374) hC hW hl.1 vy_X14_weighed (Or.inl q1837) g1374 rfl rfl rfl rfl (Nat.le_of_ble_eq_true rfl) ⟨Nat.le_of_ble_eq_true rfl, Nat.le_of_ble_eq_true rfl⟩ ⟨(by show kc ≤ 603072; omega), (by show ks ≤ 7067754; omega)⟩ dL_law_1374 (fun H locs hW => ?_)
  refine lv_icmp_eq (tgt := 1752) hx hb dL_law_1377 (by decide) (fun c1377 => ?_) (fun c1377 => ?_)
  · have hf := ifp c1377 hf
    refine W.widen (k := kc + 20) (n := ks + 300) (by omega) (by omega) ?_
    exact hK a r1 r2 r3 x4 s1374 hf _ _ _ (lv_sub hl [0, 1, 2, 3, 4] rfl) hW
  · have hf := ifn c1377 hf
    refine lv_iconst (v := 0) hx hb dL_law_1380 (by decide) ?_
    cases hf
def f_law_c34 (L : Nat) (xs : Nat → Int32) (K : Nat → Nat → Nat → Int32 → ST → Option Unit) (r1 r2 r3 : Nat) (x4 : Int32) (s : ST) : Option Unit :=
  gd (r1 < s.1 ∧ (kd s r1).1 = 1) <|
  ob (f_X1_forget r1 s) fun v1383 s1383 =>
  gd (s.1 ≤ s1383.1) <|
  gd (r2 < s1383.1 ∧ (kd s1383 r2).1 = 14) <|
  ob (f_X14_forget r2 s1383) fun v1387 s1387 =>
  gd (s1383.1 ≤ s1387.1) <|
  if v1383 = v1387 then (K r1 r2 r3 x4 s1387) else none
set_option maxHeartbeats 4000000 in
theorem lc_34 {p : Program} {l : Launch} {e : Env} {s0 : State} {m : MethodId} {b L : Nat} {xs : Nat → Int32} {below : List Frame} {meth : Method} {c : Code} {G : GM} (hlt : l.stackTraces = false) (hC : CX p s0 m #[Value.ref b] meth c G (fun q => s0.heap.size ≤ q) code R_law 8) (hr : meth.sig.returnType = ret) (hX : va_X b L xs s0 s0.heap) (hbl : b < s0.heap.size) {K : Nat → Nat → Nat → Int32 → ST → Option Unit} {kc ks : Nat} (hkc : kc + 20 ≤ 603072) (hks : ks + 300 ≤ 7067754) (hK : KL p l e s0 m b below meth c G K (kc + 20) (ks + 300) 1752) : KL p l e s0 m b below meth c G (f_law_c34 L xs K) kc ks 1382 := by
  intro a r1 r2 r3 x4 s hf H locs ls hl hW
  have hx := hC.1
  have hb := hC.2.1
  have hts := hC.2.2.2.2.1
  obtain ⟨N0, hN0⟩ : ∃ N0, N0 = 0 := ⟨_, rfl⟩
  have hE : EX a a N0 := EX.rf
  have hN : N0 ≤ s.1 := by omega
  unfold f_law_c34 at hf
  refine lv_aload_n hx hb dL_law_1382 rfl (lv_at hl 1 rfl) ?_
  obtain ⟨g1383, hf⟩ := gd_some hf
  obtain ⟨v1383, s1383, h1383, hf⟩ := ob_some hf
  obtain ⟨hN1, hf⟩ := gd_some hf
  have hN := Nat.le_trans hN hN1
  refine aw_dV1 (r := r1) (As := []) (rest := []) (ct_X1_forget l G a r1 s v1383 s1383 h1383) hC hW hl.1 vy_X1_forget (Or.inl q1182) g1383 rfl rfl rfl rfl (Nat.le_of_ble_eq_true rfl) ⟨Nat.le_of_ble_eq_true rfl, Nat.le_of_ble_eq_true rfl⟩ ⟨(by show kc ≤ 603072; omega), (by show ks ≤ 7067754; omega)⟩ dL_law_1383 (fun H locs hW => ?_)
  refine lv_aload_n hx hb dL_law_1386 rfl (lv_at hl 2 rfl) ?_
  obtain ⟨g1387, hf⟩ := gd_some hf
  obtain ⟨v1387, s1387, h1387, hf⟩ := ob_some hf
  obtain ⟨hN1, hf⟩ := gd_some hf
  have hN := Nat.le_trans hN hN1
  refine aw_dV1 (r := r2) (As := []) (rest := [.int v1383]) (ct_X14_forget l G a r2 s1383 v1387 s1387 h1387) hC hW hl.1 vy_X14_forget (Or.inl q1842) g1387 rfl rfl rfl rfl (Nat.le_of_ble_eq_true rfl) ⟨Nat.le_of_ble_eq_true rfl, Nat.le_of_ble_eq_true rfl⟩ ⟨(by show kc ≤ 603072; omega), (by show ks ≤ 7067754; omega)⟩ dL_law_1387 (fun H locs hW => ?_)
  refine lv_icmp_eq (tgt := 1752) hx hb dL_law_1390 (by decide) (fun c1390 => ?_) (fun c1390 => ?_)
  · have hf := ifp c1390 hf
    refine W.widen (k := kc + 20) (n := ks + 300) (by omega) (by omega) ?_
    exact hK a r1 r2 r3 x4 s1387 hf _ _ _ (lv_sub hl [0, 1, 2, 3, 4] rfl) hW
  · have hf := ifn c1390 hf
    refine lv_iconst (v := 0) hx hb dL_law_1393 (by decide) ?_
    cases hf
def f_law_c35 (L : Nat) (xs : Nat → Int32) (K : Nat → Nat → Nat → Int32 → ST → Option Unit) (r1 r2 r3 : Nat) (x4 : Int32) (s : ST) : Option Unit :=
  gd (r1 < s.1 ∧ (kd s r1).1 = 1) <|
  ob (f_X1_grains r1 s) fun v1396 s1396 =>
  gd (s.1 ≤ s1396.1) <|
  gd (r2 < s1396.1 ∧ (kd s1396 r2).1 = 14) <|
  ob (f_X14_grains r2 s1396) fun v1400 s1400 =>
  gd (s1396.1 ≤ s1400.1) <|
  if v1396 = v1400 then (K r1 r2 r3 x4 s1400) else none
set_option maxHeartbeats 4000000 in
theorem lc_35 {p : Program} {l : Launch} {e : Env} {s0 : State} {m : MethodId} {b L : Nat} {xs : Nat → Int32} {below : List Frame} {meth : Method} {c : Code} {G : GM} (hlt : l.stackTraces = false) (hC : CX p s0 m #[Value.ref b] meth c G (fun q => s0.heap.size ≤ q) code R_law 8) (hr : meth.sig.returnType = ret) (hX : va_X b L xs s0 s0.heap) (hbl : b < s0.heap.size) {K : Nat → Nat → Nat → Int32 → ST → Option Unit} {kc ks : Nat} (hkc : kc + 20 ≤ 603072) (hks : ks + 300 ≤ 7067754) (hK : KL p l e s0 m b below meth c G K (kc + 20) (ks + 300) 1752) : KL p l e s0 m b below meth c G (f_law_c35 L xs K) kc ks 1395 := by
  intro a r1 r2 r3 x4 s hf H locs ls hl hW
  have hx := hC.1
  have hb := hC.2.1
  have hts := hC.2.2.2.2.1
  obtain ⟨N0, hN0⟩ : ∃ N0, N0 = 0 := ⟨_, rfl⟩
  have hE : EX a a N0 := EX.rf
  have hN : N0 ≤ s.1 := by omega
  unfold f_law_c35 at hf
  refine lv_aload_n hx hb dL_law_1395 rfl (lv_at hl 1 rfl) ?_
  obtain ⟨g1396, hf⟩ := gd_some hf
  obtain ⟨v1396, s1396, h1396, hf⟩ := ob_some hf
  obtain ⟨hN1, hf⟩ := gd_some hf
  have hN := Nat.le_trans hN hN1
  refine aw_dW1 (r := r1) (As := []) (rest := []) (ct_X1_grains l G a r1 s v1396 s1396 h1396) hC hW hl.1 vh_X1_grains q1186 g1396 rfl rfl rfl rfl (Nat.le_of_ble_eq_true rfl) ⟨Nat.le_of_ble_eq_true rfl, Nat.le_of_ble_eq_true rfl⟩ ⟨(by show kc ≤ 603072; omega), (by show ks ≤ 7067754; omega)⟩ dL_law_1396 (fun H locs hW => ?_)
  refine lv_aload_n hx hb dL_law_1399 rfl (lv_at hl 2 rfl) ?_
  obtain ⟨g1400, hf⟩ := gd_some hf
  obtain ⟨v1400, s1400, h1400, hf⟩ := ob_some hf
  obtain ⟨hN1, hf⟩ := gd_some hf
  have hN := Nat.le_trans hN hN1
  refine aw_dV1 (r := r2) (As := []) (rest := [.int v1396]) (ct_X14_grains l G a r2 s1396 v1400 s1400 h1400) hC hW hl.1 vy_X14_grains (Or.inl q1846) g1400 rfl rfl rfl rfl (Nat.le_of_ble_eq_true rfl) ⟨Nat.le_of_ble_eq_true rfl, Nat.le_of_ble_eq_true rfl⟩ ⟨(by show kc ≤ 603072; omega), (by show ks ≤ 7067754; omega)⟩ dL_law_1400 (fun H locs hW => ?_)
  refine lv_icmp_eq (tgt := 1752) hx hb dL_law_1403 (by decide) (fun c1403 => ?_) (fun c1403 => ?_)
  · have hf := ifp c1403 hf
    refine W.widen (k := kc + 20) (n := ks + 300) (by omega) (by omega) ?_
    exact hK a r1 r2 r3 x4 s1400 hf _ _ _ (lv_sub hl [0, 1, 2, 3, 4] rfl) hW
  · have hf := ifn c1403 hf
    refine lv_iconst (v := 0) hx hb dL_law_1406 (by decide) ?_
    cases hf
def f_law_c36 (L : Nat) (xs : Nat → Int32) (K : Nat → Nat → Nat → Int32 → ST → Option Unit) (r1 r2 r3 : Nat) (x4 : Int32) (s : ST) : Option Unit :=
  gd (¬ (((x4 + 1) : Int32) < 0 ∨ L ≤ ((x4 + 1) : Int32).toNatClampNeg)) <|
  gd (r1 < s.1 ∧ (kd s r1).1 = 1) <|
  ob (f_X1_span r1 (xs ((x4 + 1) : Int32).toNatClampNeg) s) fun v1415 s1415 =>
  gd (s.1 ≤ s1415.1) <|
  gd (¬ (((x4 + 1) : Int32) < 0 ∨ L ≤ ((x4 + 1) : Int32).toNatClampNeg)) <|
  gd (r2 < s1415.1 ∧ (kd s1415 r2).1 = 14) <|
  ob (f_X14_span r2 (xs ((x4 + 1) : Int32).toNatClampNeg) s1415) fun v1425 s1425 =>
  gd (s1415.1 ≤ s1425.1) <|
  if v1415 = v1425 then (K r1 r2 r3 x4 s1425) else none
set_option maxHeartbeats 4000000 in
theorem lc_36 {p : Program} {l : Launch} {e : Env} {s0 : State} {m : MethodId} {b L : Nat} {xs : Nat → Int32} {below : List Frame} {meth : Method} {c : Code} {G : GM} (hlt : l.stackTraces = false) (hC : CX p s0 m #[Value.ref b] meth c G (fun q => s0.heap.size ≤ q) code R_law 8) (hr : meth.sig.returnType = ret) (hX : va_X b L xs s0 s0.heap) (hbl : b < s0.heap.size) {K : Nat → Nat → Nat → Int32 → ST → Option Unit} {kc ks : Nat} (hkc : kc + 20 ≤ 603072) (hks : ks + 300 ≤ 7067754) (hK : KL p l e s0 m b below meth c G K (kc + 20) (ks + 300) 1752) : KL p l e s0 m b below meth c G (f_law_c36 L xs K) kc ks 1408 := by
  intro a r1 r2 r3 x4 s hf H locs ls hl hW
  have hx := hC.1
  have hb := hC.2.1
  have hts := hC.2.2.2.2.1
  obtain ⟨N0, hN0⟩ : ∃ N0, N0 = 0 := ⟨_, rfl⟩
  have hE : EX a a N0 := EX.rf
  have hN : N0 ≤ s.1 := by omega
  unfold f_law_c36 at hf
  refine lv_aload_n hx hb dL_law_1408 rfl (lv_at hl 1 rfl) ?_
  refine lv_aload_n hx hb dL_law_1409 rfl (lv_at hl 0 rfl) ?_
  refine lv_iload hx hb dL_law_1410 (lv_at hl 4 rfl) ?_
  refine lv_iconst (v := 1) hx hb dL_law_1412 (by decide) ?_
  refine lv_iadd hx hb dL_law_1413 ?_
  obtain ⟨g1414, hf⟩ := gd_some hf
  refine lw_xld hx hb hX hbl hW g1414 dL_law_1414 ?_
  obtain ⟨g1415, hf⟩ := gd_some hf
  obtain ⟨v1415, s1415, h1415, hf⟩ := ob_some hf
  obtain ⟨hN1, hf⟩ := gd_some hf
  have hN := Nat.le_trans hN hN1
  refine aw_dV1 (r := r1) (As := [.int (xs ((x4 + 1) : Int32).toNatClampNeg)]) (rest := []) (ct_X1_span l G a r1 (xs ((x4 + 1) : Int32).toNatClampNeg) s v1415 s1415 h1415) hC hW hl.1 vy_X1_span (Or.inl q1198) g1415 rfl rfl rfl rfl (Nat.le_of_ble_eq_true rfl) ⟨Nat.le_of_ble_eq_true rfl, Nat.le_of_ble_eq_true rfl⟩ ⟨(by show kc ≤ 603072; omega), (by show ks ≤ 7067754; omega)⟩ dL_law_1415 (fun H locs hW => ?_)
  refine lv_aload_n hx hb dL_law_1418 rfl (lv_at hl 2 rfl) ?_
  refine lv_aload_n hx hb dL_law_1419 rfl (lv_at hl 0 rfl) ?_
  refine lv_iload hx hb dL_law_1420 (lv_at hl 4 rfl) ?_
  refine lv_iconst (v := 1) hx hb dL_law_1422 (by decide) ?_
  refine lv_iadd hx hb dL_law_1423 ?_
  obtain ⟨g1424, hf⟩ := gd_some hf
  refine lw_xld hx hb hX hbl hW g1424 dL_law_1424 ?_
  obtain ⟨g1425, hf⟩ := gd_some hf
  obtain ⟨v1425, s1425, h1425, hf⟩ := ob_some hf
  obtain ⟨hN1, hf⟩ := gd_some hf
  have hN := Nat.le_trans hN hN1
  refine aw_dV1 (r := r2) (As := [.int (xs ((x4 + 1) : Int32).toNatClampNeg)]) (rest := [.int v1415]) (ct_X14_span l G a r2 (xs ((x4 + 1) : Int32).toNatClampNeg) s1415 v1425 s1425 h1425) hC hW hl.1 vy_X14_span (Or.inl q1862) g1425 rfl rfl rfl rfl (Nat.le_of_ble_eq_true rfl) ⟨Nat.le_of_ble_eq_true rfl, Nat.le_of_ble_eq_true rfl⟩ ⟨(by show kc ≤ 603072; omega), (by show ks ≤ 7067754; omega)⟩ dL_law_1425 (fun H locs hW => ?_)
  refine lv_icmp_eq (tgt := 1752) hx hb dL_law_1428 (by decide) (fun c1428 => ?_) (fun c1428 => ?_)
  · have hf := ifp c1428 hf
    refine W.widen (k := kc + 20) (n := ks + 300) (by omega) (by omega) ?_
    exact hK a r1 r2 r3 x4 s1425 hf _ _ _ (lv_sub hl [0, 1, 2, 3, 4] rfl) hW
  · have hf := ifn c1428 hf
    refine lv_iconst (v := 0) hx hb dL_law_1431 (by decide) ?_
    cases hf
def f_law_c37 (L : Nat) (xs : Nat → Int32) (K : Nat → Nat → Nat → Int32 → ST → Option Unit) (r1 r2 r3 : Nat) (x4 : Int32) (s : ST) : Option Unit :=
  gd (r1 < s.1 ∧ (kd s r1).1 = 1) <|
  ob (f_X1_offs r1 s) fun v1434 s1434 =>
  gd (s.1 ≤ s1434.1) <|
  gd (r2 < s1434.1 ∧ (kd s1434 r2).1 = 14) <|
  ob (f_X14_offs r2 s1434) fun v1438 s1438 =>
  gd (s1434.1 ≤ s1438.1) <|
  if v1434 = v1438 then (K r1 r2 r3 x4 s1438) else none
set_option maxHeartbeats 4000000 in
theorem lc_37 {p : Program} {l : Launch} {e : Env} {s0 : State} {m : MethodId} {b L : Nat} {xs : Nat → Int32} {below : List Frame} {meth : Method} {c : Code} {G : GM} (hlt : l.stackTraces = false) (hC : CX p s0 m #[Value.ref b] meth c G (fun q => s0.heap.size ≤ q) code R_law 8) (hr : meth.sig.returnType = ret) (hX : va_X b L xs s0 s0.heap) (hbl : b < s0.heap.size) {K : Nat → Nat → Nat → Int32 → ST → Option Unit} {kc ks : Nat} (hkc : kc + 20 ≤ 603072) (hks : ks + 300 ≤ 7067754) (hK : KL p l e s0 m b below meth c G K (kc + 20) (ks + 300) 1752) : KL p l e s0 m b below meth c G (f_law_c37 L xs K) kc ks 1433 := by
  intro a r1 r2 r3 x4 s hf H locs ls hl hW
  have hx := hC.1
  have hb := hC.2.1
  have hts := hC.2.2.2.2.1
  obtain ⟨N0, hN0⟩ : ∃ N0, N0 = 0 := ⟨_, rfl⟩
  have hE : EX a a N0 := EX.rf
  have hN : N0 ≤ s.1 := by omega
  unfold f_law_c37 at hf
  refine lv_aload_n hx hb dL_law_1433 rfl (lv_at hl 1 rfl) ?_
  obtain ⟨g1434, hf⟩ := gd_some hf
  obtain ⟨v1434, s1434, h1434, hf⟩ := ob_some hf
  obtain ⟨hN1, hf⟩ := gd_some hf
  have hN := Nat.le_trans hN hN1
  refine aw_dW1 (r := r1) (As := []) (rest := []) (ct_X1_offs l G a r1 s v1434 s1434 h1434) hC hW hl.1 vh_X1_offs q1202 g1434 rfl rfl rfl rfl (Nat.le_of_ble_eq_true rfl) ⟨Nat.le_of_ble_eq_true rfl, Nat.le_of_ble_eq_true rfl⟩ ⟨(by show kc ≤ 603072; omega), (by show ks ≤ 7067754; omega)⟩ dL_law_1434 (fun H locs hW => ?_)
  refine lv_aload_n hx hb dL_law_1437 rfl (lv_at hl 2 rfl) ?_
  obtain ⟨g1438, hf⟩ := gd_some hf
  obtain ⟨v1438, s1438, h1438, hf⟩ := ob_some hf
  obtain ⟨hN1, hf⟩ := gd_some hf
  have hN := Nat.le_trans hN hN1
  refine aw_dV1 (r := r2) (As := []) (rest := [.int v1434]) (ct_X14_offs l G a r2 s1434 v1438 s1438 h1438) hC hW hl.1 vy_X14_offs (Or.inl q1866) g1438 rfl rfl rfl rfl (Nat.le_of_ble_eq_true rfl) ⟨Nat.le_of_ble_eq_true rfl, Nat.le_of_ble_eq_true rfl⟩ ⟨(by show kc ≤ 603072; omega), (by show ks ≤ 7067754; omega)⟩ dL_law_1438 (fun H locs hW => ?_)
  refine lv_icmp_eq (tgt := 1752) hx hb dL_law_1441 (by decide) (fun c1441 => ?_) (fun c1441 => ?_)
  · have hf := ifp c1441 hf
    refine W.widen (k := kc + 20) (n := ks + 300) (by omega) (by omega) ?_
    exact hK a r1 r2 r3 x4 s1438 hf _ _ _ (lv_sub hl [0, 1, 2, 3, 4] rfl) hW
  · have hf := ifn c1441 hf
    refine lv_iconst (v := 0) hx hb dL_law_1444 (by decide) ?_
    cases hf
def f_law_c38 (L : Nat) (xs : Nat → Int32) (K : Nat → Nat → Nat → Int32 → ST → Option Unit) (r1 r2 r3 : Nat) (x4 : Int32) (s : ST) : Option Unit :=
  gd (r1 < s.1 ∧ (kd s r1).1 = 1) <|
  ob (f_X1_cheats r1 s) fun v1447 s1447 =>
  gd (s.1 ≤ s1447.1) <|
  gd (r2 < s1447.1 ∧ (kd s1447 r2).1 = 14) <|
  ob (f_X14_cheats r2 s1447) fun v1451 s1451 =>
  gd (s1447.1 ≤ s1451.1) <|
  if v1447 = v1451 then (K r1 r2 r3 x4 s1451) else none
set_option maxHeartbeats 4000000 in
theorem lc_38 {p : Program} {l : Launch} {e : Env} {s0 : State} {m : MethodId} {b L : Nat} {xs : Nat → Int32} {below : List Frame} {meth : Method} {c : Code} {G : GM} (hlt : l.stackTraces = false) (hC : CX p s0 m #[Value.ref b] meth c G (fun q => s0.heap.size ≤ q) code R_law 8) (hr : meth.sig.returnType = ret) (hX : va_X b L xs s0 s0.heap) (hbl : b < s0.heap.size) {K : Nat → Nat → Nat → Int32 → ST → Option Unit} {kc ks : Nat} (hkc : kc + 20 ≤ 603072) (hks : ks + 300 ≤ 7067754) (hK : KL p l e s0 m b below meth c G K (kc + 20) (ks + 300) 1752) : KL p l e s0 m b below meth c G (f_law_c38 L xs K) kc ks 1446 := by
  intro a r1 r2 r3 x4 s hf H locs ls hl hW
  have hx := hC.1
  have hb := hC.2.1
  have hts := hC.2.2.2.2.1
  obtain ⟨N0, hN0⟩ : ∃ N0, N0 = 0 := ⟨_, rfl⟩
  have hE : EX a a N0 := EX.rf
  have hN : N0 ≤ s.1 := by omega
  unfold f_law_c38 at hf
  refine lv_aload_n hx hb dL_law_1446 rfl (lv_at hl 1 rfl) ?_
  obtain ⟨g1447, hf⟩ := gd_some hf
  obtain ⟨v1447, s1447, h1447, hf⟩ := ob_some hf
  obtain ⟨hN1, hf⟩ := gd_some hf
  have hN := Nat.le_trans hN hN1
  refine aw_dW1 (r := r1) (As := []) (rest := []) (ct_X1_cheats l G a r1 s v1447 s1447 h1447) hC hW hl.1 vh_X1_cheats q1210 g1447 rfl rfl rfl rfl (Nat.le_of_ble_eq_true rfl) ⟨Nat.le_of_ble_eq_true rfl, Nat.le_of_ble_eq_true rfl⟩ ⟨(by show kc ≤ 603072; omega), (by show ks ≤ 7067754; omega)⟩ dL_law_1447 (fun H locs hW => ?_)
  refine lv_aload_n hx hb dL_law_1450 rfl (lv_at hl 2 rfl) ?_
  obtain ⟨g1451, hf⟩ := gd_some hf
  obtain ⟨v1451, s1451, h1451, hf⟩ := ob_some hf
  obtain ⟨hN1, hf⟩ := gd_some hf
  have hN := Nat.le_trans hN hN1
  refine aw_dV1 (r := r2) (As := []) (rest := [.int v1447]) (ct_X14_cheats l G a r2 s1447 v1451 s1451 h1451) hC hW hl.1 vy_X14_cheats (Or.inl q1874) g1451 rfl rfl rfl rfl (Nat.le_of_ble_eq_true rfl) ⟨Nat.le_of_ble_eq_true rfl, Nat.le_of_ble_eq_true rfl⟩ ⟨(by show kc ≤ 603072; omega), (by show ks ≤ 7067754; omega)⟩ dL_law_1451 (fun H locs hW => ?_)
  refine lv_icmp_eq (tgt := 1752) hx hb dL_law_1454 (by decide) (fun c1454 => ?_) (fun c1454 => ?_)
  · have hf := ifp c1454 hf
    refine W.widen (k := kc + 20) (n := ks + 300) (by omega) (by omega) ?_
    exact hK a r1 r2 r3 x4 s1451 hf _ _ _ (lv_sub hl [0, 1, 2, 3, 4] rfl) hW
  · have hf := ifn c1454 hf
    refine lv_iconst (v := 0) hx hb dL_law_1457 (by decide) ?_
    cases hf
def f_law_c39 (L : Nat) (xs : Nat → Int32) (K : Nat → Nat → Nat → Int32 → ST → Option Unit) (r1 r2 r3 : Nat) (x4 : Int32) (s : ST) : Option Unit :=
  gd (¬ (((x4 + 1) : Int32) < 0 ∨ L ≤ ((x4 + 1) : Int32).toNatClampNeg)) <|
  gd (¬ (((x4 + 2) : Int32) < 0 ∨ L ≤ ((x4 + 2) : Int32).toNatClampNeg)) <|
  gd (r1 < s.1 ∧ (kd s r1).1 = 1) <|
  ob (f_X1_told r1 (xs ((x4 + 1) : Int32).toNatClampNeg) (xs ((x4 + 2) : Int32).toNatClampNeg) s) fun v1472 s1472 =>
  gd (s.1 ≤ s1472.1) <|
  gd (¬ (((x4 + 1) : Int32) < 0 ∨ L ≤ ((x4 + 1) : Int32).toNatClampNeg)) <|
  gd (¬ (((x4 + 2) : Int32) < 0 ∨ L ≤ ((x4 + 2) : Int32).toNatClampNeg)) <|
  gd (r2 < s1472.1 ∧ (kd s1472 r2).1 = 14) <|
  ob (f_X14_told r2 (xs ((x4 + 1) : Int32).toNatClampNeg) (xs ((x4 + 2) : Int32).toNatClampNeg) s1472) fun v1488 s1488 =>
  gd (s1472.1 ≤ s1488.1) <|
  if v1472 = v1488 then (K r1 r2 r3 x4 s1488) else none
set_option maxHeartbeats 4000000 in
theorem lc_39 {p : Program} {l : Launch} {e : Env} {s0 : State} {m : MethodId} {b L : Nat} {xs : Nat → Int32} {below : List Frame} {meth : Method} {c : Code} {G : GM} (hlt : l.stackTraces = false) (hC : CX p s0 m #[Value.ref b] meth c G (fun q => s0.heap.size ≤ q) code R_law 8) (hr : meth.sig.returnType = ret) (hX : va_X b L xs s0 s0.heap) (hbl : b < s0.heap.size) {K : Nat → Nat → Nat → Int32 → ST → Option Unit} {kc ks : Nat} (hkc : kc + 20 ≤ 603072) (hks : ks + 300 ≤ 7067754) (hK : KL p l e s0 m b below meth c G K (kc + 20) (ks + 300) 1752) : KL p l e s0 m b below meth c G (f_law_c39 L xs K) kc ks 1459 := by
  intro a r1 r2 r3 x4 s hf H locs ls hl hW
  have hx := hC.1
  have hb := hC.2.1
  have hts := hC.2.2.2.2.1
  obtain ⟨N0, hN0⟩ : ∃ N0, N0 = 0 := ⟨_, rfl⟩
  have hE : EX a a N0 := EX.rf
  have hN : N0 ≤ s.1 := by omega
  unfold f_law_c39 at hf
  refine lv_aload_n hx hb dL_law_1459 rfl (lv_at hl 1 rfl) ?_
  refine lv_aload_n hx hb dL_law_1460 rfl (lv_at hl 0 rfl) ?_
  refine lv_iload hx hb dL_law_1461 (lv_at hl 4 rfl) ?_
  refine lv_iconst (v := 1) hx hb dL_law_1463 (by decide) ?_
  refine lv_iadd hx hb dL_law_1464 ?_
  obtain ⟨g1465, hf⟩ := gd_some hf
  refine lw_xld hx hb hX hbl hW g1465 dL_law_1465 ?_
  refine lv_aload_n hx hb dL_law_1466 rfl (lv_at hl 0 rfl) ?_
  refine lv_iload hx hb dL_law_1467 (lv_at hl 4 rfl) ?_
  refine lv_iconst (v := 2) hx hb dL_law_1469 (by decide) ?_
  refine lv_iadd hx hb dL_law_1470 ?_
  obtain ⟨g1471, hf⟩ := gd_some hf
  refine lw_xld hx hb hX hbl hW g1471 dL_law_1471 ?_
  obtain ⟨g1472, hf⟩ := gd_some hf
  obtain ⟨v1472, s1472, h1472, hf⟩ := ob_some hf
  obtain ⟨hN1, hf⟩ := gd_some hf
  have hN := Nat.le_trans hN hN1
  refine aw_dV1 (r := r1) (As := [.int (xs ((x4 + 1) : Int32).toNatClampNeg), .int (xs ((x4 + 2) : Int32).toNatClampNeg)]) (rest := []) (ct_X1_told l G a r1 (xs ((x4 + 1) : Int32).toNatClampNeg) (xs ((x4 + 2) : Int32).toNatClampNeg) s v1472 s1472 h1472) hC hW hl.1 vy_X1_told (Or.inl q1214) g1472 rfl rfl rfl rfl (Nat.le_of_ble_eq_true rfl) ⟨Nat.le_of_ble_eq_true rfl, Nat.le_of_ble_eq_true rfl⟩ ⟨(by show kc ≤ 603072; omega), (by show ks ≤ 7067754; omega)⟩ dL_law_1472 (fun H locs hW => ?_)
  refine lv_aload_n hx hb dL_law_1475 rfl (lv_at hl 2 rfl) ?_
  refine lv_aload_n hx hb dL_law_1476 rfl (lv_at hl 0 rfl) ?_
  refine lv_iload hx hb dL_law_1477 (lv_at hl 4 rfl) ?_
  refine lv_iconst (v := 1) hx hb dL_law_1479 (by decide) ?_
  refine lv_iadd hx hb dL_law_1480 ?_
  obtain ⟨g1481, hf⟩ := gd_some hf
  refine lw_xld hx hb hX hbl hW g1481 dL_law_1481 ?_
  refine lv_aload_n hx hb dL_law_1482 rfl (lv_at hl 0 rfl) ?_
  refine lv_iload hx hb dL_law_1483 (lv_at hl 4 rfl) ?_
  refine lv_iconst (v := 2) hx hb dL_law_1485 (by decide) ?_
  refine lv_iadd hx hb dL_law_1486 ?_
  obtain ⟨g1487, hf⟩ := gd_some hf
  refine lw_xld hx hb hX hbl hW g1487 dL_law_1487 ?_
  obtain ⟨g1488, hf⟩ := gd_some hf
  obtain ⟨v1488, s1488, h1488, hf⟩ := ob_some hf
  obtain ⟨hN1, hf⟩ := gd_some hf
  have hN := Nat.le_trans hN hN1
  refine aw_dV1 (r := r2) (As := [.int (xs ((x4 + 1) : Int32).toNatClampNeg), .int (xs ((x4 + 2) : Int32).toNatClampNeg)]) (rest := [.int v1472]) (ct_X14_told l G a r2 (xs ((x4 + 1) : Int32).toNatClampNeg) (xs ((x4 + 2) : Int32).toNatClampNeg) s1472 v1488 s1488 h1488) hC hW hl.1 vy_X14_told (Or.inl q1878) g1488 rfl rfl rfl rfl (Nat.le_of_ble_eq_true rfl) ⟨Nat.le_of_ble_eq_true rfl, Nat.le_of_ble_eq_true rfl⟩ ⟨(by show kc ≤ 603072; omega), (by show ks ≤ 7067754; omega)⟩ dL_law_1488 (fun H locs hW => ?_)
  refine lv_icmp_eq (tgt := 1752) hx hb dL_law_1491 (by decide) (fun c1491 => ?_) (fun c1491 => ?_)
  · have hf := ifp c1491 hf
    refine W.widen (k := kc + 20) (n := ks + 300) (by omega) (by omega) ?_
    exact hK a r1 r2 r3 x4 s1488 hf _ _ _ (lv_sub hl [0, 1, 2, 3, 4] rfl) hW
  · have hf := ifn c1491 hf
    refine lv_iconst (v := 0) hx hb dL_law_1494 (by decide) ?_
    cases hf
def f_law_c40 (L : Nat) (xs : Nat → Int32) (K : Nat → Nat → Nat → Int32 → ST → Option Unit) (r1 r2 r3 : Nat) (x4 : Int32) (s : ST) : Option Unit :=
  gd (r1 < s.1 ∧ (kd s r1).1 = 1) <|
  ob (f_X1_wipe r1 s) fun v1497 s1497 =>
  gd (s.1 ≤ s1497.1) <|
  gd (r2 < s1497.1 ∧ (kd s1497 r2).1 = 14) <|
  ob (f_X14_wipe r2 s1497) fun v1501 s1501 =>
  gd (s1497.1 ≤ s1501.1) <|
  if v1497 = v1501 then (K r1 r2 r3 x4 s1501) else none
set_option maxHeartbeats 4000000 in
theorem lc_40 {p : Program} {l : Launch} {e : Env} {s0 : State} {m : MethodId} {b L : Nat} {xs : Nat → Int32} {below : List Frame} {meth : Method} {c : Code} {G : GM} (hlt : l.stackTraces = false) (hC : CX p s0 m #[Value.ref b] meth c G (fun q => s0.heap.size ≤ q) code R_law 8) (hr : meth.sig.returnType = ret) (hX : va_X b L xs s0 s0.heap) (hbl : b < s0.heap.size) {K : Nat → Nat → Nat → Int32 → ST → Option Unit} {kc ks : Nat} (hkc : kc + 20 ≤ 603072) (hks : ks + 300 ≤ 7067754) (hK : KL p l e s0 m b below meth c G K (kc + 20) (ks + 300) 1752) : KL p l e s0 m b below meth c G (f_law_c40 L xs K) kc ks 1496 := by
  intro a r1 r2 r3 x4 s hf H locs ls hl hW
  have hx := hC.1
  have hb := hC.2.1
  have hts := hC.2.2.2.2.1
  obtain ⟨N0, hN0⟩ : ∃ N0, N0 = 0 := ⟨_, rfl⟩
  have hE : EX a a N0 := EX.rf
  have hN : N0 ≤ s.1 := by omega
  unfold f_law_c40 at hf
  refine lv_aload_n hx hb dL_law_1496 rfl (lv_at hl 1 rfl) ?_
  obtain ⟨g1497, hf⟩ := gd_some hf
  obtain ⟨v1497, s1497, h1497, hf⟩ := ob_some hf
  obtain ⟨hN1, hf⟩ := gd_some hf
  have hN := Nat.le_trans hN hN1
  refine aw_dV1 (r := r1) (As := []) (rest := []) (ct_X1_wipe l G a r1 s v1497 s1497 h1497) hC hW hl.1 vy_X1_wipe (Or.inl q1218) g1497 rfl rfl rfl rfl (Nat.le_of_ble_eq_true rfl) ⟨Nat.le_of_ble_eq_true rfl, Nat.le_of_ble_eq_true rfl⟩ ⟨(by show kc ≤ 603072; omega), (by show ks ≤ 7067754; omega)⟩ dL_law_1497 (fun H locs hW => ?_)
  refine lv_aload_n hx hb dL_law_1500 rfl (lv_at hl 2 rfl) ?_
  obtain ⟨g1501, hf⟩ := gd_some hf
  obtain ⟨v1501, s1501, h1501, hf⟩ := ob_some hf
  obtain ⟨hN1, hf⟩ := gd_some hf
  have hN := Nat.le_trans hN hN1
  refine aw_dV1 (r := r2) (As := []) (rest := [.int v1497]) (ct_X14_wipe l G a r2 s1497 v1501 s1501 h1501) hC hW hl.1 vy_X14_wipe (Or.inl q1882) g1501 rfl rfl rfl rfl (Nat.le_of_ble_eq_true rfl) ⟨Nat.le_of_ble_eq_true rfl, Nat.le_of_ble_eq_true rfl⟩ ⟨(by show kc ≤ 603072; omega), (by show ks ≤ 7067754; omega)⟩ dL_law_1501 (fun H locs hW => ?_)
  refine lv_icmp_eq (tgt := 1752) hx hb dL_law_1504 (by decide) (fun c1504 => ?_) (fun c1504 => ?_)
  · have hf := ifp c1504 hf
    refine W.widen (k := kc + 20) (n := ks + 300) (by omega) (by omega) ?_
    exact hK a r1 r2 r3 x4 s1501 hf _ _ _ (lv_sub hl [0, 1, 2, 3, 4] rfl) hW
  · have hf := ifn c1504 hf
    refine lv_iconst (v := 0) hx hb dL_law_1507 (by decide) ?_
    cases hf
def f_law_c41 (L : Nat) (xs : Nat → Int32) (K : Nat → Nat → Nat → Int32 → ST → Option Unit) (r1 r2 r3 : Nat) (x4 : Int32) (s : ST) : Option Unit :=
  gd (¬ (((x4 + 1) : Int32) < 0 ∨ L ≤ ((x4 + 1) : Int32).toNatClampNeg)) <|
  gd (r1 < s.1 ∧ (kd s r1).1 = 1) <|
  ob (f_X1_explains r1 (xs ((x4 + 1) : Int32).toNatClampNeg) s) fun v1516 s1516 =>
  gd (s.1 ≤ s1516.1) <|
  gd (¬ (((x4 + 1) : Int32) < 0 ∨ L ≤ ((x4 + 1) : Int32).toNatClampNeg)) <|
  gd (r2 < s1516.1 ∧ (kd s1516 r2).1 = 14) <|
  ob (f_X14_explains r2 (xs ((x4 + 1) : Int32).toNatClampNeg) s1516) fun v1526 s1526 =>
  gd (s1516.1 ≤ s1526.1) <|
  if v1516 = v1526 then (K r1 r2 r3 x4 s1526) else none
set_option maxHeartbeats 4000000 in
theorem lc_41 {p : Program} {l : Launch} {e : Env} {s0 : State} {m : MethodId} {b L : Nat} {xs : Nat → Int32} {below : List Frame} {meth : Method} {c : Code} {G : GM} (hlt : l.stackTraces = false) (hC : CX p s0 m #[Value.ref b] meth c G (fun q => s0.heap.size ≤ q) code R_law 8) (hr : meth.sig.returnType = ret) (hX : va_X b L xs s0 s0.heap) (hbl : b < s0.heap.size) {K : Nat → Nat → Nat → Int32 → ST → Option Unit} {kc ks : Nat} (hkc : kc + 20 ≤ 603072) (hks : ks + 300 ≤ 7067754) (hK : KL p l e s0 m b below meth c G K (kc + 20) (ks + 300) 1752) : KL p l e s0 m b below meth c G (f_law_c41 L xs K) kc ks 1509 := by
  intro a r1 r2 r3 x4 s hf H locs ls hl hW
  have hx := hC.1
  have hb := hC.2.1
  have hts := hC.2.2.2.2.1
  obtain ⟨N0, hN0⟩ : ∃ N0, N0 = 0 := ⟨_, rfl⟩
  have hE : EX a a N0 := EX.rf
  have hN : N0 ≤ s.1 := by omega
  unfold f_law_c41 at hf
  refine lv_aload_n hx hb dL_law_1509 rfl (lv_at hl 1 rfl) ?_
  refine lv_aload_n hx hb dL_law_1510 rfl (lv_at hl 0 rfl) ?_
  refine lv_iload hx hb dL_law_1511 (lv_at hl 4 rfl) ?_
  refine lv_iconst (v := 1) hx hb dL_law_1513 (by decide) ?_
  refine lv_iadd hx hb dL_law_1514 ?_
  obtain ⟨g1515, hf⟩ := gd_some hf
  refine lw_xld hx hb hX hbl hW g1515 dL_law_1515 ?_
  obtain ⟨g1516, hf⟩ := gd_some hf
  obtain ⟨v1516, s1516, h1516, hf⟩ := ob_some hf
  obtain ⟨hN1, hf⟩ := gd_some hf
  have hN := Nat.le_trans hN hN1
  refine aw_dV1 (r := r1) (As := [.int (xs ((x4 + 1) : Int32).toNatClampNeg)]) (rest := []) (ct_X1_explains l G a r1 (xs ((x4 + 1) : Int32).toNatClampNeg) s v1516 s1516 h1516) hC hW hl.1 vy_X1_explains (Or.inl q1222) g1516 rfl rfl rfl rfl (Nat.le_of_ble_eq_true rfl) ⟨Nat.le_of_ble_eq_true rfl, Nat.le_of_ble_eq_true rfl⟩ ⟨(by show kc ≤ 603072; omega), (by show ks ≤ 7067754; omega)⟩ dL_law_1516 (fun H locs hW => ?_)
  refine lv_aload_n hx hb dL_law_1519 rfl (lv_at hl 2 rfl) ?_
  refine lv_aload_n hx hb dL_law_1520 rfl (lv_at hl 0 rfl) ?_
  refine lv_iload hx hb dL_law_1521 (lv_at hl 4 rfl) ?_
  refine lv_iconst (v := 1) hx hb dL_law_1523 (by decide) ?_
  refine lv_iadd hx hb dL_law_1524 ?_
  obtain ⟨g1525, hf⟩ := gd_some hf
  refine lw_xld hx hb hX hbl hW g1525 dL_law_1525 ?_
  obtain ⟨g1526, hf⟩ := gd_some hf
  obtain ⟨v1526, s1526, h1526, hf⟩ := ob_some hf
  obtain ⟨hN1, hf⟩ := gd_some hf
  have hN := Nat.le_trans hN hN1
  refine aw_dV1 (r := r2) (As := [.int (xs ((x4 + 1) : Int32).toNatClampNeg)]) (rest := [.int v1516]) (ct_X14_explains l G a r2 (xs ((x4 + 1) : Int32).toNatClampNeg) s1516 v1526 s1526 h1526) hC hW hl.1 vy_X14_explains (Or.inl q1886) g1526 rfl rfl rfl rfl (Nat.le_of_ble_eq_true rfl) ⟨Nat.le_of_ble_eq_true rfl, Nat.le_of_ble_eq_true rfl⟩ ⟨(by show kc ≤ 603072; omega), (by show ks ≤ 7067754; omega)⟩ dL_law_1526 (fun H locs hW => ?_)
  refine lv_icmp_eq (tgt := 1752) hx hb dL_law_1529 (by decide) (fun c1529 => ?_) (fun c1529 => ?_)
  · have hf := ifp c1529 hf
    refine W.widen (k := kc + 20) (n := ks + 300) (by omega) (by omega) ?_
    exact hK a r1 r2 r3 x4 s1526 hf _ _ _ (lv_sub hl [0, 1, 2, 3, 4] rfl) hW
  · have hf := ifn c1529 hf
    refine lv_iconst (v := 0) hx hb dL_law_1532 (by decide) ?_
    cases hf
def f_law_c42 (L : Nat) (xs : Nat → Int32) (K : Nat → Nat → Nat → Int32 → ST → Option Unit) (r1 r2 r3 : Nat) (x4 : Int32) (s : ST) : Option Unit :=
  gd (r1 < s.1 ∧ (kd s r1).1 = 1) <|
  ob (f_X1_absent r1 s) fun v1535 s1535 =>
  gd (s.1 ≤ s1535.1) <|
  gd (r2 < s1535.1 ∧ (kd s1535 r2).1 = 14) <|
  ob (f_X14_absent r2 s1535) fun v1539 s1539 =>
  gd (s1535.1 ≤ s1539.1) <|
  if v1535 = v1539 then (K r1 r2 r3 x4 s1539) else none
set_option maxHeartbeats 4000000 in
theorem lc_42 {p : Program} {l : Launch} {e : Env} {s0 : State} {m : MethodId} {b L : Nat} {xs : Nat → Int32} {below : List Frame} {meth : Method} {c : Code} {G : GM} (hlt : l.stackTraces = false) (hC : CX p s0 m #[Value.ref b] meth c G (fun q => s0.heap.size ≤ q) code R_law 8) (hr : meth.sig.returnType = ret) (hX : va_X b L xs s0 s0.heap) (hbl : b < s0.heap.size) {K : Nat → Nat → Nat → Int32 → ST → Option Unit} {kc ks : Nat} (hkc : kc + 20 ≤ 603072) (hks : ks + 300 ≤ 7067754) (hK : KL p l e s0 m b below meth c G K (kc + 20) (ks + 300) 1752) : KL p l e s0 m b below meth c G (f_law_c42 L xs K) kc ks 1534 := by
  intro a r1 r2 r3 x4 s hf H locs ls hl hW
  have hx := hC.1
  have hb := hC.2.1
  have hts := hC.2.2.2.2.1
  obtain ⟨N0, hN0⟩ : ∃ N0, N0 = 0 := ⟨_, rfl⟩
  have hE : EX a a N0 := EX.rf
  have hN : N0 ≤ s.1 := by omega
  unfold f_law_c42 at hf
  refine lv_aload_n hx hb dL_law_1534 rfl (lv_at hl 1 rfl) ?_
  obtain ⟨g1535, hf⟩ := gd_some hf
  obtain ⟨v1535, s1535, h1535, hf⟩ := ob_some hf
  obtain ⟨hN1, hf⟩ := gd_some hf
  have hN := Nat.le_trans hN hN1
  refine aw_dV1 (r := r1) (As := []) (rest := []) (ct_X1_absent l G a r1 s v1535 s1535 h1535) hC hW hl.1 vy_X1_absent (Or.inl q1230) g1535 rfl rfl rfl rfl (Nat.le_of_ble_eq_true rfl) ⟨Nat.le_of_ble_eq_true rfl, Nat.le_of_ble_eq_true rfl⟩ ⟨(by show kc ≤ 603072; omega), (by show ks ≤ 7067754; omega)⟩ dL_law_1535 (fun H locs hW => ?_)
  refine lv_aload_n hx hb dL_law_1538 rfl (lv_at hl 2 rfl) ?_
  obtain ⟨g1539, hf⟩ := gd_some hf
  obtain ⟨v1539, s1539, h1539, hf⟩ := ob_some hf
  obtain ⟨hN1, hf⟩ := gd_some hf
  have hN := Nat.le_trans hN hN1
  refine aw_dV1 (r := r2) (As := []) (rest := [.int v1535]) (ct_X14_absent l G a r2 s1535 v1539 s1539 h1539) hC hW hl.1 vy_X14_absent (Or.inl q1894) g1539 rfl rfl rfl rfl (Nat.le_of_ble_eq_true rfl) ⟨Nat.le_of_ble_eq_true rfl, Nat.le_of_ble_eq_true rfl⟩ ⟨(by show kc ≤ 603072; omega), (by show ks ≤ 7067754; omega)⟩ dL_law_1539 (fun H locs hW => ?_)
  refine lv_icmp_eq (tgt := 1752) hx hb dL_law_1542 (by decide) (fun c1542 => ?_) (fun c1542 => ?_)
  · have hf := ifp c1542 hf
    refine W.widen (k := kc + 20) (n := ks + 300) (by omega) (by omega) ?_
    exact hK a r1 r2 r3 x4 s1539 hf _ _ _ (lv_sub hl [0, 1, 2, 3, 4] rfl) hW
  · have hf := ifn c1542 hf
    refine lv_iconst (v := 0) hx hb dL_law_1545 (by decide) ?_
    cases hf
def f_law_c43 (L : Nat) (xs : Nat → Int32) (K : Nat → Nat → Nat → Int32 → ST → Option Unit) (r1 r2 r3 : Nat) (x4 : Int32) (s : ST) : Option Unit :=
  gd (¬ (((x4 + 1) : Int32) < 0 ∨ L ≤ ((x4 + 1) : Int32).toNatClampNeg)) <|
  gd (r1 < s.1 ∧ (kd s r1).1 = 1) <|
  ob (f_X1_twin r1 (xs ((x4 + 1) : Int32).toNatClampNeg) s) fun v1554 s1554 =>
  gd (s.1 ≤ s1554.1) <|
  gd (¬ (((x4 + 1) : Int32) < 0 ∨ L ≤ ((x4 + 1) : Int32).toNatClampNeg)) <|
  gd (r2 < s1554.1 ∧ (kd s1554 r2).1 = 14) <|
  ob (f_X14_twin r2 (xs ((x4 + 1) : Int32).toNatClampNeg) s1554) fun v1564 s1564 =>
  gd (s1554.1 ≤ s1564.1) <|
  if v1554 = v1564 then (K r1 r2 r3 x4 s1564) else none
set_option maxHeartbeats 4000000 in
theorem lc_43 {p : Program} {l : Launch} {e : Env} {s0 : State} {m : MethodId} {b L : Nat} {xs : Nat → Int32} {below : List Frame} {meth : Method} {c : Code} {G : GM} (hlt : l.stackTraces = false) (hC : CX p s0 m #[Value.ref b] meth c G (fun q => s0.heap.size ≤ q) code R_law 8) (hr : meth.sig.returnType = ret) (hX : va_X b L xs s0 s0.heap) (hbl : b < s0.heap.size) {K : Nat → Nat → Nat → Int32 → ST → Option Unit} {kc ks : Nat} (hkc : kc + 20 ≤ 603072) (hks : ks + 300 ≤ 7067754) (hK : KL p l e s0 m b below meth c G K (kc + 20) (ks + 300) 1752) : KL p l e s0 m b below meth c G (f_law_c43 L xs K) kc ks 1547 := by
  intro a r1 r2 r3 x4 s hf H locs ls hl hW
  have hx := hC.1
  have hb := hC.2.1
  have hts := hC.2.2.2.2.1
  obtain ⟨N0, hN0⟩ : ∃ N0, N0 = 0 := ⟨_, rfl⟩
  have hE : EX a a N0 := EX.rf
  have hN : N0 ≤ s.1 := by omega
  unfold f_law_c43 at hf
  refine lv_aload_n hx hb dL_law_1547 rfl (lv_at hl 1 rfl) ?_
  refine lv_aload_n hx hb dL_law_1548 rfl (lv_at hl 0 rfl) ?_
  refine lv_iload hx hb dL_law_1549 (lv_at hl 4 rfl) ?_
  refine lv_iconst (v := 1) hx hb dL_law_1551 (by decide) ?_
  refine lv_iadd hx hb dL_law_1552 ?_
  obtain ⟨g1553, hf⟩ := gd_some hf
  refine lw_xld hx hb hX hbl hW g1553 dL_law_1553 ?_
  obtain ⟨g1554, hf⟩ := gd_some hf
  obtain ⟨v1554, s1554, h1554, hf⟩ := ob_some hf
  obtain ⟨hN1, hf⟩ := gd_some hf
  have hN := Nat.le_trans hN hN1
  refine aw_dV1 (r := r1) (As := [.int (xs ((x4 + 1) : Int32).toNatClampNeg)]) (rest := []) (ct_X1_twin l G a r1 (xs ((x4 + 1) : Int32).toNatClampNeg) s v1554 s1554 h1554) hC hW hl.1 vy_X1_twin (Or.inl q1234) g1554 rfl rfl rfl rfl (Nat.le_of_ble_eq_true rfl) ⟨Nat.le_of_ble_eq_true rfl, Nat.le_of_ble_eq_true rfl⟩ ⟨(by show kc ≤ 603072; omega), (by show ks ≤ 7067754; omega)⟩ dL_law_1554 (fun H locs hW => ?_)
  refine lv_aload_n hx hb dL_law_1557 rfl (lv_at hl 2 rfl) ?_
  refine lv_aload_n hx hb dL_law_1558 rfl (lv_at hl 0 rfl) ?_
  refine lv_iload hx hb dL_law_1559 (lv_at hl 4 rfl) ?_
  refine lv_iconst (v := 1) hx hb dL_law_1561 (by decide) ?_
  refine lv_iadd hx hb dL_law_1562 ?_
  obtain ⟨g1563, hf⟩ := gd_some hf
  refine lw_xld hx hb hX hbl hW g1563 dL_law_1563 ?_
  obtain ⟨g1564, hf⟩ := gd_some hf
  obtain ⟨v1564, s1564, h1564, hf⟩ := ob_some hf
  obtain ⟨hN1, hf⟩ := gd_some hf
  have hN := Nat.le_trans hN hN1
  refine aw_dV1 (r := r2) (As := [.int (xs ((x4 + 1) : Int32).toNatClampNeg)]) (rest := [.int v1554]) (ct_X14_twin l G a r2 (xs ((x4 + 1) : Int32).toNatClampNeg) s1554 v1564 s1564 h1564) hC hW hl.1 vy_X14_twin (Or.inl q1898) g1564 rfl rfl rfl rfl (Nat.le_of_ble_eq_true rfl) ⟨Nat.le_of_ble_eq_true rfl, Nat.le_of_ble_eq_true rfl⟩ ⟨(by show kc ≤ 603072; omega), (by show ks ≤ 7067754; omega)⟩ dL_law_1564 (fun H locs hW => ?_)
  refine lv_icmp_eq (tgt := 1752) hx hb dL_law_1567 (by decide) (fun c1567 => ?_) (fun c1567 => ?_)
  · have hf := ifp c1567 hf
    refine W.widen (k := kc + 20) (n := ks + 300) (by omega) (by omega) ?_
    exact hK a r1 r2 r3 x4 s1564 hf _ _ _ (lv_sub hl [0, 1, 2, 3, 4] rfl) hW
  · have hf := ifn c1567 hf
    refine lv_iconst (v := 0) hx hb dL_law_1570 (by decide) ?_
    cases hf
def f_law_c44 (L : Nat) (xs : Nat → Int32) (K : Nat → Nat → Nat → Int32 → ST → Option Unit) (r1 r2 r3 : Nat) (x4 : Int32) (s : ST) : Option Unit :=
  gd (¬ (((x4 + 1) : Int32) < 0 ∨ L ≤ ((x4 + 1) : Int32).toNatClampNeg)) <|
  gd (¬ (((x4 + 2) : Int32) < 0 ∨ L ≤ ((x4 + 2) : Int32).toNatClampNeg)) <|
  gd (r1 < s.1 ∧ (kd s r1).1 = 1) <|
  ob (f_X1_odds r1 (xs ((x4 + 1) : Int32).toNatClampNeg) (xs ((x4 + 2) : Int32).toNatClampNeg) s) fun v1585 s1585 =>
  gd (s.1 ≤ s1585.1) <|
  gd (¬ (((x4 + 1) : Int32) < 0 ∨ L ≤ ((x4 + 1) : Int32).toNatClampNeg)) <|
  gd (¬ (((x4 + 2) : Int32) < 0 ∨ L ≤ ((x4 + 2) : Int32).toNatClampNeg)) <|
  gd (r2 < s1585.1 ∧ (kd s1585 r2).1 = 14) <|
  ob (f_X14_odds r2 (xs ((x4 + 1) : Int32).toNatClampNeg) (xs ((x4 + 2) : Int32).toNatClampNeg) s1585) fun v1601 s1601 =>
  gd (s1585.1 ≤ s1601.1) <|
  if v1585 = v1601 then (K r1 r2 r3 x4 s1601) else none
set_option maxHeartbeats 4000000 in
theorem lc_44 {p : Program} {l : Launch} {e : Env} {s0 : State} {m : MethodId} {b L : Nat} {xs : Nat → Int32} {below : List Frame} {meth : Method} {c : Code} {G : GM} (hlt : l.stackTraces = false) (hC : CX p s0 m #[Value.ref b] meth c G (fun q => s0.heap.size ≤ q) code R_law 8) (hr : meth.sig.returnType = ret) (hX : va_X b L xs s0 s0.heap) (hbl : b < s0.heap.size) {K : Nat → Nat → Nat → Int32 → ST → Option Unit} {kc ks : Nat} (hkc : kc + 20 ≤ 603072) (hks : ks + 300 ≤ 7067754) (hK : KL p l e s0 m b below meth c G K (kc + 20) (ks + 300) 1752) : KL p l e s0 m b below meth c G (f_law_c44 L xs K) kc ks 1572 := by
  intro a r1 r2 r3 x4 s hf H locs ls hl hW
  have hx := hC.1
  have hb := hC.2.1
  have hts := hC.2.2.2.2.1
  obtain ⟨N0, hN0⟩ : ∃ N0, N0 = 0 := ⟨_, rfl⟩
  have hE : EX a a N0 := EX.rf
  have hN : N0 ≤ s.1 := by omega
  unfold f_law_c44 at hf
  refine lv_aload_n hx hb dL_law_1572 rfl (lv_at hl 1 rfl) ?_
  refine lv_aload_n hx hb dL_law_1573 rfl (lv_at hl 0 rfl) ?_
  refine lv_iload hx hb dL_law_1574 (lv_at hl 4 rfl) ?_
  refine lv_iconst (v := 1) hx hb dL_law_1576 (by decide) ?_
  refine lv_iadd hx hb dL_law_1577 ?_
  obtain ⟨g1578, hf⟩ := gd_some hf
  refine lw_xld hx hb hX hbl hW g1578 dL_law_1578 ?_
  refine lv_aload_n hx hb dL_law_1579 rfl (lv_at hl 0 rfl) ?_
  refine lv_iload hx hb dL_law_1580 (lv_at hl 4 rfl) ?_
  refine lv_iconst (v := 2) hx hb dL_law_1582 (by decide) ?_
  refine lv_iadd hx hb dL_law_1583 ?_
  obtain ⟨g1584, hf⟩ := gd_some hf
  refine lw_xld hx hb hX hbl hW g1584 dL_law_1584 ?_
  obtain ⟨g1585, hf⟩ := gd_some hf
  obtain ⟨v1585, s1585, h1585, hf⟩ := ob_some hf
  obtain ⟨hN1, hf⟩ := gd_some hf
  have hN := Nat.le_trans hN hN1
  refine aw_dV1 (r := r1) (As := [.int (xs ((x4 + 1) : Int32).toNatClampNeg), .int (xs ((x4 + 2) : Int32).toNatClampNeg)]) (rest := []) (ct_X1_odds l G a r1 (xs ((x4 + 1) : Int32).toNatClampNeg) (xs ((x4 + 2) : Int32).toNatClampNeg) s v1585 s1585 h1585) hC hW hl.1 vy_X1_odds (Or.inl q1238) g1585 rfl rfl rfl rfl (Nat.le_of_ble_eq_true rfl) ⟨Nat.le_of_ble_eq_true rfl, Nat.le_of_ble_eq_true rfl⟩ ⟨(by show kc ≤ 603072; omega), (by show ks ≤ 7067754; omega)⟩ dL_law_1585 (fun H locs hW => ?_)
  refine lv_aload_n hx hb dL_law_1588 rfl (lv_at hl 2 rfl) ?_
  refine lv_aload_n hx hb dL_law_1589 rfl (lv_at hl 0 rfl) ?_
  refine lv_iload hx hb dL_law_1590 (lv_at hl 4 rfl) ?_
  refine lv_iconst (v := 1) hx hb dL_law_1592 (by decide) ?_
  refine lv_iadd hx hb dL_law_1593 ?_
  obtain ⟨g1594, hf⟩ := gd_some hf
  refine lw_xld hx hb hX hbl hW g1594 dL_law_1594 ?_
  refine lv_aload_n hx hb dL_law_1595 rfl (lv_at hl 0 rfl) ?_
  refine lv_iload hx hb dL_law_1596 (lv_at hl 4 rfl) ?_
  refine lv_iconst (v := 2) hx hb dL_law_1598 (by decide) ?_
  refine lv_iadd hx hb dL_law_1599 ?_
  obtain ⟨g1600, hf⟩ := gd_some hf
  refine lw_xld hx hb hX hbl hW g1600 dL_law_1600 ?_
  obtain ⟨g1601, hf⟩ := gd_some hf
  obtain ⟨v1601, s1601, h1601, hf⟩ := ob_some hf
  obtain ⟨hN1, hf⟩ := gd_some hf
  have hN := Nat.le_trans hN hN1
  refine aw_dV1 (r := r2) (As := [.int (xs ((x4 + 1) : Int32).toNatClampNeg), .int (xs ((x4 + 2) : Int32).toNatClampNeg)]) (rest := [.int v1585]) (ct_X14_odds l G a r2 (xs ((x4 + 1) : Int32).toNatClampNeg) (xs ((x4 + 2) : Int32).toNatClampNeg) s1585 v1601 s1601 h1601) hC hW hl.1 vy_X14_odds (Or.inl q1902) g1601 rfl rfl rfl rfl (Nat.le_of_ble_eq_true rfl) ⟨Nat.le_of_ble_eq_true rfl, Nat.le_of_ble_eq_true rfl⟩ ⟨(by show kc ≤ 603072; omega), (by show ks ≤ 7067754; omega)⟩ dL_law_1601 (fun H locs hW => ?_)
  refine lv_icmp_eq (tgt := 1752) hx hb dL_law_1604 (by decide) (fun c1604 => ?_) (fun c1604 => ?_)
  · have hf := ifp c1604 hf
    refine W.widen (k := kc + 20) (n := ks + 300) (by omega) (by omega) ?_
    exact hK a r1 r2 r3 x4 s1601 hf _ _ _ (lv_sub hl [0, 1, 2, 3, 4] rfl) hW
  · have hf := ifn c1604 hf
    refine lv_iconst (v := 0) hx hb dL_law_1607 (by decide) ?_
    cases hf
def f_law_c45 (L : Nat) (xs : Nat → Int32) (K : Nat → Nat → Nat → Int32 → ST → Option Unit) (r1 r2 r3 : Nat) (x4 : Int32) (s : ST) : Option Unit :=
  gd (r1 < s.1 ∧ (kd s r1).1 = 1) <|
  ob (f_X1_likely r1 s) fun v1610 s1610 =>
  gd (s.1 ≤ s1610.1) <|
  gd (r2 < s1610.1 ∧ (kd s1610 r2).1 = 14) <|
  ob (f_X14_likely r2 s1610) fun v1614 s1614 =>
  gd (s1610.1 ≤ s1614.1) <|
  if v1610 = v1614 then (K r1 r2 r3 x4 s1614) else none
set_option maxHeartbeats 4000000 in
theorem lc_45 {p : Program} {l : Launch} {e : Env} {s0 : State} {m : MethodId} {b L : Nat} {xs : Nat → Int32} {below : List Frame} {meth : Method} {c : Code} {G : GM} (hlt : l.stackTraces = false) (hC : CX p s0 m #[Value.ref b] meth c G (fun q => s0.heap.size ≤ q) code R_law 8) (hr : meth.sig.returnType = ret) (hX : va_X b L xs s0 s0.heap) (hbl : b < s0.heap.size) {K : Nat → Nat → Nat → Int32 → ST → Option Unit} {kc ks : Nat} (hkc : kc + 20 ≤ 603072) (hks : ks + 300 ≤ 7067754) (hK : KL p l e s0 m b below meth c G K (kc + 20) (ks + 300) 1752) : KL p l e s0 m b below meth c G (f_law_c45 L xs K) kc ks 1609 := by
  intro a r1 r2 r3 x4 s hf H locs ls hl hW
  have hx := hC.1
  have hb := hC.2.1
  have hts := hC.2.2.2.2.1
  obtain ⟨N0, hN0⟩ : ∃ N0, N0 = 0 := ⟨_, rfl⟩
  have hE : EX a a N0 := EX.rf
  have hN : N0 ≤ s.1 := by omega
  unfold f_law_c45 at hf
  refine lv_aload_n hx hb dL_law_1609 rfl (lv_at hl 1 rfl) ?_
  obtain ⟨g1610, hf⟩ := gd_some hf
  obtain ⟨v1610, s1610, h1610, hf⟩ := ob_some hf
  obtain ⟨hN1, hf⟩ := gd_some hf
  have hN := Nat.le_trans hN hN1
  refine aw_dV1 (r := r1) (As := []) (rest := []) (ct_X1_likely l G a r1 s v1610 s1610 h1610) hC hW hl.1 vy_X1_likely (Or.inl q1264) g1610 rfl rfl rfl rfl (Nat.le_of_ble_eq_true rfl) ⟨Nat.le_of_ble_eq_true rfl, Nat.le_of_ble_eq_true rfl⟩ ⟨(by show kc ≤ 603072; omega), (by show ks ≤ 7067754; omega)⟩ dL_law_1610 (fun H locs hW => ?_)
  refine lv_aload_n hx hb dL_law_1613 rfl (lv_at hl 2 rfl) ?_
  obtain ⟨g1614, hf⟩ := gd_some hf
  obtain ⟨v1614, s1614, h1614, hf⟩ := ob_some hf
  obtain ⟨hN1, hf⟩ := gd_some hf
  have hN := Nat.le_trans hN hN1
  refine aw_dV1 (r := r2) (As := []) (rest := [.int v1610]) (ct_X14_likely l G a r2 s1610 v1614 s1614 h1614) hC hW hl.1 vy_X14_likely (Or.inl q1920) g1614 rfl rfl rfl rfl (Nat.le_of_ble_eq_true rfl) ⟨Nat.le_of_ble_eq_true rfl, Nat.le_of_ble_eq_true rfl⟩ ⟨(by show kc ≤ 603072; omega), (by show ks ≤ 7067754; omega)⟩ dL_law_1614 (fun H locs hW => ?_)
  refine lv_icmp_eq (tgt := 1752) hx hb dL_law_1617 (by decide) (fun c1617 => ?_) (fun c1617 => ?_)
  · have hf := ifp c1617 hf
    refine W.widen (k := kc + 20) (n := ks + 300) (by omega) (by omega) ?_
    exact hK a r1 r2 r3 x4 s1614 hf _ _ _ (lv_sub hl [0, 1, 2, 3, 4] rfl) hW
  · have hf := ifn c1617 hf
    refine lv_iconst (v := 0) hx hb dL_law_1620 (by decide) ?_
    cases hf
def f_law_c46 (L : Nat) (xs : Nat → Int32) (K : Nat → Nat → Nat → Int32 → ST → Option Unit) (r1 r2 r3 : Nat) (x4 : Int32) (s : ST) : Option Unit :=
  gd (¬ (((x4 + 1) : Int32) < 0 ∨ L ≤ ((x4 + 1) : Int32).toNatClampNeg)) <|
  gd (r1 < s.1 ∧ (kd s r1).1 = 1) <|
  gd (r1 < s.1) <|
  gd (r2 < s.1) <|
  gd (r3 < s.1) <|
  ob (f_X1_keep r1 (xs ((x4 + 1) : Int32).toNatClampNeg) s) fun v1629 s1629 =>
  gd (¬ (((x4 + 1) : Int32) < 0 ∨ L ≤ ((x4 + 1) : Int32).toNatClampNeg)) <|
  gd (r2 < s1629.1 ∧ (kd s1629 r2).1 = 14) <|
  ob (f_X14_keep r2 (xs ((x4 + 1) : Int32).toNatClampNeg) s1629) fun v1639 s1639 =>
  gd (s1629.1 ≤ s1639.1) <|
  if v1629 = v1639 then (K r1 r2 r3 x4 s1639) else none
set_option maxHeartbeats 4000000 in
theorem lc_46 {p : Program} {l : Launch} {e : Env} {s0 : State} {m : MethodId} {b L : Nat} {xs : Nat → Int32} {below : List Frame} {meth : Method} {c : Code} {G : GM} (hlt : l.stackTraces = false) (hC : CX p s0 m #[Value.ref b] meth c G (fun q => s0.heap.size ≤ q) code R_law 8) (hr : meth.sig.returnType = ret) (hX : va_X b L xs s0 s0.heap) (hbl : b < s0.heap.size) {K : Nat → Nat → Nat → Int32 → ST → Option Unit} {kc ks : Nat} (hkc : kc + 20 ≤ 603072) (hks : ks + 300 ≤ 7067754) (hK : KL p l e s0 m b below meth c G K (kc + 20) (ks + 300) 1752) : KL p l e s0 m b below meth c G (f_law_c46 L xs K) kc ks 1622 := by
  intro a r1 r2 r3 x4 s hf H locs ls hl hW
  have hx := hC.1
  have hb := hC.2.1
  have hts := hC.2.2.2.2.1
  obtain ⟨N0, hN0⟩ : ∃ N0, N0 = 0 := ⟨_, rfl⟩
  have hE : EX a a N0 := EX.rf
  have hN : N0 ≤ s.1 := by omega
  unfold f_law_c46 at hf
  refine lv_aload_n hx hb dL_law_1622 rfl (lv_at hl 1 rfl) ?_
  refine lv_aload_n hx hb dL_law_1623 rfl (lv_at hl 0 rfl) ?_
  refine lv_iload hx hb dL_law_1624 (lv_at hl 4 rfl) ?_
  refine lv_iconst (v := 1) hx hb dL_law_1626 (by decide) ?_
  refine lv_iadd hx hb dL_law_1627 ?_
  obtain ⟨g1628, hf⟩ := gd_some hf
  refine lw_xld hx hb hX hbl hW g1628 dL_law_1628 ?_
  obtain ⟨g1629, hf⟩ := gd_some hf
  obtain ⟨gr1629, hf⟩ := gd_some hf
  obtain ⟨gr1629_1, hf⟩ := gd_some hf
  obtain ⟨gr1629_2, hf⟩ := gd_some hf
  obtain ⟨v1629, s1629, h1629, hf⟩ := ob_some hf
  refine aw_run hC hW (aw_runV hC hW hl.1 (r := r1) (As := [.int (xs ((x4 + 1) : Int32).toNatClampNeg)]) (rest := []) (cta_X1_keep l G a r1 (xs ((x4 + 1) : Int32).toNatClampNeg) s v1629 s1629 h1629) vy_X1_keep (Or.inl q1268) g1629 rfl rfl rfl rfl (Nat.le_of_ble_eq_true rfl) ⟨Nat.le_of_ble_eq_true rfl, Nat.le_of_ble_eq_true rfl⟩ ⟨(by show kc + 8 ≤ 603072; omega), (by show ks + 126 ≤ 7067754; omega)⟩ dL_law_1629) (fun v9 a1629 s9 H locs hp9 hW => ?_)
  obtain ⟨rfl, h9s, hE1, hN1⟩ := hp9
  rw [h9s] at hW
  have hE : EX a a1629 N0 := hE.trans hE1 hN
  have hN := Nat.le_trans hN hN1
  have hl : lv_has ls 8 [(0, .ref b), (1, .ref (a1629 r1)), (2, .ref (a1629 r2)), (3, .ref (a1629 r3)), (4, .int x4)] := by simp only [hE1 _ gr1629, hE1 _ gr1629_1, hE1 _ gr1629_2]; exact hl
  refine W.eq (g2 := F0 m 1632 ls [.int v1629]) rfl ?_
  refine W.widen (k := kc + 20) (n := ks + 300) (by show kc + 8 ≤ kc + 20; omega) (by show ks + 126 ≤ ks + 300; omega) ?_
  refine lv_aload_n hx hb dL_law_1632 rfl (lv_at hl 2 rfl) ?_
  refine lv_aload_n hx hb dL_law_1633 rfl (lv_at hl 0 rfl) ?_
  refine lv_iload hx hb dL_law_1634 (lv_at hl 4 rfl) ?_
  refine lv_iconst (v := 1) hx hb dL_law_1636 (by decide) ?_
  refine lv_iadd hx hb dL_law_1637 ?_
  obtain ⟨g1638, hf⟩ := gd_some hf
  refine lw_xld hx hb hX hbl hW g1638 dL_law_1638 ?_
  obtain ⟨g1639, hf⟩ := gd_some hf
  obtain ⟨v1639, s1639, h1639, hf⟩ := ob_some hf
  obtain ⟨hN1, hf⟩ := gd_some hf
  have hN := Nat.le_trans hN hN1
  refine aw_dV1 (r := r2) (As := [.int (xs ((x4 + 1) : Int32).toNatClampNeg)]) (rest := [.int v1629]) (ct_X14_keep l G a1629 r2 (xs ((x4 + 1) : Int32).toNatClampNeg) s1629 v1639 s1639 h1639) hC hW hl.1 vy_X14_keep (Or.inl q1924) g1639 rfl rfl rfl rfl (Nat.le_of_ble_eq_true rfl) ⟨Nat.le_of_ble_eq_true rfl, Nat.le_of_ble_eq_true rfl⟩ ⟨(by show kc + 20 ≤ 603072; omega), (by show ks + 300 ≤ 7067754; omega)⟩ dL_law_1639 (fun H locs hW => ?_)
  refine lv_icmp_eq (tgt := 1752) hx hb dL_law_1642 (by decide) (fun c1642 => ?_) (fun c1642 => ?_)
  · have hf := ifp c1642 hf
    exact hK a1629 r1 r2 r3 x4 s1639 hf _ _ _ (lv_sub hl [0, 1, 2, 3, 4] rfl) hW
  · have hf := ifn c1642 hf
    refine lv_iconst (v := 0) hx hb dL_law_1645 (by decide) ?_
    cases hf
