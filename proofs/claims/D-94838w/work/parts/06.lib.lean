set_option maxRecDepth 100000
/-! THE ABSTRACT WORLD: cells by role (a number), their kinds, ints, longs and references (as roles) -/
abbrev ST : Type := Nat × (Nat → Nat × Nat) × (Nat → Nat → Int32) × (Nat → Nat → Int64) × (Nat → Nat → Option Nat)
def kd (s : ST) (r : Nat) : Nat × Nat := s.2.1 r
def gi (s : ST) (r k : Nat) : Int32 := s.2.2.1 r k
def gl (s : ST) (r k : Nat) : Int64 := s.2.2.2.1 r k
def gr (s : ST) (r k : Nat) : Option Nat := s.2.2.2.2 r k
def pI (s : ST) (r k : Nat) (v : Int32) : ST := (s.1, s.2.1, fun r' k' => if r' = r ∧ k' = k then v else s.2.2.1 r' k', s.2.2.2.1, s.2.2.2.2)
def pL (s : ST) (r k : Nat) (v : Int64) : ST := (s.1, s.2.1, s.2.2.1, fun r' k' => if r' = r ∧ k' = k then v else s.2.2.2.1 r' k', s.2.2.2.2)
def pR (s : ST) (r k : Nat) (v : Option Nat) : ST := (s.1, s.2.1, s.2.2.1, s.2.2.2.1, fun r' k' => if r' = r ∧ k' = k then v else s.2.2.2.2 r' k')
def pIr (s : ST) (r : Nat) (f : Nat → Int32) : ST := (s.1, s.2.1, fun r' => if r' = r then f else s.2.2.1 r', s.2.2.2.1, s.2.2.2.2)
def pRr (s : ST) (r : Nat) (f : Nat → Option Nat) : ST := (s.1, s.2.1, s.2.2.1, s.2.2.2.1, fun r' => if r' = r then f else s.2.2.2.2 r')
def nw (s : ST) (c n : Nat) (f : Nat → Int32) : ST := (s.1 + 1, fun r => if r = s.1 then (c, n) else s.2.1 r, fun r => if r = s.1 then f else s.2.2.1 r, fun r => if r = s.1 then fun _ => 0 else s.2.2.2.1 r, fun r => if r = s.1 then fun _ => none else s.2.2.2.2 r)
/-! the combinators of the decompiled functions -/
def bnd {α β : Type} (e : α) (K : α → β) : β := K e
def ob {α β : Type} (o : Option (α × ST)) (K : α → ST → Option β) : Option β := match o with
  | none => none
  | some p => K p.1 p.2
def gd {β : Type} (p : Prop) [Decidable p] (K : Option β) : Option β := if p then K else none
theorem bnd_some {α β : Type} {e : α} {K : α → β} {x : β} (h : bnd e K = x) : ∃ v, v = e ∧ K v = x := ⟨e, rfl, h⟩
theorem ob_some {α β : Type} {o : Option (α × ST)} {K : α → ST → Option β} {x : β} (h : ob o K = some x) : ∃ r s1, o = some (r, s1) ∧ K r s1 = some x := by
  cases o with
  | none => cases h
  | some p => exact ⟨p.1, p.2, rfl, h⟩
theorem gd_some {β : Type} {p : Prop} [Decidable p] {K : Option β} {x : β} (h : gd p K = some x) : p ∧ K = some x := by
  unfold gd at h
  split at h
  · exact ⟨‹p›, h⟩
  · cases h
theorem bi_some {β : Type} {o : Option Nat} {K : Nat → Option β} {x : β} (h : o.bind K = some x) : ∃ r, o = some r ∧ K r = some x := by
  cases o with
  | none => cases h
  | some p => exact ⟨p, rfl, h⟩
theorem ifp {α : Type} {c : Prop} [Decidable c] {A B x : α} (c0 : c) (h : (if c then A else B) = x) : A = x := by rw [if_pos c0] at h; exact h
theorem ifn {α : Type} {c : Prop} [Decidable c] {A B x : α} (c0 : ¬ c) (h : (if c then A else B) = x) : B = x := by rw [if_neg c0] at h; exact h

abbrev vwCl : List vw_C := [(RX1, TX1, 40), (RX2, TX2, 11), (RX3, TX3, 4), (RX4, TX4, 1), (RX5, TX5, 1), (RX6, TX6, 4), (RX7, TX7, 2), (RX8, TX8, 3), (RX9, TX9, 2), (RX10, TX10, 2), (RX11, TX11, 3), (RX12, TX12, 3), (RX13, TX13, 2), (RX14, TX14, 46), (RX15, TX15, 4), (RX16, TX16, 7), (RX17, TX17, 7), (RX18, TX18, 3)]
def nF (ci : Nat) : Nat := match ci with
  | 0 => 40
  | 1 => 11
  | 2 => 4
  | 3 => 1
  | 4 => 1
  | 5 => 4
  | 6 => 2
  | 7 => 3
  | 8 => 2
  | 9 => 2
  | 10 => 3
  | 11 => 3
  | 12 => 2
  | 13 => 46
  | 14 => 4
  | 15 => 7
  | 16 => 7
  | _ => 3
def tF (ci : Nat) : Nat → FieldType := match ci with
  | 0 => tyX1
  | 1 => tyX2
  | 2 => tyX3
  | 3 => tyX4
  | 4 => tyX5
  | 5 => tyX6
  | 6 => tyX7
  | 7 => tyX8
  | 8 => tyX9
  | 9 => tyX10
  | 10 => tyX11
  | 11 => tyX12
  | 12 => tyX13
  | 13 => tyX14
  | 14 => tyX15
  | 15 => tyX16
  | 16 => tyX17
  | _ => tyX18
def ClOK (ci : Nat) (q : vw_C) : Prop := nF ci = q.2.2 ∧ (∀ w ∈ u_ws q.1 q.2.1 q.2.2, w ∈ lw_all) ∧ (∀ k, k < q.2.2 → parseFieldDescriptor (q.2.1 k).2.2.1 = some (tF ci k)) ∧ (∀ a, a < q.2.2 → ∀ b, b < q.2.2 → a ≠ b → (q.2.1 a).2.1 ≠ (q.2.1 b).2.1)
theorem clOK_0 : ClOK 0 (RX1, TX1, 40) := ⟨rfl, in_X1, tyX1_ok, nmX1⟩
theorem clOK_1 : ClOK 1 (RX2, TX2, 11) := ⟨rfl, in_X2, tyX2_ok, nmX2⟩
theorem clOK_2 : ClOK 2 (RX3, TX3, 4) := ⟨rfl, in_X3, tyX3_ok, nmX3⟩
theorem clOK_3 : ClOK 3 (RX4, TX4, 1) := ⟨rfl, in_X4, tyX4_ok, nmX4⟩
theorem clOK_4 : ClOK 4 (RX5, TX5, 1) := ⟨rfl, in_X5, tyX5_ok, nmX5⟩
theorem clOK_5 : ClOK 5 (RX6, TX6, 4) := ⟨rfl, in_X6, tyX6_ok, nmX6⟩
theorem clOK_6 : ClOK 6 (RX7, TX7, 2) := ⟨rfl, in_X7, tyX7_ok, nmX7⟩
theorem clOK_7 : ClOK 7 (RX8, TX8, 3) := ⟨rfl, in_X8, tyX8_ok, nmX8⟩
theorem clOK_8 : ClOK 8 (RX9, TX9, 2) := ⟨rfl, in_X9, tyX9_ok, nmX9⟩
theorem clOK_9 : ClOK 9 (RX10, TX10, 2) := ⟨rfl, in_X10, tyX10_ok, nmX10⟩
theorem clOK_10 : ClOK 10 (RX11, TX11, 3) := ⟨rfl, in_X11, tyX11_ok, nmX11⟩
theorem clOK_11 : ClOK 11 (RX12, TX12, 3) := ⟨rfl, in_X12, tyX12_ok, nmX12⟩
theorem clOK_12 : ClOK 12 (RX13, TX13, 2) := ⟨rfl, in_X13, tyX13_ok, nmX13⟩
theorem clOK_13 : ClOK 13 (RX14, TX14, 46) := ⟨rfl, in_X14, tyX14_ok, nmX14⟩
theorem clOK_14 : ClOK 14 (RX15, TX15, 4) := ⟨rfl, in_X15, tyX15_ok, nmX15⟩
theorem clOK_15 : ClOK 15 (RX16, TX16, 7) := ⟨rfl, in_X16, tyX16_ok, nmX16⟩
theorem clOK_16 : ClOK 16 (RX17, TX17, 7) := ⟨rfl, in_X17, tyX17_ok, nmX17⟩
theorem clOK_17 : ClOK 17 (RX18, TX18, 3) := ⟨rfl, in_X18, tyX18_ok, nmX18⟩
theorem clOK : ∀ (ci : Nat) (q : vw_C), vwCl[ci]? = some q → ClOK ci q
  | 0, q, h => by cases h; exact clOK_0
  | 1, q, h => by cases h; exact clOK_1
  | 2, q, h => by cases h; exact clOK_2
  | 3, q, h => by cases h; exact clOK_3
  | 4, q, h => by cases h; exact clOK_4
  | 5, q, h => by cases h; exact clOK_5
  | 6, q, h => by cases h; exact clOK_6
  | 7, q, h => by cases h; exact clOK_7
  | 8, q, h => by cases h; exact clOK_8
  | 9, q, h => by cases h; exact clOK_9
  | 10, q, h => by cases h; exact clOK_10
  | 11, q, h => by cases h; exact clOK_11
  | 12, q, h => by cases h; exact clOK_12
  | 13, q, h => by cases h; exact clOK_13
  | 14, q, h => by cases h; exact clOK_14
  | 15, q, h => by cases h; exact clOK_15
  | 16, q, h => by cases h; exact clOK_16
  | 17, q, h => by cases h; exact clOK_17
  | ci + 18, q, h => by simp [vwCl] at h
theorem vw_lt {ci : Nat} {q : vw_C} (h : vwCl[ci]? = some q) : ci < 99 := by
  have := (List.getElem?_eq_some_iff.mp h).1
  have e : vwCl.length = 18 := rfl
  omega
def fvv (a : Nat → Nat) (ci : Nat) (fi : Nat → Int32) (fr : Nat → Option Nat) (k : Nat) : Value := if refKind (tF ci k) = true then va_rf ((fr k).map a) else .int (fi k)
def flds (a : Nat → Nat) (ci : Nat) (fi : Nat → Int32) (fr : Nat → Option Nat) : List Value := (List.range (nF ci)).map (fvv a ci fi fr)
def ecR (ca : Nat → ClassId) (a : Nat → Nat) (q : Nat × Nat) (fi : Nat → Int32) (fl : Nat → Int64) (fr : Nat → Option Nat) : va_E :=
  if q.1 < 100 then .inr (q.1 - 1, flds a (q.1 - 1) fi fr)
  else if q.1 < 104 then .inl (ca (q.1 - 100), q.2, .inl fi)
  else if q.1 = 104 then .inl (ca 4, q.2, .inr (.inl fl))
  else .inl (ca (q.1 - 100), q.2, .inr (.inr (.inr (.inr (fun k => (fr k).map a)))))
def wl (ca : Nat → ClassId) (a : Nat → Nat) (s : ST) : va_W := (List.range s.1).map fun r => (a r, ecR ca a (kd s r) (gi s r) (gl s r) (gr s r))
def tyL (ca : Nat → ClassId) : List (ClassId × FieldType) := [(ca 0, .int), (ca 1, .byte), (ca 2, .short), (ca 3, .boolean), (ca 4, .long), (ca 5, .object RX3), (ca 6, .object RX2), (ca 7, .object RX18)]
theorem wl_at {ca : Nat → ClassId} {a : Nat → Nat} {s : ST} {r : Nat} (hr : r < s.1) : (wl ca a s)[r]? = some (a r, ecR ca a (kd s r) (gi s r) (gl s r) (gr s r)) := by
  unfold wl
  rw [List.getElem?_map, List.getElem?_range hr]
  rfl
theorem ec_obj {ca : Nat → ClassId} {a : Nat → Nat} {q : Nat × Nat} {fi : Nat → Int32} {fl : Nat → Int64} {fr : Nat → Option Nat} {ci : Nat} (h : q.1 = ci + 1) (hc : ci < 99) : ecR ca a q fi fl fr = .inr (ci, flds a ci fi fr) := by
  unfold ecR
  rw [if_pos (by omega), show q.1 - 1 = ci by omega]
theorem ec_int {ca : Nat → ClassId} {a : Nat → Nat} {q : Nat × Nat} {fi : Nat → Int32} {fl : Nat → Int64} {fr : Nat → Option Nat} (j : Nat) (h : q.1 = 100 + j) (hj : j < 4) : ecR ca a q fi fl fr = .inl (ca j, q.2, .inl fi) := by
  unfold ecR
  rw [if_neg (by omega), if_pos (by omega), show q.1 - 100 = j by omega]
theorem ec_long {ca : Nat → ClassId} {a : Nat → Nat} {q : Nat × Nat} {fi : Nat → Int32} {fl : Nat → Int64} {fr : Nat → Option Nat} (h : q.1 = 104) : ecR ca a q fi fl fr = .inl (ca 4, q.2, .inr (.inl fl)) := by
  unfold ecR
  rw [if_neg (by omega), if_neg (by omega), if_pos h]
theorem ec_ref {ca : Nat → ClassId} {a : Nat → Nat} {q : Nat × Nat} {fi : Nat → Int32} {fl : Nat → Int64} {fr : Nat → Option Nat} (j : Nat) (h : q.1 = 105 + j) : ecR ca a q fi fl fr = .inl (ca (5 + j), q.2, .inr (.inr (.inr (.inr (fun k => (fr k).map a))))) := by
  unfold ecR
  rw [if_neg (by omega), if_neg (by omega), if_neg (by omega), show q.1 - 100 = 5 + j by omega]
theorem wl_obj {ca : Nat → ClassId} {a : Nat → Nat} {s : ST} {r ci : Nat} (hr : r < s.1 ∧ (kd s r).1 = ci + 1) (hc : ci < 99) : (wl ca a s)[r]? = some (a r, .inr (ci, flds a ci (gi s r) (gr s r))) := by
  rw [wl_at hr.1, ec_obj hr.2 hc]
theorem wl_set {ca : Nat → ClassId} {a : Nat → Nat} {s s' : ST} {r : Nat} {e : va_E} (h1 : s'.1 = s.1) (he : e = ecR ca a (kd s' r) (gi s' r) (gl s' r) (gr s' r)) (ho : ∀ r', r' ≠ r → kd s' r' = kd s r' ∧ gi s' r' = gi s r' ∧ gl s' r' = gl s r' ∧ gr s' r' = gr s r') : (wl ca a s).set r (a r, e) = wl ca a s' := by
  apply List.ext_getElem?
  intro j
  rw [List.getElem?_set]
  by_cases hj : r = j
  · subst hj
    rw [if_pos rfl]
    by_cases hr : r < s.1
    · rw [wl_at (by omega), if_pos (by unfold wl; simpa using hr), he]
    · rw [if_neg (by unfold wl; simpa using hr)]
      unfold wl
      simp [h1, hr]
  · rw [if_neg hj]
    obtain ⟨o1, o2, o3, o4⟩ := ho j (Ne.symm hj)
    unfold wl
    rw [List.getElem?_map, List.getElem?_map, h1]
    by_cases hr : j < s.1
    · rw [List.getElem?_range hr]
      simp [o1, o2, o3, o4]
    · simp [hr]
theorem flds_at {a : Nat → Nat} {ci k : Nat} {fi : Nat → Int32} {fr : Nat → Option Nat} (hk : k < nF ci) : (flds a ci fi fr)[k]? = some (fvv a ci fi fr k) := by
  unfold flds
  rw [List.getElem?_map, List.getElem?_range hk]
  rfl
theorem flds_len {a : Nat → Nat} {ci : Nat} {fi : Nat → Int32} {fr : Nat → Option Nat} : (flds a ci fi fr).length = nF ci := by simp [flds]
theorem flds_set {a : Nat → Nat} {ci k : Nat} {fi fi' : Nat → Int32} {fr fr' : Nat → Option Nat} {v : Value} (hv : v = fvv a ci fi' fr' k) (hi : ∀ j, j ≠ k → fi' j = fi j) (hr : ∀ j, j ≠ k → fr' j = fr j) : (flds a ci fi fr).set k v = flds a ci fi' fr' := by
  apply List.ext_getElem?
  intro j
  rw [List.getElem?_set]
  by_cases hj : k = j
  · subst hj
    rw [if_pos rfl]
    by_cases hk : k < nF ci
    · rw [flds_at hk, if_pos (by rw [flds_len]; exact hk), hv]
    · rw [if_neg (by rw [flds_len]; exact hk)]
      unfold flds
      simp [hk]
  · rw [if_neg hj]
    by_cases hk : j < nF ci
    · rw [flds_at hk, flds_at hk]
      unfold fvv
      rw [hi j (Ne.symm hj), hr j (Ne.symm hj)]
    · unfold flds
      simp [hk]
/-! words that ride with the world -/
def nbW (w : Cond) : Bool := match w with
  | .fieldLinkNest _ _ _ _ _ _ => true
  | .methodLinkNest _ _ _ _ => true
  | .castable _ _ => true
  | .declares _ => true
  | _ => false
theorem nbW.warm {w : Cond} {s U : State} (h : nbW w = true) (hW : s.WarmedH U.vm) (hz : va_Nw w s) : va_Nw w U := by
  cases w <;> first | (simp [nbW] at h; done) | exact va_Nw.warmF hW hz | exact va_Nw.warmM hW hz | exact va_Nw.warmC hW hz | exact va_Nw.warmD hW hz
theorem nbW.onT {w : Cond} (h : nbW w = true) : w.onTables = true := by
  cases w <;> first | (simp [nbW] at h; done) | rfl
def yStands : MethodName := ⟨"HeavierServes$Chooser", "stands", "(LHeavierServes$Time;I)Z"⟩
def yWanted : MethodName := ⟨"HeavierServes$Wanted", "isSo", "(I)Z"⟩
abbrev fwL : List (String × MethodName × MethodName) := [(RX4, yStands, yX4_stands), (RX5, yStands, yX5_stands), (RX6, yStands, yX6_stands), (RX7, yStands, yX7_stands), (RX8, yStands, yX8_stands), (RX9, yStands, yX9_stands), (RX10, yWanted, yX10_isSo), (RX11, yWanted, yX11_isSo), (RX12, yWanted, yX12_isSo), (RX13, yWanted, yX13_isSo)]
def stO (i : Nat) : String := if i < 5 then "HeavierServesModel" else "HeavierServes$Will"
def stI (i : Nat) : Nat := [188, 172, 223, 228, 230, 69].getD i 0
def stT (i : Nat) : String := ["0123", "+-", "iwpvqston", "<>=", "*/", "iwpvqstno"].getD i ""
def stL : List Nat := [4, 2, 9, 3, 2, 9]
def stB : List (List Int32) := [[48, 49, 50, 51], [43, 45], [105, 119, 112, 118, 113, 115, 116, 111, 110], [60, 62, 61], [42, 47], [105, 119, 112, 118, 113, 115, 116, 110, 111]]
abbrev GM : Type := va_G × (Nat → ClassId) × Nat × (Nat → Nat) × (Nat → Nat)
def bb (G : GM) : Nat → Prop := fun q => G.2.2.1 ≤ q
def SB (G : GM) (U : State) : Prop := (∀ w ∈ lw_tbl, nbW w = true → va_Nw w U) ∧ (∀ q ∈ fwL, va_Fw q.1 q.2.1 q.2.2 U) ∧ (va_AO RX3 U ∧ va_AO RX2 U ∧ va_AO RX18 U) ∧ (vk_S 6 stL stB G.2.2.2.1 G.2.2.2.2 (bb G) U U.heap ∧ ∀ i, i < 6 → vk_R (stO i) (stI i) (stT i) (G.2.2.2.1 i) U) ∧ va_Z "java/lang/String" "COMPACT_STRINGS" "Z" (.int 1) (bb G) U U.heap ∧ vx_Zq Bundle.tN "UNASSIGNED_STACK" Bundle.steD (bb G) U U.heap ∧ vx_Zq Bundle.tN "SUPPRESSED_SENTINEL" Bundle.listD (bb G) U U.heap ∧ va_Zq "jdk/internal/util/Preconditions" "SIOOBE_FORMATTER" "Ljava/util/function/BiFunction;" (bb G) U U.heap ∧ (va_Nc "[S" "[B" U ∧ va_Nc "[I" "[B" U ∧ va_Nc "[I" "[S" U)
theorem fwL_ok : ∀ q ∈ fwL, q.2.1.cls ≠ "java/lang/invoke/MethodHandle" ∧ q.2.1.cls ≠ "java/lang/invoke/VarHandle" := by
  intro q hq
  simp only [fwL, List.mem_cons, List.not_mem_nil, or_false] at hq
  rcases hq with rfl | rfl | rfl | rfl | rfl | rfl | rfl | rfl | rfl | rfl <;> exact ⟨by decide +kernel, by decide +kernel⟩
theorem SB.warm {G : GM} {s U : State} (h : SB G s) (hW : s.WarmedH U.vm) (hq : ∀ q : Nat, q < s.heap.size → ¬ bb G q → U.heap[q]? = s.heap[q]?) : SB G U := by
  obtain ⟨h1, h2, ⟨h3, h4, h5⟩, ⟨h6, h7⟩, h8, h9, h10, h11, h12, h13, h14⟩ := h
  have al := hW.alike
  exact ⟨fun w hw hn => nbW.warm hn hW (h1 w hw hn), fun q hm => (h2 q hm).moved (fwL_ok q hm) al, ⟨h3.moved al, h4.moved al, h5.moved al⟩, ⟨(h6.kept hq).moved al, fun i hi => (h7 i hi).warm hW⟩, (h8.kept hq).moved al, (h9.kept hq).moved al, (h10.kept hq).moved al, va_Zq.moved al (va_Zq.kept h11 hq), h12.moved al, h13.moved al, h14.moved al⟩
theorem SB.same {G : GM} {s U : State} (h : SB G s) (hv : U.vm = s.vm) (hh : U.heap = s.heap) : SB G U := by
  obtain ⟨h1, h2, ⟨h3, h4, h5⟩, ⟨h6, h7⟩, h8, h9, h10, h11, h12, h13, h14⟩ := h
  have al : s.vm.Alike U.vm := by rw [hv]; exact Vm.Alike.refl _
  have hq : ∀ q : Nat, q < s.heap.size → ¬ bb G q → U.heap[q]? = s.heap[q]? := fun q _ _ => by rw [hh]
  exact ⟨fun w hw hn => va_tabs (nbW.onT hn) hv.symm (h1 w hw hn), fun q hm => (h2 q hm).moved (fwL_ok q hm) al, ⟨h3.moved al, h4.moved al, h5.moved al⟩, ⟨(h6.kept hq).moved al, fun i hi => (h7 i hi).same hv⟩, (h8.kept hq).moved al, (h9.kept hq).moved al, (h10.kept hq).moved al, va_Zq.moved al (va_Zq.kept h11 hq), h12.moved al, h13.moved al, h14.moved al⟩
/-! the world's well-formedness: references are roles below N; the cells lie behind the start */ -/
def WF (G : GM) (a : Nat → Nat) (s : ST) : Prop := (∀ r k q, gr s r k = some q → q < s.1) ∧ ∀ r, r < s.1 → G.2.2.1 ≤ a r
/-- the world, at a contract's start and end -/
def PW (G : GM) (a : Nat → Nat) (s : ST) (A : Nat → Prop) (U : State) : Prop := va_P G.1 vwCl (wl G.2.1 a s) U.heap ∧ va_K G.1 vwCl (tyL G.2.1) U ∧ va_D A (wl G.2.1 a s) ∧ SB G U ∧ WF G a s ∧ G.2.2.1 ≤ U.heap.size
/-- the world in a method's body -/
def AW (G : GM) (a : Nat → Nat) (A : Nat → Prop) (s : ST) (H0 H : Heap) (locs : List Loc) : Prop := va_P G.1 vwCl (wl G.2.1 a s) H ∧ va_D A (wl G.2.1 a s) ∧ va_S A H0 H locs ∧ WF G a s
/-- what stays the same in a method's body -/
def CX (p : Program) (s0 : State) (m : MethodId) (args : Array Value) (meth : Method) (c : Code) (G : GM) (A : Nat → Prop) (cc : ByteArray) (own : String) (nL : Nat) : Prop :=
  p.tables.exec = Jvm.exec ∧ c.code = cc ∧ c.maxLocals = nL ∧ s0.vm.findClass own = some m.cls ∧ (∀ w ∈ lw_all, w.before args s0 = true) ∧ va_K G.1 vwCl (tyL G.2.1) s0 ∧ SB G s0 ∧ (∀ q, s0.heap.size ≤ q → A q) ∧ (∀ q, A q → G.2.2.1 ≤ q) ∧ meth.locks = false
def EX (a a' : Nat → Nat) (N : Nat) : Prop := ∀ r, r < N → a' r = a r
/-- a field as the code of a class names it: class own, pool index; the class's number, the field's number -/
def FL (own : String) (index ci k : Nat) : Prop := ∃ (q : vw_C) (ref : String), vwCl[ci]? = some q ∧ k < q.2.2 ∧ (Cond.fieldLink own index ref (q.2.1 k).2.1 (q.2.1 k).2.2.1 ∈ lw_all ∨ ∃ host, Cond.fieldLinkNest own index ref (q.2.1 k).2.1 (q.2.1 k).2.2.1 host ∈ lw_tbl) ∧ (ref = (q.2.1 k).1 ∨ Cond.sameField ref (q.2.1 k).1 (q.2.1 k).2.1 (q.2.1 k).2.2.1 ∈ lw_all)

section AWR
variable {p : Program} {l : Launch} {e : Env} {R : Room} {s0 : State} {m : MethodId} {args : Array Value} {below : List Frame} {meth : Method} {c : Code} {H : Heap} {locs : List Loc} {cells slots : Nat} {Q : State → Prop}
variable {cc : ByteArray} {pc nL : Nat} {ls : Array Slot} {rest : List Value} {G : GM} {A : Nat → Prop} {a : Nat → Nat} {s : ST} {own : String}
theorem FL.same {args : Array Value} {s0 : State} {q : vw_C} {ref : String} {k : Nat} (hts : ∀ w ∈ lw_all, w.before args s0 = true) (h : ref = (q.2.1 k).1 ∨ Cond.sameField ref (q.2.1 k).1 (q.2.1 k).2.1 (q.2.1 k).2.2.1 ∈ lw_all) : ∀ x, s0.fieldFound? (q.2.1 k).1 (q.2.1 k).2.1 (q.2.1 k).2.2.1 = some x → s0.fieldFound? ref (q.2.1 k).2.1 (q.2.1 k).2.2.1 = some x := by
  intro x hx
  rcases h with rfl | h
  · exact hx
  · exact u_same (hts _ h) x hx
theorem aw_get {r ci k index : Nat} {v : Value} (hC : CX p s0 m args meth c G A cc own nL) (hW : AW G a A s s0.heap H locs) (hr : r < s.1 ∧ (kd s r).1 = ci + 1) (hF : FL own index ci k) (hv : fvv a ci (gi s r) (gr s r) k = v) (hdg : decode cc pc = .ok (.getfield index, 3))
    (kk : W p l e R s0 m args below meth c H locs cells slots Q (F0 m (pc + 3) ls (v :: rest))) : W p l e R s0 m args below meth c H locs cells slots Q (F0 m pc ls (.ref (a r) :: rest)) := by
  obtain ⟨hx, hb, -, hown, hts, hK, hSB, -⟩ := hC
  obtain ⟨q, ref, hc, hk, hl, hs⟩ := hF
  obtain ⟨hN, hin, -, -⟩ := clOK ci q hc
  have he := wl_obj (ca := G.2.1) (a := a) hr (vw_lt hc)
  have hv' : (flds a ci (gi s r) (gr s r))[k]? = some v := by rw [flds_at (by rw [hN]; exact hk), hv]
  rcases hl with hl | ⟨host, hl⟩
  · exact va_get hx hb hts hin hown hK hW.1 r he hc k hk (hts _ hl) (FL.same hts hs) hv' hdg kk
  · exact va_getN hx hb hts hin hown hK hW.1 r he hc k hk (va_Nw.use rfl (hSB.1 _ hl rfl)) (FL.same hts hs) hv' hdg kk
theorem aw_gI {r ci k index : Nat} (hC : CX p s0 m args meth c G A cc own nL) (hW : AW G a A s s0.heap H locs) (hr : r < s.1 ∧ (kd s r).1 = ci + 1) (hF : FL own index ci k) (ht : refKind (tF ci k) = false) (hdg : decode cc pc = .ok (.getfield index, 3))
    (kk : W p l e R s0 m args below meth c H locs cells slots Q (F0 m (pc + 3) ls (.int (gi s r k) :: rest))) : W p l e R s0 m args below meth c H locs cells slots Q (F0 m pc ls (.ref (a r) :: rest)) := by
  refine aw_get hC hW hr hF ?_ hdg kk
  unfold fvv
  rw [ht]
  rfl
theorem aw_gR {r ci k index q : Nat} (hC : CX p s0 m args meth c G A cc own nL) (hW : AW G a A s s0.heap H locs) (hr : r < s.1 ∧ (kd s r).1 = ci + 1) (hF : FL own index ci k) (ht : refKind (tF ci k) = true) (hq : gr s r k = some q) (hdg : decode cc pc = .ok (.getfield index, 3))
    (kk : W p l e R s0 m args below meth c H locs cells slots Q (F0 m (pc + 3) ls (.ref (a q) :: rest))) : W p l e R s0 m args below meth c H locs cells slots Q (F0 m pc ls (.ref (a r) :: rest)) := by
  refine aw_get hC hW hr hF ?_ hdg kk
  unfold fvv
  rw [ht, hq]
  rfl
theorem aw_gN {r ci k index : Nat} (hC : CX p s0 m args meth c G A cc own nL) (hW : AW G a A s s0.heap H locs) (hr : r < s.1 ∧ (kd s r).1 = ci + 1) (hF : FL own index ci k) (ht : refKind (tF ci k) = true) (hq : gr s r k = none) (hdg : decode cc pc = .ok (.getfield index, 3))
    (kk : W p l e R s0 m args below meth c H locs cells slots Q (F0 m (pc + 3) ls (.null :: rest))) : W p l e R s0 m args below meth c H locs cells slots Q (F0 m pc ls (.ref (a r) :: rest)) := by
  refine aw_get hC hW hr hF ?_ hdg kk
  unfold fvv
  rw [ht, hq]
  rfl
theorem aw_put {r ci k index : Nat} {v : Value} {s' : ST} (hC : CX p s0 m args meth c G A cc own nL) (hW : AW G a A s s0.heap H locs) (hr : r < s.1 ∧ (kd s r).1 = ci + 1) (hF : FL own index ci k) (hfin : ∀ q, vwCl[ci]? = some q → (q.2.1 k).2.2.2 = false ∨ ((q.2.1 k).2.2.2 = true ∧ (q.2.1 k).1 = own ∧ meth.name = "<init>" ∧ ∃ ref, Cond.fieldLink own index ref (q.2.1 k).2.1 (q.2.1 k).2.2.1 ∈ lw_all ∧ (ref = (q.2.1 k).1 ∨ Cond.sameField ref (q.2.1 k).1 (q.2.1 k).2.1 (q.2.1 k).2.2.1 ∈ lw_all)))
    (hn : narrow (tF ci k) v = v) (hfit : fits (tF ci k) v = true) (h1 : s'.1 = s.1) (hkd : kd s' = kd s) (hv : v = fvv a ci (gi s' r) (gr s' r) k) (hi : ∀ r' j, ¬ (r' = r ∧ j = k) → gi s' r' j = gi s r' j) (hrr : ∀ r' j, ¬ (r' = r ∧ j = k) → gr s' r' j = gr s r' j) (hl : gl s' = gl s) (hwf : ∀ q, gr s' r k = some q → q < s.1) (hdg : decode cc pc = .ok (.putfield index, 3))
    (kk : ∀ (H1 : Heap) (locs1 : List Loc), AW G a A s' s0.heap H1 locs1 → W p l e R s0 m args below meth c H1 locs1 cells slots Q (F0 m (pc + 3) ls rest)) : W p l e R s0 m args below meth c H locs cells slots Q (F0 m pc ls (v :: .ref (a r) :: rest)) := by
  obtain ⟨hx, hb, -, hown, hts, hK, hSB, -⟩ := hC
  obtain ⟨q, ref, hc, hk, hlk, hs⟩ := hF
  obtain ⟨hN, hin, hty, hnm⟩ := clOK ci q hc
  have he := wl_obj (ca := G.2.1) (a := a) hr (vw_lt hc)
  obtain ⟨hP, hD, hS, hwf1, hwf2⟩ := hW
  have hlen : k < (flds a ci (gi s r) (gr s r)).length := by rw [flds_len, hN]; exact hk
  have hset : (wl G.2.1 a s).set r (a r, .inr (ci, (flds a ci (gi s r) (gr s r)).set k v)) = wl G.2.1 a s' := by
    refine wl_set h1 ?_ (fun r' hr' => ⟨by rw [hkd], funext fun j => hi r' j (fun z => hr' z.1), by rw [hl], funext fun j => hrr r' j (fun z => hr' z.1)⟩)
    rw [ec_obj (ci := ci) (by rw [hkd]; exact hr.2) (vw_lt hc), flds_set hv (fun j hj => hi r j (fun z => hj z.2)) (fun j hj => hrr r j (fun z => hj z.2))]
  have hwf : WF G a s' := by
    refine ⟨fun r' j q' hq' => ?_, fun r' hr' => hwf2 r' (by rw [← h1]; exact hr')⟩
    rw [h1]
    by_cases z : r' = r ∧ j = k
    · obtain ⟨rfl, rfl⟩ := z
      exact hwf q' hq'
    · rw [hrr r' j z] at hq'
      exact hwf1 r' j q' hq'
  have go : ∀ (H1 : Heap) (locs1 : List Loc), va_P G.1 vwCl ((wl G.2.1 a s).set r (a r, .inr (ci, (flds a ci (gi s r) (gr s r)).set k v))) H1 → va_D A ((wl G.2.1 a s).set r (a r, .inr (ci, (flds a ci (gi s r) (gr s r)).set k v))) → va_S A s0.heap H1 locs1 → W p l e R s0 m args below meth c H1 locs1 cells slots Q (F0 m (pc + 3) ls rest) := by
    intro H1 locs1 g1 g2 g3
    rw [hset] at g1 g2
    exact kk H1 locs1 ⟨g1, g2, g3, hwf⟩
  rcases hfin q hc with hf | ⟨hf, hdecl, hinit, ref2, hlk2, hs2⟩
  · rcases hlk with hlk | ⟨host, hlk⟩
    · exact va_put hx hb hts hin (tF ci) hty hnm hown hK hP hD hS r he hc k hk (hts _ hlk) (FL.same hts hs) hf (hty k hk) hn hfit hlen hdg go
    · exact va_putN hx hb hts hin (tF ci) hty hnm hown hK hP hD hS r he hc k hk (va_Nw.use rfl (hSB.1 _ hlk rfl)) (FL.same hts hs) hf (hty k hk) hn hfit hlen hdg go
  · exact va_putF hx hb hts hin (tF ci) hty hnm hown hK hP hD hS r he hc k hk (hts _ hlk2) (FL.same hts hs2) hf hinit hdecl (hty k hk) hn hfit hlen hdg go
def finN (ci k : Nat) : Prop := ∀ q, vwCl[ci]? = some q → (q.2.1 k).2.2.2 = false
def finF (own : String) (index ci k : Nat) : Prop := ∀ q, vwCl[ci]? = some q → (q.2.1 k).2.2.2 = true ∧ (q.2.1 k).1 = own ∧ ∃ ref, Cond.fieldLink own index ref (q.2.1 k).2.1 (q.2.1 k).2.2.1 ∈ lw_all ∧ (ref = (q.2.1 k).1 ∨ Cond.sameField ref (q.2.1 k).1 (q.2.1 k).2.1 (q.2.1 k).2.2.1 ∈ lw_all)
def finX (own : String) (index ci k : Nat) (meth : Method) : Prop := finN ci k ∨ (meth.name = "<init>" ∧ finF own index ci k)
theorem finX.ok {index ci k : Nat} (h : finX own index ci k meth) : ∀ q, vwCl[ci]? = some q → (q.2.1 k).2.2.2 = false ∨ ((q.2.1 k).2.2.2 = true ∧ (q.2.1 k).1 = own ∧ meth.name = "<init>" ∧ ∃ ref, Cond.fieldLink own index ref (q.2.1 k).2.1 (q.2.1 k).2.2.1 ∈ lw_all ∧ (ref = (q.2.1 k).1 ∨ Cond.sameField ref (q.2.1 k).1 (q.2.1 k).2.1 (q.2.1 k).2.2.1 ∈ lw_all)) := by
  intro q hq
  rcases h with h | ⟨h1, h2⟩
  · exact Or.inl (h q hq)
  · exact Or.inr ⟨(h2 q hq).1, (h2 q hq).2.1, h1, (h2 q hq).2.2⟩
theorem aw_pI {r ci k index : Nat} {v : Int32} {s' : ST} (es : s' = pI s r k v) (hC : CX p s0 m args meth c G A cc own nL) (hW : AW G a A s s0.heap H locs) (hr : r < s.1 ∧ (kd s r).1 = ci + 1) (hF : FL own index ci k) (hfin : finX own index ci k meth) (ht : refKind (tF ci k) = false) (hn : narrow (tF ci k) (.int v) = .int v) (hfit : fits (tF ci k) (.int v) = true) (hdg : decode cc pc = .ok (.putfield index, 3))
    (kk : ∀ (H : Heap) (locs : List Loc), AW G a A s' s0.heap H locs → W p l e R s0 m args below meth c H locs cells slots Q (F0 m (pc + 3) ls rest)) : W p l e R s0 m args below meth c H locs cells slots Q (F0 m pc ls (.int v :: .ref (a r) :: rest)) := by
  subst es
  refine aw_put (s' := pI s r k v) hC hW hr hF hfin.ok hn hfit rfl rfl ?_ (fun r' j z => ?_) (fun r' j z => rfl) rfl (fun q hq => hW.2.2.2.1 r k q hq) hdg kk
  · unfold fvv
    rw [ht]
    simp [gi, pI]
  · simp [gi, pI, z]
theorem aw_pR {r ci k index q : Nat} {s' : ST} (es : s' = pR s r k (some q)) (hC : CX p s0 m args meth c G A cc own nL) (hW : AW G a A s s0.heap H locs) (hr : r < s.1 ∧ (kd s r).1 = ci + 1) (hq : q < s.1) (hF : FL own index ci k) (hfin : finX own index ci k meth) (ht : refKind (tF ci k) = true) (hdg : decode cc pc = .ok (.putfield index, 3))
    (kk : ∀ (H : Heap) (locs : List Loc), AW G a A s' s0.heap H locs → W p l e R s0 m args below meth c H locs cells slots Q (F0 m (pc + 3) ls rest)) : W p l e R s0 m args below meth c H locs cells slots Q (F0 m pc ls (.ref (a q) :: .ref (a r) :: rest)) := by
  subst es
  have hn : narrow (tF ci k) (.ref (a q)) = .ref (a q) := by generalize tF ci k = t at *; cases t <;> first | rfl | cases ht
  have hfit : fits (tF ci k) (.ref (a q)) = true := by generalize tF ci k = t at *; cases t <;> first | rfl | cases ht
  refine aw_put (s' := pR s r k (some q)) hC hW hr hF hfin.ok hn hfit rfl rfl ?_ (fun r' j z => rfl) (fun r' j z => ?_) rfl (fun q' hq' => ?_) hdg kk
  · unfold fvv
    rw [ht]
    simp [gr, pR, va_rf]
  · simp [gr, pR, z]
  · simp [gr, pR] at hq'
    omega
theorem aw_pN {r ci k index : Nat} {s' : ST} (es : s' = pR s r k none) (hC : CX p s0 m args meth c G A cc own nL) (hW : AW G a A s s0.heap H locs) (hr : r < s.1 ∧ (kd s r).1 = ci + 1) (hF : FL own index ci k) (hfin : finX own index ci k meth) (ht : refKind (tF ci k) = true) (hdg : decode cc pc = .ok (.putfield index, 3))
    (kk : ∀ (H : Heap) (locs : List Loc), AW G a A s' s0.heap H locs → W p l e R s0 m args below meth c H locs cells slots Q (F0 m (pc + 3) ls rest)) : W p l e R s0 m args below meth c H locs cells slots Q (F0 m pc ls (.null :: .ref (a r) :: rest)) := by
  subst es
  have hn : narrow (tF ci k) .null = .null := by generalize tF ci k = t at *; cases t <;> first | rfl | cases ht
  have hfit : fits (tF ci k) .null = true := by generalize tF ci k = t at *; cases t <;> first | rfl | cases ht
  refine aw_put (s' := pR s r k none) hC hW hr hF hfin.ok hn hfit rfl rfl ?_ (fun r' j z => rfl) (fun r' j z => ?_) rfl (fun q' hq' => ?_) hdg kk
  · unfold fvv
    rw [ht]
    simp [gr, pR, va_rf]
  · simp [gr, pR, z]
  · simp [gr, pR] at hq'

theorem aw_iald {r : Nat} {i : Int32} (hC : CX p s0 m args meth c G A cc own nL) (hW : AW G a A s s0.heap H locs) (hr : r < s.1 ∧ (kd s r).1 = 100 ∧ ¬ (i < 0 ∨ (kd s r).2 ≤ i.toNatClampNeg)) (hdg : decode cc pc = .ok (.iaload, 1))
    (kk : W p l e R s0 m args below meth c H locs cells slots Q (F0 m (pc + 1) ls (.int (gi s r i.toNatClampNeg) :: rest))) : W p l e R s0 m args below meth c H locs cells slots Q (F0 m pc ls (.int i :: .ref (a r) :: rest)) := by
  have he : (wl G.2.1 a s)[r]? = some (a r, .inl (G.2.1 0, (kd s r).2, .inl (gi s r))) := by rw [wl_at hr.1, ec_int 0 hr.2.1 (by decide)]
  exact va_iald hC.1 hC.2.1 hC.2.2.2.2.2.1 hW.1 r 0 he rfl hr.2.2 hdg kk
theorem aw_bald {r : Nat} {i : Int32} (hC : CX p s0 m args meth c G A cc own nL) (hW : AW G a A s s0.heap H locs) (hr : r < s.1 ∧ (kd s r).1 = 101 ∧ ¬ (i < 0 ∨ (kd s r).2 ≤ i.toNatClampNeg)) (hdg : decode cc pc = .ok (.baload, 1))
    (kk : W p l e R s0 m args below meth c H locs cells slots Q (F0 m (pc + 1) ls (.int (gi s r i.toNatClampNeg) :: rest))) : W p l e R s0 m args below meth c H locs cells slots Q (F0 m pc ls (.int i :: .ref (a r) :: rest)) := by
  have he : (wl G.2.1 a s)[r]? = some (a r, .inl (G.2.1 1, (kd s r).2, .inl (gi s r))) := by rw [wl_at hr.1, ec_int 1 hr.2.1 (by decide)]
  exact va_bald hC.1 hC.2.1 hC.2.2.2.2.2.1 hW.1 r 1 he rfl hr.2.2 hdg kk
theorem aw_sald {r : Nat} {i : Int32} (hC : CX p s0 m args meth c G A cc own nL) (hW : AW G a A s s0.heap H locs) (hr : r < s.1 ∧ (kd s r).1 = 102 ∧ ¬ (i < 0 ∨ (kd s r).2 ≤ i.toNatClampNeg)) (hdg : decode cc pc = .ok (.saload, 1))
    (kk : W p l e R s0 m args below meth c H locs cells slots Q (F0 m (pc + 1) ls (.int (gi s r i.toNatClampNeg) :: rest))) : W p l e R s0 m args below meth c H locs cells slots Q (F0 m pc ls (.int i :: .ref (a r) :: rest)) := by
  have he : (wl G.2.1 a s)[r]? = some (a r, .inl (G.2.1 2, (kd s r).2, .inl (gi s r))) := by rw [wl_at hr.1, ec_int 2 hr.2.1 (by decide)]
  exact va_sald hC.1 hC.2.1 hC.2.2.2.2.2.1 hW.1 r 2 he rfl hr.2.2 hdg kk
theorem aw_zald {r : Nat} {i : Int32} (hC : CX p s0 m args meth c G A cc own nL) (hW : AW G a A s s0.heap H locs) (hr : r < s.1 ∧ (kd s r).1 = 103 ∧ ¬ (i < 0 ∨ (kd s r).2 ≤ i.toNatClampNeg)) (hdg : decode cc pc = .ok (.baload, 1))
    (kk : W p l e R s0 m args below meth c H locs cells slots Q (F0 m (pc + 1) ls (.int (gi s r i.toNatClampNeg) :: rest))) : W p l e R s0 m args below meth c H locs cells slots Q (F0 m pc ls (.int i :: .ref (a r) :: rest)) := by
  have he : (wl G.2.1 a s)[r]? = some (a r, .inl (G.2.1 3, (kd s r).2, .inl (gi s r))) := by rw [wl_at hr.1, ec_int 3 hr.2.1 (by decide)]
  exact va_zald hC.1 hC.2.1 hC.2.2.2.2.2.1 hW.1 r 3 he rfl hr.2.2 hdg kk
theorem aw_lald {r : Nat} {i : Int32} (hC : CX p s0 m args meth c G A cc own nL) (hW : AW G a A s s0.heap H locs) (hr : r < s.1 ∧ (kd s r).1 = 104 ∧ ¬ (i < 0 ∨ (kd s r).2 ≤ i.toNatClampNeg)) (hdg : decode cc pc = .ok (.laload, 1))
    (kk : W p l e R s0 m args below meth c H locs cells slots Q (F0 m (pc + 1) ls (.long (gl s r i.toNatClampNeg) :: rest))) : W p l e R s0 m args below meth c H locs cells slots Q (F0 m pc ls (.int i :: .ref (a r) :: rest)) := by
  have he : (wl G.2.1 a s)[r]? = some (a r, .inl (G.2.1 4, (kd s r).2, .inr (.inl (gl s r)))) := by rw [wl_at hr.1, ec_long hr.2.1]
  exact va_lald hC.1 hC.2.1 hC.2.2.2.2.2.1 hW.1 r 4 he rfl hr.2.2 hdg kk
theorem aw_iast {r : Nat} {i : Int32} {v : Int32} {s' : ST} (es : s' = pI s r i.toNatClampNeg v) (hC : CX p s0 m args meth c G A cc own nL) (hW : AW G a A s s0.heap H locs) (hr : r < s.1 ∧ (kd s r).1 = 100 ∧ ¬ (i < 0 ∨ (kd s r).2 ≤ i.toNatClampNeg)) (hdg : decode cc pc = .ok (.iastore, 1))
    (kk : ∀ (H : Heap) (locs : List Loc), AW G a A s' s0.heap H locs → W p l e R s0 m args below meth c H locs cells slots Q (F0 m (pc + 1) ls rest)) : W p l e R s0 m args below meth c H locs cells slots Q (F0 m pc ls (.int v :: .int i :: .ref (a r) :: rest)) := by
  subst es
  obtain ⟨hP, hD, hS, hwf⟩ := hW
  have he : (wl G.2.1 a s)[r]? = some (a r, .inl (G.2.1 0, (kd s r).2, .inl (gi s r))) := by rw [wl_at hr.1, ec_int 0 hr.2.1 (by decide)]
  have hset : (wl G.2.1 a s).set r (a r, .inl (G.2.1 0, (kd s r).2, .inl (upd (gi s r) i.toNatClampNeg v))) = wl G.2.1 a (pI s r i.toNatClampNeg v) := by
    refine wl_set rfl ?_ (fun r' hr' => ⟨rfl, ?_, ?_, rfl⟩)
    · rw [ec_int (q := kd (pI s r i.toNatClampNeg v) r) 0 hr.2.1 (by decide)]
      congr 1
      simp only [Prod.mk.injEq, true_and]
      refine ⟨rfl, ?_⟩
      congr 1
      funext j
      simp [gi, pI, upd]
    · funext j
      simp [gi, gl, pI, pL, hr']
    · funext j
      simp [gi, gl, pI, pL, hr']
  refine va_iast hC.1 hC.2.1 hC.2.2.2.2.2.1 hP hD hS r 0 he rfl hr.2.2 hdg (fun H1 locs1 g1 g2 g3 => ?_)
  rw [hset] at g1 g2
  exact kk H1 locs1 ⟨g1, g2, g3, hwf⟩
theorem aw_bast {r : Nat} {i : Int32} {v : Int32} {s' : ST} (es : s' = pI s r i.toNatClampNeg (vp_nar .byte v)) (hC : CX p s0 m args meth c G A cc own nL) (hW : AW G a A s s0.heap H locs) (hr : r < s.1 ∧ (kd s r).1 = 101 ∧ ¬ (i < 0 ∨ (kd s r).2 ≤ i.toNatClampNeg)) (hdg : decode cc pc = .ok (.bastore, 1))
    (kk : ∀ (H : Heap) (locs : List Loc), AW G a A s' s0.heap H locs → W p l e R s0 m args below meth c H locs cells slots Q (F0 m (pc + 1) ls rest)) : W p l e R s0 m args below meth c H locs cells slots Q (F0 m pc ls (.int v :: .int i :: .ref (a r) :: rest)) := by
  subst es
  obtain ⟨hP, hD, hS, hwf⟩ := hW
  have he : (wl G.2.1 a s)[r]? = some (a r, .inl (G.2.1 1, (kd s r).2, .inl (gi s r))) := by rw [wl_at hr.1, ec_int 1 hr.2.1 (by decide)]
  have hset : (wl G.2.1 a s).set r (a r, .inl (G.2.1 1, (kd s r).2, .inl (upd (gi s r) i.toNatClampNeg (vp_nar .byte v)))) = wl G.2.1 a (pI s r i.toNatClampNeg (vp_nar .byte v)) := by
    refine wl_set rfl ?_ (fun r' hr' => ⟨rfl, ?_, ?_, rfl⟩)
    · rw [ec_int (q := kd (pI s r i.toNatClampNeg (vp_nar .byte v)) r) 1 hr.2.1 (by decide)]
      congr 1
      simp only [Prod.mk.injEq, true_and]
      refine ⟨rfl, ?_⟩
      congr 1
      funext j
      simp [gi, pI, upd]
    · funext j
      simp [gi, gl, pI, pL, hr']
    · funext j
      simp [gi, gl, pI, pL, hr']
  refine va_bast hC.1 hC.2.1 hC.2.2.2.2.2.1 hP hD hS r 1 he rfl hr.2.2 hdg (fun H1 locs1 g1 g2 g3 => ?_)
  rw [hset] at g1 g2
  exact kk H1 locs1 ⟨g1, g2, g3, hwf⟩
theorem aw_sast {r : Nat} {i : Int32} {v : Int32} {s' : ST} (es : s' = pI s r i.toNatClampNeg (vp_nar .short v)) (hC : CX p s0 m args meth c G A cc own nL) (hW : AW G a A s s0.heap H locs) (hr : r < s.1 ∧ (kd s r).1 = 102 ∧ ¬ (i < 0 ∨ (kd s r).2 ≤ i.toNatClampNeg)) (hdg : decode cc pc = .ok (.sastore, 1))
    (kk : ∀ (H : Heap) (locs : List Loc), AW G a A s' s0.heap H locs → W p l e R s0 m args below meth c H locs cells slots Q (F0 m (pc + 1) ls rest)) : W p l e R s0 m args below meth c H locs cells slots Q (F0 m pc ls (.int v :: .int i :: .ref (a r) :: rest)) := by
  subst es
  obtain ⟨hP, hD, hS, hwf⟩ := hW
  have he : (wl G.2.1 a s)[r]? = some (a r, .inl (G.2.1 2, (kd s r).2, .inl (gi s r))) := by rw [wl_at hr.1, ec_int 2 hr.2.1 (by decide)]
  have hset : (wl G.2.1 a s).set r (a r, .inl (G.2.1 2, (kd s r).2, .inl (upd (gi s r) i.toNatClampNeg (vp_nar .short v)))) = wl G.2.1 a (pI s r i.toNatClampNeg (vp_nar .short v)) := by
    refine wl_set rfl ?_ (fun r' hr' => ⟨rfl, ?_, ?_, rfl⟩)
    · rw [ec_int (q := kd (pI s r i.toNatClampNeg (vp_nar .short v)) r) 2 hr.2.1 (by decide)]
      congr 1
      simp only [Prod.mk.injEq, true_and]
      refine ⟨rfl, ?_⟩
      congr 1
      funext j
      simp [gi, pI, upd]
    · funext j
      simp [gi, gl, pI, pL, hr']
    · funext j
      simp [gi, gl, pI, pL, hr']
  refine va_sast hC.1 hC.2.1 hC.2.2.2.2.2.1 hP hD hS r 2 he rfl hr.2.2 hdg (fun H1 locs1 g1 g2 g3 => ?_)
  rw [hset] at g1 g2
  exact kk H1 locs1 ⟨g1, g2, g3, hwf⟩
theorem aw_zast {r : Nat} {i : Int32} {v : Int32} {s' : ST} (es : s' = pI s r i.toNatClampNeg (vp_nar .boolean v)) (hC : CX p s0 m args meth c G A cc own nL) (hW : AW G a A s s0.heap H locs) (hr : r < s.1 ∧ (kd s r).1 = 103 ∧ ¬ (i < 0 ∨ (kd s r).2 ≤ i.toNatClampNeg)) (hdg : decode cc pc = .ok (.bastore, 1))
    (kk : ∀ (H : Heap) (locs : List Loc), AW G a A s' s0.heap H locs → W p l e R s0 m args below meth c H locs cells slots Q (F0 m (pc + 1) ls rest)) : W p l e R s0 m args below meth c H locs cells slots Q (F0 m pc ls (.int v :: .int i :: .ref (a r) :: rest)) := by
  subst es
  obtain ⟨hP, hD, hS, hwf⟩ := hW
  have he : (wl G.2.1 a s)[r]? = some (a r, .inl (G.2.1 3, (kd s r).2, .inl (gi s r))) := by rw [wl_at hr.1, ec_int 3 hr.2.1 (by decide)]
  have hset : (wl G.2.1 a s).set r (a r, .inl (G.2.1 3, (kd s r).2, .inl (upd (gi s r) i.toNatClampNeg (vp_nar .boolean v)))) = wl G.2.1 a (pI s r i.toNatClampNeg (vp_nar .boolean v)) := by
    refine wl_set rfl ?_ (fun r' hr' => ⟨rfl, ?_, ?_, rfl⟩)
    · rw [ec_int (q := kd (pI s r i.toNatClampNeg (vp_nar .boolean v)) r) 3 hr.2.1 (by decide)]
      congr 1
      simp only [Prod.mk.injEq, true_and]
      refine ⟨rfl, ?_⟩
      congr 1
      funext j
      simp [gi, pI, upd]
    · funext j
      simp [gi, gl, pI, pL, hr']
    · funext j
      simp [gi, gl, pI, pL, hr']
  refine va_zast hC.1 hC.2.1 hC.2.2.2.2.2.1 hP hD hS r 3 he rfl hr.2.2 hdg (fun H1 locs1 g1 g2 g3 => ?_)
  rw [hset] at g1 g2
  exact kk H1 locs1 ⟨g1, g2, g3, hwf⟩
theorem aw_last {r : Nat} {i : Int32} {v : Int64} {s' : ST} (es : s' = pL s r i.toNatClampNeg v) (hC : CX p s0 m args meth c G A cc own nL) (hW : AW G a A s s0.heap H locs) (hr : r < s.1 ∧ (kd s r).1 = 104 ∧ ¬ (i < 0 ∨ (kd s r).2 ≤ i.toNatClampNeg)) (hdg : decode cc pc = .ok (.lastore, 1))
    (kk : ∀ (H : Heap) (locs : List Loc), AW G a A s' s0.heap H locs → W p l e R s0 m args below meth c H locs cells slots Q (F0 m (pc + 1) ls rest)) : W p l e R s0 m args below meth c H locs cells slots Q (F0 m pc ls (.long v :: .int i :: .ref (a r) :: rest)) := by
  subst es
  obtain ⟨hP, hD, hS, hwf⟩ := hW
  have he : (wl G.2.1 a s)[r]? = some (a r, .inl (G.2.1 4, (kd s r).2, .inr (.inl (gl s r)))) := by rw [wl_at hr.1, ec_long hr.2.1]
  have hset : (wl G.2.1 a s).set r (a r, .inl (G.2.1 4, (kd s r).2, .inr (.inl (vp_updL (gl s r) i.toNatClampNeg v)))) = wl G.2.1 a (pL s r i.toNatClampNeg v) := by
    refine wl_set rfl ?_ (fun r' hr' => ⟨rfl, ?_, ?_, rfl⟩)
    · rw [ec_long (q := kd (pL s r i.toNatClampNeg v) r) hr.2.1]
      congr 1
      simp only [Prod.mk.injEq, true_and]
      refine ⟨rfl, ?_⟩
      congr 1
      congr 1
      funext j
      simp [gl, pL, vp_updL]
    · funext j
      simp [gi, gl, pI, pL, hr']
    · funext j
      simp [gi, gl, pI, pL, hr']
  refine va_last hC.1 hC.2.1 hC.2.2.2.2.2.1 hP hD hS r 4 he rfl hr.2.2 hdg (fun H1 locs1 g1 g2 g3 => ?_)
  rw [hset] at g1 g2
  exact kk H1 locs1 ⟨g1, g2, g3, hwf⟩
theorem aw_alen {r : Nat} {v : Int32} (hC : CX p s0 m args meth c G A cc own nL) (hW : AW G a A s s0.heap H locs) (hr : r < s.1 ∧ 100 ≤ (kd s r).1 ∧ (kd s r).1 < 108) (hv : Int32.ofNat (kd s r).2 = v) (hdg : decode cc pc = .ok (.arraylength, 1))
    (kk : W p l e R s0 m args below meth c H locs cells slots Q (F0 m (pc + 1) ls (.int v :: rest))) : W p l e R s0 m args below meth c H locs cells slots Q (F0 m pc ls (.ref (a r) :: rest)) := by
  have hj : ∃ j, (kd s r).1 = 100 + j ∧ j < 8 := ⟨(kd s r).1 - 100, by omega, by omega⟩
  obtain ⟨j, hj, hj8⟩ := hj
  have hx : ∃ x : vp_A, x.1 = (kd s r).2 ∧ (wl G.2.1 a s)[r]? = some (a r, .inl (G.2.1 j, x)) := by
    rw [wl_at hr.1]
    by_cases h4 : j < 4
    · exact ⟨_, rfl, by rw [ec_int j hj h4]⟩
    · by_cases h5 : j = 4
      · subst h5
        exact ⟨_, rfl, by rw [ec_long (by omega)]⟩
      · obtain ⟨k, rfl⟩ : ∃ k, j = 5 + k := ⟨j - 5, by omega⟩
        exact ⟨_, rfl, by rw [ec_ref k (by omega)]⟩
  obtain ⟨x, hx1, hx2⟩ := hx
  have ht : ∃ ty, (tyL G.2.1)[j]? = some (G.2.1 j, ty) := by
    rcases (show j = 0 ∨ j = 1 ∨ j = 2 ∨ j = 3 ∨ j = 4 ∨ j = 5 ∨ j = 6 ∨ j = 7 by omega) with rfl | rfl | rfl | rfl | rfl | rfl | rfl | rfl <;> exact ⟨_, rfl⟩
  obtain ⟨ty, ht⟩ := ht
  exact va_alen hC.1 hC.2.1 hC.2.2.2.2.2.1 hW.1 r j hx2 ht (by rw [hx1]; exact hv) hdg kk
/-- the class of an array's elements, by the array's code (105, 106, 107) -/
def elC (j : Nat) : vw_C := if j = 0 then (RX3, TX3, 4) else if j = 1 then (RX2, TX2, 11) else (RX18, TX18, 3)
def elI (j : Nat) : Nat := if j = 0 then 2 else if j = 1 then 1 else 17
theorem elT (ca : Nat → ClassId) {j : Nat} (hj : j < 3) : (tyL ca)[5 + j]? = some (ca (5 + j), .object (elC j).1) := by
  rcases (show j = 0 ∨ j = 1 ∨ j = 2 by omega) with rfl | rfl | rfl <;> rfl
theorem elV {j : Nat} (hj : j < 3) : vwCl[elI j]? = some (elC j) := by
  rcases (show j = 0 ∨ j = 1 ∨ j = 2 by omega) with rfl | rfl | rfl <;> rfl
theorem aw_aald {r j q : Nat} {i : Int32} (hC : CX p s0 m args meth c G A cc own nL) (hW : AW G a A s s0.heap H locs) (hj : j < 3) (hr : r < s.1 ∧ (kd s r).1 = 105 + j ∧ ¬ (i < 0 ∨ (kd s r).2 ≤ i.toNatClampNeg)) (hq : gr s r i.toNatClampNeg = some q) (hdg : decode cc pc = .ok (.aaload, 1))
    (kk : W p l e R s0 m args below meth c H locs cells slots Q (F0 m (pc + 1) ls (.ref (a q) :: rest))) : W p l e R s0 m args below meth c H locs cells slots Q (F0 m pc ls (.int i :: .ref (a r) :: rest)) := by
  have he : (wl G.2.1 a s)[r]? = some (a r, .inl (G.2.1 (5 + j), (kd s r).2, .inr (.inr (.inr (.inr (fun k => (gr s r k).map a)))))) := by rw [wl_at hr.1, ec_ref j hr.2.1]
  exact va_aldq hC.1 hC.2.1 hC.2.2.2.2.2.1 hW.1 r (5 + j) he (elT _ hj) hr.2.2 hdg (by rw [hq]; exact kk)
theorem aw_aaldN {r j : Nat} {i : Int32} (hC : CX p s0 m args meth c G A cc own nL) (hW : AW G a A s s0.heap H locs) (hj : j < 3) (hr : r < s.1 ∧ (kd s r).1 = 105 + j ∧ ¬ (i < 0 ∨ (kd s r).2 ≤ i.toNatClampNeg)) (hq : gr s r i.toNatClampNeg = none) (hdg : decode cc pc = .ok (.aaload, 1))
    (kk : W p l e R s0 m args below meth c H locs cells slots Q (F0 m (pc + 1) ls (.null :: rest))) : W p l e R s0 m args below meth c H locs cells slots Q (F0 m pc ls (.int i :: .ref (a r) :: rest)) := by
  have he : (wl G.2.1 a s)[r]? = some (a r, .inl (G.2.1 (5 + j), (kd s r).2, .inr (.inr (.inr (.inr (fun k => (gr s r k).map a)))))) := by rw [wl_at hr.1, ec_ref j hr.2.1]
  exact va_aldq hC.1 hC.2.1 hC.2.2.2.2.2.1 hW.1 r (5 + j) he (elT _ hj) hr.2.2 hdg (by rw [hq]; exact kk)
theorem aw_aast {r j q : Nat} {i : Int32} {s' : ST} (es : s' = pR s r i.toNatClampNeg (some q)) (hC : CX p s0 m args meth c G A cc own nL) (hW : AW G a A s s0.heap H locs) (hj : j < 3) (hr : r < s.1 ∧ (kd s r).1 = 105 + j ∧ ¬ (i < 0 ∨ (kd s r).2 ≤ i.toNatClampNeg)) (hq : q < s.1 ∧ (kd s q).1 = elI j + 1) (hdg : decode cc pc = .ok (.aastore, 1))
    (kk : ∀ (H : Heap) (locs : List Loc), AW G a A s' s0.heap H locs → W p l e R s0 m args below meth c H locs cells slots Q (F0 m (pc + 1) ls rest)) : W p l e R s0 m args below meth c H locs cells slots Q (F0 m pc ls (.ref (a q) :: .int i :: .ref (a r) :: rest)) := by
  subst es
  obtain ⟨hP, hD, hS, hwf1, hwf2⟩ := hW
  have he : (wl G.2.1 a s)[r]? = some (a r, .inl (G.2.1 (5 + j), (kd s r).2, .inr (.inr (.inr (.inr (fun k => (gr s r k).map a)))))) := by rw [wl_at hr.1, ec_ref j hr.2.1]
  have hv := wl_obj (ca := G.2.1) (a := a) hq (vw_lt (elV hj))
  have hset : (wl G.2.1 a s).set r (a r, .inl (G.2.1 (5 + j), (kd s r).2, .inr (.inr (.inr (.inr (va_up (fun k => (gr s r k).map a) i.toNatClampNeg (some (a q)))))))) = wl G.2.1 a (pR s r i.toNatClampNeg (some q)) := by
    refine wl_set rfl ?_ (fun r' hr' => ⟨rfl, rfl, rfl, ?_⟩)
    · rw [ec_ref (q := kd (pR s r i.toNatClampNeg (some q)) r) j hr.2.1]
      congr 1
      simp only [Prod.mk.injEq, true_and]
      refine ⟨rfl, ?_⟩
      congr 4
      funext k
      simp only [va_up, gr, pR, true_and]
      by_cases hk : k = i.toNatClampNeg <;> simp [hk]
    · funext k
      simp [gr, pR, hr']
  refine va_astq hC.1 hC.2.1 hC.2.2.2.2.2.1 hP hD hS r (5 + j) q (elI j) (r := elC j) he (elT _ hj) hv (elV hj) hr.2.2 hdg (fun H1 locs1 g1 g2 g3 => ?_)
  rw [hset] at g1 g2
  refine kk H1 locs1 ⟨g1, g2, g3, fun r' k q' hq' => ?_, hwf2⟩
  by_cases z : r' = r ∧ k = i.toNatClampNeg
  · simp [gr, pR, z] at hq'
    have := hq.1
    show q' < s.1
    omega
  · simp [gr, pR, z] at hq'
    exact hwf1 r' k q' hq'

end AWR
