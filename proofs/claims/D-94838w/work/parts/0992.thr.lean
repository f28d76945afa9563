set_option maxRecDepth 100000
/-! METHODS THAT THROW A FAULT: pl its place, s1 the world behind it -/
def ox {β : Type} (o : Option β) (K : Option β) : Option β := match o with
  | some r => some r
  | none => K
theorem ox_some {β : Type} {o K : Option β} {x : β} (h : ox o K = some x) : o = some x ∨ K = some x := by
  cases o with
  | none => exact Or.inr h
  | some r => exact Or.inl h
def QF0 : Array Value → State → Outcome → State → Prop := fun _ _ _ _ => False
def XCF (G : GM) (a : Nat → Nat) (s1 : ST) (pl : Int32) (A1 : Nat → Prop) : String → Addr → State → State → Prop := fun E q st t => E = RX16 ∧ FCel q pl t t.heap ∧ PW G a s1 A1 t ∧ va_F A1 st t
def TM (l : Launch) (G : GM) (y : MethodName) (ws : List Cond) (d : Nat) (av : List Value) (a : Nat → Nat) (s : ST) (pl : Int32) (s1 : ST) : Prop :=
  ∀ sz : Nat, vz_Met l y ws (rmA d 1 7) (PcW G av a s sz) QF0 (XCF G a s1 pl (va_A (wl G.2.1 a s) sz)) 1 7 (va_A (wl G.2.1 a s) sz)
abbrev WT (p : Program) (l : Launch) (e : Env) (R : Room) (s0 : State) (m : MethodId) (args : Array Value) (below : List Frame) (meth : Method) (c : Code) (H : Heap) (locs : List Loc) (G : GM) (A : Nat → Prop) (XC : String → Addr → State → State → Prop) (pc : Nat) (ls : Array Slot) (st : List Value) : Prop :=
  W p l e R s0 m args below meth c H locs 0 0 (vz_MQ below QF0 XC args s0 1 7 A) (F0 m pc ls st)
section AWTH

variable {p : Program} {l : Launch} {e : Env} {R : Room} {s0 : State} {m : MethodId} {args : Array Value} {below : List Frame} {meth : Method} {c : Code} {H : Heap} {locs : List Loc} {cells slots : Nat} {Q : State → Prop}
variable {cc : ByteArray} {pc nL : Nat} {ls : Array Slot} {rest : List Value} {G : GM} {A : Nat → Prop} {a : Nat → Nat} {s : ST} {own : String}
theorem aw_xend {E : String} {q : Nat} {pl : Int32} {s1 : ST} (hC : CX p s0 m args meth c G A cc own nL) (hW : AW G a A s1 s0.heap H locs) (hE : E = RX16) (hF : FCel q pl s0 H) : ∀ t : State, t.heap = H → s0.vm.Alike t.vm → s0.WarmedH t.vm → XCF G a s1 pl A E q s0 t := by
  intro t ht hal hWm
  obtain ⟨hx, hb, -, hown, hts, hK, hSB, hA, hAb, -⟩ := id hC
  obtain ⟨hp, hD, hS, hwf⟩ := hW
  exact ⟨hE, by rw [ht]; exact hF.moved hal, ⟨by rw [ht]; exact hp, va_K.moved hal hK, hD, hSB.warm hWm (fun q h1 h2 => by rw [ht]; exact hS.2.1 q h1 (fun h3 => h2 (hAb q h3))), hwf, by rw [ht]; exact Nat.le_trans hC.b0 hS.1⟩, hS.F ht⟩
/-- not caught: it leaves this method -/
theorem aw_xout {q pc9 : Nat} {pl : Int32} {s1 : ST} {st : List Value} (hC : CX p s0 m args meth c G A cc own nL) (hno : ∀ x ∈ c.exceptionTable.toList, False) (hW : AW G a A s1 s0.heap H locs) (hF : FCel q pl s0 H) (hc : cells ≤ 1) (hs : slots ≤ 7) : vx_W p l e R s0 m args below meth c H locs cells slots (vz_MQ below QF0 (XCF G a s1 pl A) args s0 1 7 A) (F0 m pc9 ls st) q := by
  obtain ⟨i, cell, hi, hce, hv, hcl, hpl⟩ := id hF
  exact vz_out (E := RX16) (ce := cell) (mc := 1) (ms := 7) (fun x hx => (hno x hx).elim) hC.2.2.2.2.2.2.2.2.2 hce hv hcl (fun t ht hWm => aw_xend hC hW rfl hF t ht hWm.alike hWm) hW.2.2.1.2.2 hc hs
theorem aw_grow {H1 : Heap} (hW : AW G a A s s0.heap H locs) (h1 : H.size ≤ H1.size) (h2 : ∀ q : Nat, q < H.size → H1[q]? = H[q]?) : AW G a A s s0.heap H1 locs := by
  obtain ⟨hp, hD, hS, hwf⟩ := hW
  exact ⟨hp.kept (fun k y hy => h2 y.1 ((hp k y hy).lt)), hD, ⟨Nat.le_trans hS.1 h1, fun q g1 g2 => by rw [h2 q (Nat.lt_of_lt_of_le g1 hS.1)]; exact hS.2.1 q g1 g2, hS.2.2⟩, hwf⟩
def FQ (s0 : State) (q : Nat) (H : Heap) : Prop := ∃ (cX : ClassId) (kX : Class), s0.vm.findClass RX16 = some cX ∧ s0.vm.classes[cX]? = some kX ∧ kX.kind = .ordinary ∧ H[q]? = some (freshCell cX kX)
theorem aw_tnew {index : Nat} (hC : CX p s0 m args meth c G A cc own nL) (hW : AW G a A s s0.heap H locs) (hcl : Cond.classLink own index RX16 ∈ lw_all) (hcells : cells + 1 ≤ R.cells) (hslots : slots + 7 ≤ R.slots) (hdg : decode cc pc = .ok (.new index, 3))
    (kk : ∀ (q : Nat) (H1 : Heap), AW G a A s s0.heap H1 locs → FQ s0 q H1 → s0.heap.size ≤ q → (∀ (k : Nat) (y : Nat × va_E), (wl G.2.1 a s)[k]? = some y → y.1 ≠ q) → W p l e R s0 m args below meth c H1 locs (cells + 1) (slots + 7) Q (F0 m (pc + 3) ls (.ref q :: rest))) : W p l e R s0 m args below meth c H locs cells slots Q (F0 m pc ls rest) := by
  have hts := hC.2.2.2.2.1
  obtain ⟨cC, kC, hfc, hk, hkind, -⟩ := Cond.instantiable_spec (hts _ q559)
  refine W.newcK hC.1 hC.2.1 hC.2.2.2.1 (hts _ hcl) (hts _ q559) (hts _ q93) rfl hdg hcells hslots hfc rfl (fun H1 kC' h1 h2 h3 h4 => ?_)
  cases hk.symm.trans h1
  refine kk H.size H1 (aw_grow hW (by omega) h4) ⟨cC, kC, hfc, hk, hkind, h2⟩ hW.2.2.1.1 (fun k y hy => ?_)
  have := (hW.1 k y hy).lt
  omega
theorem aw_tinit {index q : Nat} {pl : Int32} {st0 : List Value} (hl : l.stackTraces = false) (hC : CX p s0 m args meth c G A cc own nL) (hW : AW G a A s s0.heap H locs) (hls : ls.size = nL) (hQ : FQ s0 q H) (hq : s0.heap.size ≤ q) (hqw : ∀ (k : Nat) (y : Nat × va_E), (wl G.2.1 a s)[k]? = some y → y.1 ≠ q) (hk : Cond.methodLink own index yX16_init ∈ lw_all) (hy : IY yX16_init cX16_init 2 1) (hst : st0 = .int pl :: .ref q :: rest) (hcat : (rest.map fun v => v.category).sum ≤ 8) (hR : 5 ≤ R.frames ∧ 181 ≤ R.locals) (hf : cells ≤ R.cells ∧ slots ≤ R.slots) (hdg : decode cc pc = .ok (.invokespecial index, 3))
    (kk : ∀ (H : Heap) (locs : List Loc), AW G a A s s0.heap H locs → FCel q pl s0 H → W p l e R s0 m args below meth c H locs cells slots Q (F0 m (pc + 3) ls rest)) : W p l e R s0 m args below meth c H locs cells slots Q (F0 m pc ls st0) := by
  obtain ⟨hy1, hy2, hy3, hy4, hy5⟩ := hy
  have hts := hC.2.2.2.2.1
  have hbl : FrameBlind (PcF G q pl) := by
    intro v U g mk h
    obtain ⟨h0, ⟨cX, kX, h1, h2, h3, h4⟩, h5⟩ := h
    exact ⟨h0, ⟨cX, kX, h1, h2, h3, h4⟩, SB.same (s := U) (U := U.calling g mk v) h5 rfl rfl⟩
  have hp : PreS s0 H (PcF G q pl) (.ref q :: [.int pl]) := by
    refine ⟨hbl, fun U hU hWm => ⟨rfl, ?_, ?_⟩⟩
    · obtain ⟨cX, kX, h1, h2, h3, h4⟩ := hQ
      obtain ⟨k', hk', he⟩ := hWm.alike.2.2 _ _ h2
      refine ⟨cX, k', by rw [hWm.alike.findClass]; exact h1, hk', by rw [he]; exact h3, ?_⟩
      rw [hU, h4, he]
    · exact (aw_pre (av := []) hC hW U hU hWm).2.2.2.2.2.1
  have hr := va_runI (cells := cells) (slots := slots) (H := H) (locs := locs) (R := R) (e := e) (below := below) (meth := meth) (g := F0 m pc ls st0) (rest := rest) ⟨hC.1, hC.2.1, hC.2.2.1, hC.2.2.2.1, hts⟩ (met_fault l hl G q pl) (cwI 1 hts (lw_meth hy4) rfl rfl rfl (hts _ hy3) (hts _ hk) (hts _ hy1) hy2 hy5 ⟨hR.1, hR.2⟩) hp rfl rfl hls hst (cat_le hcat) hdg ⟨hf.1, hf.2⟩
  intro T hT X
  obtain ⟨v, st₀, t, T', L, h0, X', hL, e1, e2, ⟨hq0, hq1, hq2, hq3⟩, st⟩ := hr T hT X
  cases hq0
  have hal : t.vm.Alike s0.vm := by rw [← e2]; exact X'.warmed.alike.symm
  obtain ⟨hP, hD, hS, hwf⟩ := hW
  have hAq : A q := hC.2.2.2.2.2.2.2.1 q hq
  have hW' : AW G a A s s0.heap T'.heap (locs ++ L) := by
    refine ⟨hP.kept (fun k y hy => ?_), hD, ⟨?_, fun r g1 g2 => ?_, fun z hz => ?_⟩, hwf⟩
    · rw [e1, hq2 y.1 (hqw k y hy), h0]
    · rw [e1, hq3, h0]; exact hS.1
    · rw [e1, hq2 r (fun z => g2 (by rw [z]; exact hAq)), h0]; exact hS.2.1 r g1 g2
    · rcases List.mem_append.mp hz with hz | hz
      · exact hS.2.2 z hz
      · rw [hL z hz]; exact hAq
  obtain ⟨t2, a1, b1⟩ := kk T'.heap (locs ++ L) hW' (by rw [e1]; exact hq1.moved hal) T' rfl X'
  exact ⟨t2, st t2 a1, b1⟩
/-- behind a call that throws -/
theorem aw_trunX {st0 : List Value} {pl : Int32} {s1 : ST} (hr : vz_Run p l e R s0 m args below meth c H locs cells slots 1 7 (F0 m pc ls st0) rest (fun _ _ _ => False) (XCF G a s1 pl (va_A (wl G.2.1 a s) H.size)) (va_A (wl G.2.1 a s) H.size)) (hC : CX p s0 m args meth c G A cc own nL) (hW : AW G a A s s0.heap H locs)
    (kx : ∀ (q : Nat) (H1 : Heap) (locs1 : List Loc), AW G a A s1 s0.heap H1 locs1 → FCel q pl s0 H1 → vx_W p l e R s0 m args below meth c H1 locs1 (cells + 1) (slots + 7) Q (F0 m pc ls rest) q) : W p l e R s0 m args below meth c H locs cells slots Q (F0 m pc ls st0) := by
  intro T hT X
  rcases hr T hT X with ⟨v, st₀, t, T', L, h0, X', hL, e1, e2, hq, st⟩ | ⟨q, st₀, t, T', L, E, ce, h0, X', hL, e1, e2, ⟨hE, hF, hPW, hVF⟩, hce, hcv, hcl, st⟩
  · exact hq.elim
  · have hal : t.vm.Alike s0.vm := by rw [← e2]; exact X'.warmed.alike.symm
    obtain ⟨t2, a1, b1⟩ := kx q T'.heap (locs ++ L) (aw_back hW (aw_free hC hW) h0 hL e1 hPW hVF) (by rw [e1]; exact hF.moved hal) T' rfl X'
    exact ⟨t2, st.trans a1, b1⟩
theorem aw_trV {y : MethodName} {cy : ByteArray} {maxL n index d r ci : Nat} {ret : Option FieldType} {As st0 : List Value} {pl : Int32} {s1 : ST} {q : vw_C} (hM : TM l G y (ws_ y cy maxL ret) d (.ref (a r) :: As) a s pl s1) (hC : CX p s0 m args meth c G A cc own nL) (hW : AW G a A s s0.heap H locs) (hls : ls.size = nL) (hy : VY y cy maxL ret n) (hk : Cond.methodLink own index y ∈ lw_all) (hr : r < s.1 ∧ (kd s r).1 = ci + 1) (hc : vwCl[ci]? = some q) (hq : q.1 = y.cls) (hn : As.length = n) (hst : st0 = As.reverse ++ .ref (a r) :: rest) (hcat : (rest.map fun v => v.category).sum ≤ 8) (hR : d + 1 ≤ R.frames ∧ 8 + (maxL + 11) + 40 * d ≤ R.locals) (hf : cells + 1 ≤ R.cells ∧ slots + 7 ≤ R.slots) (hdg : decode cc pc = .ok (.invokevirtual index, 3)) : vz_Run p l e R s0 m args below meth c H locs cells slots 1 7 (F0 m pc ls st0) rest (fun _ _ _ => False) (XCF G a s1 pl (va_A (wl G.2.1 a s) H.size)) (va_A (wl G.2.1 a s) H.size) := by
  obtain ⟨hy1, hy2, hy3, hy4, hy5⟩ := hy
  have hts := hC.2.2.2.2.1
  have hp : PreV s0 H y.cls (a r) (PcW G (.ref (a r) :: As) a s H.size) As := ⟨PcW.blind, by rw [← hq]; exact va_recv hC.2.2.2.2.2.1 hW.1 hc (wl_obj hr (vw_lt hc)), aw_pre hC hW⟩
  exact vz_runV (C := y.cls) ⟨hC.1, hC.2.1, hC.2.2.1, hC.2.2.2.1, hts⟩ (hM H.size) (cwV n hts (lw_V hk hy1 hy2 hy3 hy4) rfl rfl rfl ⟨rfl, hy5.1, hy5.2.1, hy5.2.2⟩ hR) hp rfl hn hls hst (cat_le hcat) hdg hf
theorem aw_trS {y : MethodName} {cy : ByteArray} {maxL n index d : Nat} {ret : Option FieldType} {As st0 : List Value} {pl : Int32} {s1 : ST} (hM : TM l G y (ws_ y cy maxL ret) d As a s pl s1) (hC : CX p s0 m args meth c G A cc own nL) (hW : AW G a A s s0.heap H locs) (hls : ls.size = nL) (hy : SY y cy maxL ret n) (hk : Cond.methodLink own index y ∈ lw_all) (hn : As.length = n) (hst : st0 = As.reverse ++ rest) (hcat : (rest.map fun v => v.category).sum ≤ 8) (hR : d + 1 ≤ R.frames ∧ 8 + (maxL + 11) + 40 * d ≤ R.locals) (hf : cells + 1 ≤ R.cells ∧ slots + 7 ≤ R.slots) (hdg : decode cc pc = .ok (.invokestatic index, 3)) : vz_Run p l e R s0 m args below meth c H locs cells slots 1 7 (F0 m pc ls st0) rest (fun _ _ _ => False) (XCF G a s1 pl (va_A (wl G.2.1 a s) H.size)) (va_A (wl G.2.1 a s) H.size) := by
  obtain ⟨hy1, hy3, hy4, hy5⟩ := hy
  have hts := hC.2.2.2.2.1
  have hp : PreS s0 H (PcW G As a s H.size) As := ⟨PcW.blind, aw_pre hC hW⟩
  exact vz_runS ⟨hC.1, hC.2.1, hC.2.2.1, hC.2.2.2.1, hts⟩ (hM H.size) (va_cwS n hts (lw_S hk hy1 hy3 hy4) rfl rfl rfl hy5 hR) hp rfl hn hls hst (cat_le hcat) hdg hf
theorem aw_trU {x y : MethodName} {cy : ByteArray} {maxL n index d r ci : Nat} {ret : Option FieldType} {As st0 : List Value} {pl : Int32} {s1 : ST} {q : vw_C} (hM : TM l G y (ws_ y cy maxL ret) d (.ref (a r) :: As) a s pl s1) (hC : CX p s0 m args meth c G A cc own nL) (hW : AW G a A s s0.heap H locs) (hls : ls.size = nL) (hy : UY q.1 x y cy maxL ret n) (hk : Cond.methodLink own index x ∈ lw_all) (hr : r < s.1 ∧ (kd s r).1 = ci + 1) (hc : vwCl[ci]? = some q) (hn : As.length = n) (hst : st0 = As.reverse ++ .ref (a r) :: rest) (hcat : (rest.map fun v => v.category).sum ≤ 8) (hR : d + 1 ≤ R.frames ∧ 8 + (maxL + 11) + 40 * d ≤ R.locals) (hf : cells + 1 ≤ R.cells ∧ slots + 7 ≤ R.slots) (hdg : decode cc pc = .ok (.invokevirtual index, 3)) : vz_Run p l e R s0 m args below meth c H locs cells slots 1 7 (F0 m pc ls st0) rest (fun _ _ _ => False) (XCF G a s1 pl (va_A (wl G.2.1 a s) H.size)) (va_A (wl G.2.1 a s) H.size) := by
  obtain ⟨hy0, hy1, hy2, hy3, hy4, hy5, hy6⟩ := hy
  have hts := hC.2.2.2.2.1
  have hp : PreV s0 H q.1 (a r) (PcW G (.ref (a r) :: As) a s H.size) As := ⟨PcW.blind, va_recv hC.2.2.2.2.2.1 hW.1 hc (wl_obj hr (vw_lt hc)), aw_pre hC hW⟩
  have hGd : GoodIn lw_all (va_wsU own index q.1 y.cls x y (ws_ y cy maxL ret)) := by
    refine lw_app ?_ (lw_meth hy4)
    intro w hw
    simp only [List.mem_cons, List.not_mem_nil, or_false] at hw
    rcases hw with rfl | rfl | rfl | rfl | rfl
    · exact hk
    · exact hy0
    · exact hy1
    · exact hy2
    · exact hy3
  exact vz_runU ⟨hC.1, hC.2.1, hC.2.2.1, hC.2.2.2.1, hts⟩ (hM H.size) (va_cwU (owner := y.cls) n hts hGd rfl rfl rfl hy5 hy6 hR) hp rfl hn hls hst (cat_le hcat) hdg hf
/-- .. where nothing is caught -/
theorem aw_tprop {st0 : List Value} {pl : Int32} {s1 : ST} (hr : vz_Run p l e R s0 m args below meth c H locs 0 0 1 7 (F0 m pc ls st0) rest (fun _ _ _ => False) (XCF G a s1 pl (va_A (wl G.2.1 a s) H.size)) (va_A (wl G.2.1 a s) H.size)) (hC : CX p s0 m args meth c G A cc own nL) (hno : ∀ x ∈ c.exceptionTable.toList, False) (hW : AW G a A s s0.heap H locs) : WT p l e R s0 m args below meth c H locs G A (XCF G a s1 pl A) pc ls st0 :=
  aw_trunX hr hC hW (fun q H1 locs1 h1 h2 => aw_xout hC hno h1 h2 (Nat.le_refl _) (Nat.le_refl _))
theorem aw_tthrow {q : Nat} {pl : Int32} {s1 : ST} (hC : CX p s0 m args meth c G A cc own nL) (hno : ∀ x ∈ c.exceptionTable.toList, False) (hW : AW G a A s1 s0.heap H locs) (hF : FCel q pl s0 H) (hc : cells ≤ 1) (hs : slots ≤ 7) (hdg : decode cc pc = .ok (.athrow, 1)) : W p l e R s0 m args below meth c H locs cells slots (vz_MQ below QF0 (XCF G a s1 pl A) args s0 1 7 A) (F0 m pc ls (.ref q :: rest)) :=
  vx_athrow hC.1 hC.2.1 hdg (aw_xout hC hno hW hF hc hs)
theorem tm_of {y : MethodName} {d : Nat} {av : List Value} {lv : List (Nat × Value)} {pl : Int32} {s1 : ST} {maxL : Nat} {ret : Option FieldType} (hy : plainName y.cls = true) (hlen : (lg_sl av).length ≤ maxL) (hlv : lv_args 0 av = lv)
    (body : ∀ (p : Program) (e : Env) (s0 : State) (m : MethodId) (args : Array Value) (below : List Frame) (meth : Method) (c : Code) (ls : Array Slot) (A : Nat → Prop), CX p s0 m args meth c G A cc y.cls maxL → (∀ x ∈ c.exceptionTable.toList, False) → AW G a A s s0.heap s0.heap [] → lv_has ls maxL lv →
      WT p l e (rmA d 1 7) s0 m args below meth c s0.heap [] G A (XCF G a s1 pl A) 0 ls []) : TM l G y (ws_ y cc maxL ret) d av a s pl s1 := by
  intro sz
  refine vz_ofW (cc := cc) (maxL := maxL) (ret := ret) hy rfl ?_
  intro p e s0 m args below meth c s₁ B hml hno hv
  obtain ⟨hav, hsz, q1, q2, q3, q4, q5, q6⟩ := hv
  have hts := atoms_spec (ws := ws_ y cc maxL ret) B.pre
  have hts : ∀ w ∈ lw_all, w.before args s0 = true := fun w h => hts w (List.mem_cons_of_mem _ h)
  have hl := lv_entry av (n := maxL) hlen
  subst hsz
  have hA : ∀ q, s0.heap.size ≤ q → va_A (wl G.2.1 a s) s0.heap.size q := fun q h => Or.inr h
  have hAb : ∀ q, va_A (wl G.2.1 a s) s0.heap.size q → G.2.2.1 ≤ q := by
    intro q hq
    rcases hq with ⟨k, ev, h⟩ | h
    · unfold wl at h
      rw [List.getElem?_map] at h
      obtain ⟨r, hr, hr2⟩ := Option.map_eq_some_iff.mp h
      have hr1 : r < s.1 := List.mem_range.mp (List.mem_of_getElem? hr)
      have hq2 : a r = q := congrArg Prod.fst hr2
      rw [← hq2]
      exact q5.2 r hr1
    · exact Nat.le_trans q6 h
  rw [hlv] at hl
  have key := body p e s0 m args below meth c _ _ ⟨B.exec, B.bytes, hml, findClass_of_methodNamed B.named, hts, q2, q4, hA, hAb, B.notSynchronized⟩ hno ⟨q1, q3.self, va_S.rf, q5⟩ hl
  have he : entryFrame m args maxL = F0 m 0 ((lg_sl av ++ List.replicate (maxL - (lg_sl av).length) Slot.unset).toArray) [] := by rw [hav, lg_entry_eq]
  exact W.eq he key
end AWTH

