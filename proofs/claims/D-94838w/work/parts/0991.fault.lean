set_option maxRecDepth 100000
def fxAtoms (own : String) (ic : Nat) (cls obj : String) (names : List String) : List Cond := Bundle.throwableAtoms ++ Bundle.chain0Atoms cls names ++ [Cond.methodLink own ic (Bundle.init0 cls), .selects obj Bundle.tFill0 Bundle.tFill0, .selects obj Bundle.tFill Bundle.tFill,
   .lays obj Bundle.tN "cause" "Ljava/lang/Throwable;", .lays obj Bundle.tN "stackTrace" Bundle.steD, .lays obj Bundle.tN "suppressedExceptions" Bundle.listD, .lays obj Bundle.tN "detailMessage" "Ljava/lang/String;",
   .isRef (.static Bundle.tN "UNASSIGNED_STACK" Bundle.steD), .isRef (.static Bundle.tN "SUPPRESSED_SENTINEL" Bundle.listD),
   .fieldLink Bundle.tN 198 Bundle.tN "backtrace" "Ljava/lang/Object;", .lays Bundle.tN Bundle.tN "backtrace" "Ljava/lang/Object;", .lays obj Bundle.tN "backtrace" "Ljava/lang/Object;"]
section FXK
variable {p : Program} {l : Launch} {e : Env} {R : Room} {s : State} {m₀ : MethodId} {args : Array Value} {below : List Frame} {meth : Method} {c : Code} {W : State} {locs : List Loc} {cells slots : Nat}
set_option maxHeartbeats 1000000 in
theorem fx_super (X : Stand p l e R s m₀ args below meth c W locs cells slots) (hexec : p.tables.exec = Jvm.exec) (htr : e.platform.stackTraces = false) {own cls obj : String} {names : List String} {ic : Nat}
    (hown : s.vm.findClass own = some m₀.cls) (hcls : Bundle.fit cls = true) (hnames : ∀ n ∈ names, Bundle.fit n = true)
    (h : ∀ a ∈ fxAtoms own ic cls obj names, a.before args s = true)
    (hlocs : ∀ x ∈ locs, ∀ cell, s.heap[x.base]? = some cell → cell.vm.isStatics = false)
    {a : Addr} {cX : ClassId} {kX : Class} (hfoundX : s.vm.findClass obj = some cX) (hkX : s.vm.classes[cX]? = some kX) (hord : kX.kind = .ordinary) (hcell : W.heap[a]? = some (freshCell cX kX)) (hcell0 : s.heap[a]? = some (freshCell cX kX))
    {g : JFrame} (hg : g.method = m₀) (hsize : g.locals.size = c.maxLocals) {rest : List Value} (hstack : g.stack = .ref a :: rest)
    (hd6 : decode c.code g.pc = .ok (.invokespecial ic, 3))
    (hRframes : names.length + 3 < R.frames) (hRlocals : 2 * g.monitorRoom + (rest.map fun v => v.category).sum + (13 * (names.length + 1) + 41) ≤ R.locals) :
    ∃ (V : State) (ce : Cell) (L : List Loc), Stand p l e R s m₀ args below meth c (V.setCell a ce) (locs ++ L) cells slots ∧ (∀ y ∈ L, y.base = a) ∧ V.heap = W.heap ∧ ce.cls = cX ∧ ce.vm = .none ∧ ce.slots.size = (freshCell cX kX).slots.size ∧
      ∀ target, Steps p.tables e below ((V.setCell a ce).setTop { g with stack := rest, pc := g.pc + 3 }) target → Steps p.tables e below (W.setTop g) target := by
  have howns : e.platform.frameOwnsMonitors = true := by rw [X.admits.platform]
  have hfin : e.platform.finalization = false := by rw [X.admits.platform]
  have hpl : e.platform.magicAccessors = ({} : Platform).magicAccessors := by rw [X.admits.platform]
  have a' : ∀ x, x ∈ fxAtoms own ic cls obj names → x.holds args s none s [] = true := fun x hx => h x hx
  obtain ⟨T, Z, L, LZ, Y⟩ := ThrowableC.of_atoms (args := args) howns hfin hpl (fun x hx => h x (by unfold fxAtoms; simp only [List.mem_append]; first | exact Or.inl (Or.inl hx) | exact Or.inl (Or.inr hx)))
  obtain ⟨P1, Ps, hlen, L1, hL, hP1m, hlink1, hlink⟩ := Bundle.chain0 (args := args) hpl Y.init0 names cls hcls hnames (fun x hx => h x (by unfold fxAtoms; simp only [List.mem_append]; first | exact Or.inl (Or.inl hx) | exact Or.inl (Or.inr hx)))
  have hfound : s.vm.findClass cls = some P1.m.cls := findClass_of_methodNamed hP1m
  have hsel0 : selectMethod e.platform s.vm cX T.fill0 = .method T.fill0 := by
    obtain ⟨c2, r2, m2, q1, q2, q3, q4, -⟩ := Cond.selects_spec (a' (.selects obj Bundle.tFill0 Bundle.tFill0) (by simp [fxAtoms]))
    cases Option.some.inj (q1.symm.trans hfoundX)
    cases Option.some.inj (q2.symm.trans (State.methodFound?_of_named Y.fill0 (by decide)))
    cases Option.some.inj (q3.symm.trans Y.fill0)
    rw [Launch.admits_selectMethod X.admits]; exact q4
  have hselF : selectMethod e.platform s.vm cX T.fill = .method T.fill := by
    obtain ⟨c2, r2, m2, q1, q2, q3, q4, -⟩ := Cond.selects_spec (a' (.selects obj Bundle.tFill Bundle.tFill) (by simp [fxAtoms]))
    cases Option.some.inj (q1.symm.trans hfoundX)
    cases Option.some.inj (q2.symm.trans (State.methodFound?_of_named Y.fill (by decide)))
    cases Option.some.inj (q3.symm.trans Y.fill)
    rw [Launch.admits_selectMethod X.admits]; exact q4
  obtain ⟨cellS0, hcS0, hiss⟩ := Y.statics
  obtain ⟨u0, hu0⟩ := Cond.staticRefV Y.unassigned L.unassignedStatic L.statics hcS0 hiss (a' (.isRef (.static Bundle.tN "UNASSIGNED_STACK" Bundle.steD)) (by simp [fxAtoms]))
  obtain ⟨sen, hsen⟩ := Cond.staticRefV Y.sentinel L.sentinelStatic L.statics hcS0 hiss (a' (.isRef (.static Bundle.tN "SUPPRESSED_SENTINEL" Bundle.listD)) (by simp [fxAtoms]))
  obtain ⟨ci198, i198, fB, hk198, hg198, ha198, hsB, -, hnB, htB, hffB⟩ := Cond.ownField (t := .object "java/lang/Object") Y.found L.cls (by decide +kernel) (a' (.fieldLink Bundle.tN 198 Bundle.tN "backtrace" "Ljava/lang/Object;") (by simp [fxAtoms])) (a' (.lays Bundle.tN Bundle.tN "backtrace" "Ljava/lang/Object;") (by simp [fxAtoms])) e.platform hpl
  obtain ⟨cellS, hcS', heS, -, hkeep⟩ := X.same.2.2.2.2.2 T.aS cellS0 hcS0
  have hcellS : W.heap[T.aS]? = some cellS := hcS'
  have hout' : ∀ i, (⟨T.aS, i⟩ : Loc) ∉ locs := fun i hmem => by
    have := hlocs _ hmem cellS0 hcS0
    rw [hiss] at this; cases this
  have hknownS : cellS.vm ≠ .unknown := by
    rw [heS]; intro hu
    rw [show cellS0.vm = .unknown from hu] at hiss
    cases hiss
  have hneS : T.aS ≠ a := by
    intro hz
    rw [hz] at hcS0
    have hz2 := Option.some.inj (hcS0.symm.trans hcell0)
    rw [hz2] at hiss
    cases hiss
  obtain ⟨iM, hffM⟩ := Y.msg
  obtain ⟨tyC, dC, hdC, hdnC⟩ := Cond.laysAt hfoundX hkX Y.cause (a' (.lays obj Bundle.tN "cause" "Ljava/lang/Throwable;") (by simp [fxAtoms]))
  obtain ⟨tyS, dS, hdS, hdnS⟩ := Cond.laysAt hfoundX hkX Y.stack (a' (.lays obj Bundle.tN "stackTrace" Bundle.steD) (by simp [fxAtoms]))
  obtain ⟨tyP, dP, hdP, hdnP⟩ := Cond.laysAt hfoundX hkX Y.supp (a' (.lays obj Bundle.tN "suppressedExceptions" Bundle.listD) (by simp [fxAtoms]))
  obtain ⟨tyM, dM, hdM, hdnM⟩ := Cond.laysAt hfoundX hkX hffM (a' (.lays obj Bundle.tN "detailMessage" "Ljava/lang/String;") (by simp [fxAtoms]))
  obtain ⟨tyB, dB, hdB, hdnB⟩ := Cond.laysAt hfoundX hkX hffB (a' (.lays obj Bundle.tN "backtrace" "Ljava/lang/Object;") (by simp [fxAtoms]))
  have bC := Cond.laysApart hdB hdC hdnB hdnC (by rw [hnB, Y.causeName]; decide)
  have bS := Cond.laysApart hdB hdS hdnB hdnS (by rw [hnB, Y.stackName]; decide)
  have bP := Cond.laysApart hdB hdP hdnB hdnP (by rw [hnB, Y.suppName]; decide)
  have hskip : SkipFacts T e.platform s (fun u => u) u0 ((preparedCellV T.toThrowableT (freshCell cX kX) a u0 sen).withEntry W.cur) :=
    ⟨{ ci198 := ci198, i198 := i198, fBack := fB }, ⟨hk198, hg198, ha198, hsB⟩, by
      have := fresh_default (c := cX) tyB
      rw [htB] at this
      simpa [preparedCellV, Cell.setSlot, Cell.withEntry, Array.getElem?_setIfInBounds, bC, bS, bP, bC.symm, bS.symm, bP.symm, defaultValue] using this, fun _ _ => rfl⟩
  obtain ⟨tm, methC, cdC, kC, vm₁, hnC, -, -, -, -, -, -, -, hW₁, st1⟩ := Steps.initCold (tb := p.tables) (e := e) (below := below) (s := s) (U := W) X.here hexec X.warmed hpl hown (t := Bundle.init0 cls) rfl rfl (Bundle.fit_spec hcls).2
    (a' (.methodLink own ic (Bundle.init0 cls)) (by simp [fxAtoms])) (h (.instanceMethod (Bundle.init0 cls)) (by cases names <;> simp [fxAtoms, Bundle.chain0Atoms, Bundle.passAtoms])) (bytes := Bundle.five) (maxL := 1) (h (.code (Bundle.init0 cls) Bundle.five 1 none) (by cases names <;> simp [fxAtoms, Bundle.chain0Atoms, Bundle.passAtoms]))
    (f := g) hg (a := a) (rest := rest) hstack hd6
  cases Option.some.inj (hnC.symm.trans hP1m)
  have X₁ := X.noted hW₁
  obtain ⟨vm₂, X₂, st2⟩ := X₁.ctorPlainOffV hexec (g := { g with stack := rest }) hg hsize T L Z LZ (P1 :: Ps)
    (fun P hP => by rcases List.mem_cons.mp hP with rfl | hP; exact L1; exact hL P hP) ⟨hlink1, hlink⟩ (u0 := u0) (sen := sen) (self := a) (cell := freshCell cX kX) (cellS := cellS)
    hcell (fun _ => by simp) (by simp [fxAtoms]) rfl rfl hsel0 hselF hcellS hneS hknownS (by rw [hkeep _ (hout' _)]; exact hu0) (by rw [hkeep _ (hout' _)]; exact hsen)
    (Takes.of_laid hkX hord tyC (by rw [Y.causeType]; rfl)) (Takes.of_laid hkX hord tyS (by rw [Y.stackType]; exact fits_refV_array _ u0)) (Takes.of_laid hkX hord tyP (by rw [Y.suppType]; exact fits_refV_object _ sen)) Y.objLocals hskip htr [] hd6
    (by simp only [List.length_cons, hlen]; omega) (by simp only [List.length_cons, hlen]; exact hRlocals)
  refine ⟨(W.setVm vm₁).setVm vm₂, _, _, X₂, fun y hy => ?_, rfl, rfl, rfl, ?_, fun target hwalk => st1 _ (fun acts => ?_)⟩
  · simp only [List.mem_cons, List.not_mem_nil, or_false] at hy
    rcases hy with rfl | rfl | rfl | rfl <;> rfl
  · simp [preparedCellV, Cell.setSlot]
  · rw [doInvoke_state]
    exact st2 _ hwalk
end FXK
theorem fx_good : ∀ w ∈ ((fxAtoms RX16 1 "java/lang/Exception" RX16 []).filter vx_no).filter goodWord, w ∈ lw_all := lw_in _ [91, 578, 587, 591, 594, 596, 579, 580, 113, 114, 581, 586, 592, 608, 568, 609, 570, 610, 572, 582, 584, 574, 601, 602, 603, 579, 600, 565, 566, 567, 569, 571, 573, 577, 576, 575] (by decide +kernel) (by decide +kernel)
theorem fx_bad : ∀ w ∈ ((fxAtoms RX16 1 "java/lang/Exception" RX16 []).filter vx_no).filter (fun w => !goodWord w), w ∈ [Cond.declares ⟨"java/lang/Throwable", "<init>", "()V"⟩] := by decide +kernel
/-- a Fault that holds its place -/
def FCel (q : Nat) (pl : Int32) (U : State) (H : Heap) : Prop := ∃ (i : Nat) (cell : Cell), SlotIs U RX16 "place" "I" i ∧ H[q]? = some cell ∧ cell.vm = .none ∧ U.vm.findClass RX16 = some cell.cls ∧ cell.slots[i]? = some (.int pl)
theorem FCel.moved {q : Nat} {pl : Int32} {u U : State} {H : Heap} (hvm : u.vm.Alike U.vm) (h : FCel q pl u H) : FCel q pl U H := by
  obtain ⟨i, cell, h1, h2, h3, h4, h5⟩ := h
  exact ⟨i, cell, slotIs_moved hvm h1, h2, h3, by rw [hvm.findClass]; exact h4, h5⟩
def FB0 (q : Nat) (U : State) : Prop := ∃ (cX : ClassId) (kX : Class), U.vm.findClass RX16 = some cX ∧ U.vm.classes[cX]? = some kX ∧ kX.kind = .ordinary ∧ U.heap[q]? = some (freshCell cX kX)
def PcF (G : GM) (q : Nat) (pl : Int32) : Array Value → State → Prop := va_Pc [.ref q, .int pl] (fun U => FB0 q U ∧ SB G U)
def QcF (q : Nat) (pl : Int32) : Array Value → State → Outcome → State → Prop := fun _ st o t => o = .returned none ∧ FCel q pl t t.heap ∧ (∀ r, r ≠ q → t.heap[r]? = st.heap[r]?) ∧ t.heap.size = st.heap.size
theorem met_fault (l : Launch) (hlt : l.stackTraces = false) (G : GM) (q : Nat) (pl : Int32) : Met l yX16_init (ws_ yX16_init cX16_init 2 none) (rmA 4 0 0) (PcF G q pl) (QcF q pl) 0 0 (fun r => r = q) := by
  refine Met.ofW (cc := cX16_init) (maxL := 2) (ret := none) (by decide) rfl ?_
  intro p e s m args below meth c s₁ B hml hv
  obtain ⟨hav, ⟨cX, kX, hf1, hf2, hf3, hf4⟩, hSB⟩ := hv
  have hx := B.exec
  have hb := B.bytes
  have hr := B.returns
  have hts := atoms_spec (ws := ws_ yX16_init cX16_init 2 none) B.pre
  have hts : ∀ w ∈ lw_all, w.before args s = true := fun w h => hts w (List.mem_cons_of_mem _ h)
  have hown : s.vm.findClass RX16 = some m.cls := findClass_of_methodNamed B.named
  have hnm := (name_of_methodNamed B.named B.method).1
  have hl := lv_entry ([.ref q, .int pl]) (n := 2) (Nat.le_of_ble_eq_true rfl)
  have he : entryFrame m args 2 = F0 m 0 ((lg_sl ([.ref q, .int pl]) ++ List.replicate (2 - (lg_sl ([.ref q, .int pl])).length) Slot.unset).toArray) [] := by rw [hav, lg_entry_eq]
  refine W.eq he ?_
  generalize (lg_sl ([.ref q, .int pl]) ++ List.replicate (2 - (lg_sl ([.ref q, .int pl])).length) Slot.unset).toArray = ls at hl ⊢
  have hl : lv_has ls 2 [(0, .ref q), (1, .int pl)] := hl
  refine lv_aload_n hx hb dX16_init_0 rfl (lv_at hl 0 rfl) ?_
  have hat : ∀ w ∈ fxAtoms RX16 1 "java/lang/Exception" RX16 [], w.before args s = true := by
    obtain ⟨hS1, -, -, -, -, hU, hN, -⟩ := hSB
    refine vx_own ?_ (vx_isRefq hU.1) (vx_isRefq hN.1) hU.2.word hN.2.word
    exact vx_hat (fun w hw => hts w (fx_good w hw)) fx_bad (fun w hw => by
      rw [List.mem_singleton.mp hw]
      exact va_Nw.use rfl (hS1 _ q563 rfl))
  have hfin : (Cond.laysFinal RX16 RX16 "place" "I").before args s = true := hts _ (in_X16 _ (u_in_lay (C := RX16) (T := TX16) (N := 7) (k := 6) (by decide)))
  obtain ⟨c2, k2, cf, kf, fi, fd, r1, r2, hi, hst, -, hcast, hown2, hty, -⟩ := Cond.laysFinal_spec hfin
  cases hf1.symm.trans r1
  cases hf2.symm.trans r2
  have hqs : q < s.heap.size := (Array.getElem?_eq_some_iff.mp hf4).1
  intro T hT X
  have htr : e.platform.stackTraces = false := (show e.platform.stackTraces = l.stackTraces by rw [X.admits.platform]).trans hlt
  obtain ⟨V, ce, L, X', hL, hV, hce1, hce2, hce3, st⟩ := fx_super X hx htr hown (by decide +kernel) (fun n hn => by cases hn) hat (fun z hz => by cases hz) hf1 hf2 hf3 (by rw [hT]; exact hf4) hf4 (g := F0 m 1 ls [.ref q]) rfl (by rw [hml]; exact hl.1) rfl (by rw [hb]; exact dX16_init_1) (Nat.le_of_ble_eq_true rfl) (Nat.le_of_ble_eq_true rfl)
  have key : W p l e (rmA 4 0 0) s m args below meth c (s.heap.setIfInBounds q ce) ([] ++ L) 0 0 (MQ below (QcF q pl) args s 0 0 (fun r => r = q)) (F0 m 4 ls []) := by
    refine lv_aload_n hx hb dX16_init_4 rfl (lv_at hl 0 rfl) ?_
    refine lv_iload_n hx hb dX16_init_5 rfl (lv_at hl 1 rfl) ?_
    have hsl : fd.slot < ce.slots.size := by
      rw [hce3]
      have := (Array.getElem?_eq_some_iff.mp hty).1
      simpa [freshCell] using this
    refine W.putFinK hx hb hown (hts _ q604) hi hst (Option.some.inj (hown.symm.trans hown2)) hnm (v := .int pl) (by rw [hce1]; exact u_fits (ty := .int) hf1 hf2 hf3 (Or.inr hfin) hi (by decide +kernel) rfl rfl) (a := q) (cell := ce) (by simp [Array.getElem?_setIfInBounds, hqs]) hce2 hsl rfl rfl dX16_init_6 (fun H' e1 e2 e3 => ?_)
    have hq : ∀ t : State, t.heap = H' → s.WarmedH t.vm → QcF q pl args s (.returned none) t := by
      intro t ht hW
      refine ⟨rfl, FCel.moved hW.alike ⟨fd.slot, ce.setSlot fd.slot (.int pl), ⟨cf, kf, fi, fd, hi, rfl⟩, by rw [ht]; exact e1, hce2, by rw [hf1]; exact congrArg some hce1.symm, ?_⟩, fun r hr => ?_, ?_⟩
      · simp [Cell.setSlot, Array.getElem?_setIfInBounds, hsl]
      · rw [ht, e3 r hr]
        simp [Array.getElem?_setIfInBounds, Ne.symm hr]
      · rw [ht, e2]
        simp
    refine W.vret hx hb hr hq (fun z hz => ?_) dX16_init_9
    rcases List.mem_append.mp hz with hz | hz
    · rcases List.mem_append.mp hz with hz | hz
      · cases hz
      · exact hL z hz
    · rw [List.mem_singleton.mp hz]
  obtain ⟨t, a1, b1⟩ := key (V.setCell q ce) (by show V.heap.setIfInBounds q ce = _; rw [hV, hT]) X'
  exact ⟨t, st t a1, b1⟩
