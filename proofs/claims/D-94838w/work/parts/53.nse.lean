set_option maxRecDepth 100000
section Ends
variable {p : Program} {l : Launch} {e : Env} {R : Room} {s : State} {m : MethodId} {args : Array Value} {below : List Frame} {meth : Method} {c : Code} {H : Heap} {locs : List Loc} {cells slots : Nat} {Q : State → Prop}
variable {mc ms : Nat} {free : Addr → Prop} {A0 A1 : Nat → Prop} {H0 : Heap} {a : Array Value} {ls : Array Slot} {st0 rest : List Value}
variable {Qc : Array Value → State → Outcome → State → Prop} {XC : String → Addr → State → State → Prop}
theorem vz_throw0 {cc : ByteArray} {pc : Nat} (hexec : p.tables.exec = Jvm.exec) (hb : c.code = cc) (hl : l.stackTraces = false) {own cls : String} {names : List String} {ik ic mc ms : Nat} {A : Nat → Prop}
    (hown : s.vm.findClass own = some m.cls) (hcls : Bundle.fit cls = true) (hnames : ∀ n ∈ names, Bundle.fit n = true)
    (hk : (Cond.classLink own ik cls).before args s = true) (hini : (Cond.initialized cls).before args s = true) (hat : ∀ w ∈ vx_at0 own ic cls names, w.before args s = true)
    (hgood : ∀ w ∈ Cond.classLink own ik cls :: Cond.initialized cls :: vx_at0 own ic cls names, vx_ot w = true)
    (hU : vx_Zq Bundle.tN "UNASSIGNED_STACK" Bundle.steD A s s.heap) (hN : vx_Zq Bundle.tN "SUPPRESSED_SENTINEL" Bundle.listD A s s.heap) (hS : va_S A s.heap H locs) (hsize : ls.size = c.maxLocals)
    (d0 : decode cc pc = .ok (.new ik, 3)) (d3 : decode cc (pc + 3) = .ok (.dup, 1)) (d4 : decode cc (pc + 4) = .ok (.invokespecial ic, 3)) (d7 : decode cc (pc + 7) = .ok (.athrow, 1))
    (hout : ∀ x ∈ c.exceptionTable.toList, covers x (pc + 7) = false)
    (hRframes : names.length + 3 < R.frames) (hRlocals : (rest.map fun v => v.category).sum + (13 * (names.length + 1) + 42) ≤ R.locals) (hRcells : cells + 1 ≤ R.cells) (hRslots : slots + 6 ≤ R.slots) (hlocks : meth.locks = false)
    (hx : ∀ (z : Addr) (t : State), s.WarmedH t.vm → H.size ≤ t.heap.size → (∀ q : Nat, q < H.size → t.heap[q]? = H[q]?) → XC cls z s t)
    (hf : ∀ z ∈ locs, free z.base) (hc : cells + 1 ≤ mc) (hs : slots + 6 ≤ ms) :
    W p l e R s m args below meth c H locs cells slots (vz_MQ below Qc XC args s mc ms free) (F0 m pc ls rest) := by
  intro T hT X
  have htr : e.platform.stackTraces = false := (show e.platform.stackTraces = l.stackTraces by rw [X.admits.platform]).trans hl
  have Y := vx_rebase X (R' := { frames := R.frames, locals := R.locals, cells := 1, slots := 6 }) (Nat.le_refl _) (Nat.le_refl _) hRcells hRslots
  obtain ⟨s', hA⟩ : ∃ z, z = (T.setVm s.vm).setFrames (.invoking m args :: below) := ⟨_, rfl⟩
  rw [← hA] at Y
  have hvm : s'.vm = s.vm := by rw [hA]; rfl
  have hhp : s'.heap = H := by rw [hA]; exact hT
  have hW0 : s.WarmedH s'.vm := by rw [hvm]; exact State.WarmedH.refl s
  have hat' : ∀ w ∈ vx_at0 own ic cls names, w.before args s' = true := fun w hw => vx_ot_at hW0 hvm.symm (hgood w (List.mem_cons_of_mem _ (List.mem_cons_of_mem _ hw))) (hat w hw)
  have hk' : (Cond.classLink own ik cls).before args s' = true := vx_ot_at hW0 hvm.symm (hgood _ List.mem_cons_self) hk
  have hini' : (Cond.initialized cls).before args s' = true := vx_ot_at hW0 hvm.symm (hgood _ (List.mem_cons_of_mem _ List.mem_cons_self)) hini
  have hU' : vx_Zq Bundle.tN "UNASSIGNED_STACK" Bundle.steD A s' s'.heap := by rw [hhp]; exact vx_Zq.moved hW0.alike (hU.kept hS.2.1)
  have hN' : vx_Zq Bundle.tN "SUPPRESSED_SENTINEL" Bundle.listD A s' s'.heap := by rw [hhp]; exact vx_Zq.moved hW0.alike (hN.kept hS.2.1)
  have h : ∀ w ∈ Bundle.ownAtoms0 own ic cls names, w.before args s' = true := vx_own hat' (vx_isRefq hU'.1) (vx_isRefq hN'.1) hU'.2.word hN'.2.word
  have hown' : s'.vm.findClass own = some m.cls := by rw [hvm]; exact hown
  have hins : (Cond.instantiable cls 6).before args s' = true := h _ (by simp [Bundle.ownAtoms0])
  obtain ⟨vm₁, cX, kX, hfX, hkX, -, -, X₁, st1⟩ := Y.newCold hexec (own := own) (C := cls) (index := ik) (n := 6) hown' hk' hins hini'
    (g := F0 m pc ls rest) rfl (by rw [hb]; exact d0) (Nat.le_refl _) (Nat.le_refl _)
  generalize hT1 : (T.setVm vm₁).pushCell { cls := cX, slots := kX.instanceTypes.map defaultValue, vm := .none } = T1 at X₁ st1
  have hcat : (Value.ref T.heap.size).category = 1 := rfl
  have hcellA : T1.heap[T.heap.size]? = some (freshCell cX kX) := by rw [← hT1]; exact State.heap_pushCell_size _ _
  have d3' : decode c.code (pc + 3) = .ok (.dup, 1) := by rw [hb]; exact d3
  obtain ⟨U, hsteps, hrun, hend, hW, hsame, ce, hce, hO⟩ := X₁.ctorThrow0 hexec htr (own := own) (cls := cls) (names := names) (ic := ic) hown' hcls hnames h (fun x hx => nomatch hx) hfX hkX hcellA (by rw [hhp, hT]; exact Nat.le_refl _)
    (g := { method := m, pc := pc + 4, locals := ls, stack := .ref T.heap.size :: .ref T.heap.size :: rest, locked := none }) rfl hsize rfl rfl (rest := rest) rfl
    (by rw [hb]; exact d4) (by rw [hb]; exact d7) hout hRframes (by simp only [List.map_cons, List.sum_cons, hcat]; omega) hlocks
  obtain ⟨f1, f2⟩ := vx_frame hsame
  rw [hhp] at f1 f2
  have hWs : s.WarmedH U.vm := State.WarmedH.trans hW0 hW
  have hcl : s.vm.findClass cls = some ce.cls := by
    have h9 := hO.cls
    rw [hvm] at h9
    exact h9
  have hall : s.sameButNew ({ U with vm := s.vm } : State) locs mc ms := by
    subst hA
    obtain ⟨e1, e2⟩ := hsame
    rw [State.setFrames_setFrames] at e1
    have h2 : (T.setVm s.vm).sameButNew ({ U with vm := s.vm } : State) [] (0 + 1) (0 + 6) := ⟨e1, e2⟩
    have h3 := X.same.trans h2
    rw [List.append_nil] at h3
    exact h3.mono hc hs
  refine ⟨U, ?_, .threw T.heap.size, hrun, hend, Or.inr ⟨T.heap.size, rfl, cls, ce, locs, hx _ U hWs f1 (fun q hq => f2 q hq (fun z hz => nomatch hz)), hce, hO.vm, hcl, hWs, hall, hf⟩⟩
  refine st1 _ ?_
  show Steps p.tables e below (T1.setTop { method := m, pc := pc + 3, locals := ls, stack := .ref T.heap.size :: rest, locked := none }) _
  jvm_step X₁.here [X₁.here.top, hexec, d3', Value.category]
  exact hsteps
end Ends
def NSE : String := "java/util/NoSuchElementException"
def XCN (G : GM) (a : Nat → Nat) (s1 : ST) (A1 : Nat → Prop) : String → Addr → State → State → Prop := fun E _ st t => E = NSE ∧ PW G a s1 A1 t ∧ va_F A1 st t
def TN (l : Launch) (G : GM) (y : MethodName) (ws : List Cond) (d : Nat) (av : List Value) (a : Nat → Nat) (s : ST) (s1 : ST) : Prop :=
  ∀ sz : Nat, vz_Met l y ws (rmA d 1 6) (PcW G av a s sz) QF0 (XCN G a s1 (va_A (wl G.2.1 a s) sz)) 1 6 (va_A (wl G.2.1 a s) sz)
abbrev WN (p : Program) (l : Launch) (e : Env) (R : Room) (s0 : State) (m : MethodId) (args : Array Value) (below : List Frame) (meth : Method) (c : Code) (H : Heap) (locs : List Loc) (G : GM) (A : Nat → Prop) (XC : String → Addr → State → State → Prop) (pc : Nat) (ls : Array Slot) (st : List Value) : Prop :=
  W p l e R s0 m args below meth c H locs 0 0 (vz_MQ below QF0 XC args s0 1 6 A) (F0 m pc ls st)
def nseN : List String := ["java/lang/RuntimeException", "java/lang/Exception"]
theorem ns_good : ∀ w ∈ (vx_at0 RX1 283 NSE nseN).filter goodWord, w ∈ lw_all := by decide +kernel
theorem ns_bad : ∀ w ∈ (vx_at0 RX1 283 NSE nseN).filter (fun w => !goodWord w), nbW w = true ∧ w ∈ lw_tbl := by decide +kernel
theorem ns_ot : ∀ w ∈ Cond.classLink RX1 281 NSE :: Cond.initialized NSE :: vx_at0 RX1 283 NSE nseN, vx_ot w = true := by decide +kernel
section AWN

variable {p : Program} {l : Launch} {e : Env} {R : Room} {s0 : State} {m : MethodId} {args : Array Value} {below : List Frame} {meth : Method} {c : Code} {H : Heap} {locs : List Loc} {cells slots : Nat} {Q : State → Prop}
variable {cc : ByteArray} {pc nL : Nat} {ls : Array Slot} {rest : List Value} {G : GM} {A : Nat → Prop} {a : Nat → Nat} {s : ST} {own : String}
theorem aw_nthrow {s1 : ST} (hl : l.stackTraces = false) (hC : CX p s0 m args meth c G A cc RX1 nL) (hno : ∀ x ∈ c.exceptionTable.toList, False) (hW : AW G a A s1 s0.heap H locs) (hls : ls.size = nL) (hR : 8 ≤ R.frames ∧ 320 ≤ R.locals ∧ 1 ≤ R.cells ∧ 6 ≤ R.slots) (hcat : (rest.map fun v => v.category).sum ≤ 8)
    (d0 : decode cc pc = .ok (.new 281, 3)) (d3 : decode cc (pc + 3) = .ok (.dup, 1)) (d4 : decode cc (pc + 4) = .ok (.invokespecial 283, 3)) (d7 : decode cc (pc + 7) = .ok (.athrow, 1)) :
    W p l e R s0 m args below meth c H locs 0 0 (vz_MQ below QF0 (XCN G a s1 A) args s0 1 6 A) (F0 m pc ls rest) := by
  obtain ⟨hx, hb, hml, hown, hts, hK, hSB, hA, hAb, hlk⟩ := id hC
  obtain ⟨hp, hD, hS, hwf⟩ := id hW
  have hat : ∀ w ∈ vx_at0 RX1 283 NSE nseN, w.before args s0 = true := fun w hw => by
    by_cases hg : goodWord w = true
    · exact hts _ (ns_good w (List.mem_filter.mpr ⟨hw, hg⟩))
    · have h1 := ns_bad w (List.mem_filter.mpr ⟨hw, by simp [hg]⟩)
      exact va_Nw.use (nbW.onT h1.1) (hSB.1 _ h1.2 h1.1)
  obtain ⟨hS1, -, -, -, -, hU, hN, -⟩ := id hSB
  refine vz_throw0 (names := nseN) hx hb hl hown (by decide +kernel) (by decide +kernel) (hts _ q1309) (hts _ q103) hat ns_ot (hU.narrow (fun q h => hAb q h)) (hN.narrow (fun q h => hAb q h)) hS (hls.trans hml.symm) d0 d3 d4 d7 (fun x hx => (hno x hx).elim) (by show 2 + 3 < _; omega) (by show _ + (13 * (2 + 1) + 42) ≤ _; omega) (by omega) (by omega) hlk (fun z t hWm h1 h2 => ?_) hS.2.2 (by omega) (by omega)
  have hS' : va_S A s0.heap t.heap locs := ⟨Nat.le_trans hS.1 h1, fun q g1 g2 => (h2 q (Nat.lt_of_lt_of_le g1 hS.1)).trans (hS.2.1 q g1 g2), hS.2.2⟩
  exact ⟨rfl, ⟨hp.kept (fun k y hy => h2 y.1 ((hp k y hy).lt)), va_K.moved hWm.alike hK, hD, hSB.warm hWm (fun q g1 g2 => by rw [h2 q (Nat.lt_of_lt_of_le g1 hS.1)]; exact hS.2.1 q g1 (fun g3 => g2 (hAb q g3))), hwf, Nat.le_trans hC.b0 hS'.1⟩, hS'.F rfl⟩

theorem aw_nrunX {st0 : List Value} {s1 : ST} (hr : vz_Run p l e R s0 m args below meth c H locs cells slots 1 6 (F0 m pc ls st0) rest (fun _ _ _ => False) (XCN G a s1 (va_A (wl G.2.1 a s) H.size)) (va_A (wl G.2.1 a s) H.size)) (hC : CX p s0 m args meth c G A cc own nL) (hW : AW G a A s s0.heap H locs)
    (kx : ∀ (q : Nat) (H1 : Heap) (locs1 : List Loc), AW G a A s1 s0.heap H1 locs1 → (∃ ce : Cell, H1[q]? = some ce ∧ ce.vm = .none ∧ s0.vm.findClass NSE = some ce.cls) → vx_W p l e R s0 m args below meth c H1 locs1 (cells + 1) (slots + 6) Q (F0 m pc ls rest) q) : W p l e R s0 m args below meth c H locs cells slots Q (F0 m pc ls st0) := by
  intro T hT X
  rcases hr T hT X with ⟨v, st₀, t, T', L, h0, X', hL, e1, e2, hq, st⟩ | ⟨q, st₀, t, T', L, E, ce, h0, X', hL, e1, e2, ⟨hE, hPW, hVF⟩, hce, hcv, hcl, st⟩
  · exact hq.elim
  · have hal : t.vm.Alike s0.vm := by rw [← e2]; exact X'.warmed.alike.symm
    obtain ⟨t2, a1, b1⟩ := kx q T'.heap (locs ++ L) (aw_back hW (aw_free hC hW) h0 hL e1 hPW hVF) ⟨ce, by rw [e1]; exact hce, hcv, hE ▸ hcl⟩ T' rfl X'
    exact ⟨t2, st.trans a1, b1⟩
theorem aw_nrV {y : MethodName} {cy : ByteArray} {maxL n index d r ci : Nat} {ret : Option FieldType} {As st0 : List Value} {s1 : ST} {q : vw_C} (hM : TN l G y (ws_ y cy maxL ret) d (.ref (a r) :: As) a s s1) (hC : CX p s0 m args meth c G A cc own nL) (hW : AW G a A s s0.heap H locs) (hls : ls.size = nL) (hy : VY y cy maxL ret n) (hk : Cond.methodLink own index y ∈ lw_all) (hr : r < s.1 ∧ (kd s r).1 = ci + 1) (hc : vwCl[ci]? = some q) (hq : q.1 = y.cls) (hn : As.length = n) (hst : st0 = As.reverse ++ .ref (a r) :: rest) (hcat : (rest.map fun v => v.category).sum ≤ 8) (hR : d + 1 ≤ R.frames ∧ 8 + (maxL + 11) + 40 * d ≤ R.locals) (hf : cells + 1 ≤ R.cells ∧ slots + 6 ≤ R.slots) (hdg : decode cc pc = .ok (.invokevirtual index, 3)) : vz_Run p l e R s0 m args below meth c H locs cells slots 1 6 (F0 m pc ls st0) rest (fun _ _ _ => False) (XCN G a s1 (va_A (wl G.2.1 a s) H.size)) (va_A (wl G.2.1 a s) H.size) := by
  obtain ⟨hy1, hy2, hy3, hy4, hy5⟩ := hy
  have hts := hC.2.2.2.2.1
  have hp : PreV s0 H y.cls (a r) (PcW G (.ref (a r) :: As) a s H.size) As := ⟨PcW.blind, by rw [← hq]; exact va_recv hC.2.2.2.2.2.1 hW.1 hc (wl_obj hr (vw_lt hc)), aw_pre hC hW⟩
  exact vz_runV (C := y.cls) ⟨hC.1, hC.2.1, hC.2.2.1, hC.2.2.2.1, hts⟩ (hM H.size) (cwV n hts (lw_V hk hy1 hy2 hy3 hy4) rfl rfl rfl ⟨rfl, hy5.1, hy5.2.1, hy5.2.2⟩ hR) hp rfl hn hls hst (cat_le hcat) hdg hf
theorem tn_of {y : MethodName} {d : Nat} {av : List Value} {lv : List (Nat × Value)} {s1 : ST} {maxL : Nat} {ret : Option FieldType} (hy : plainName y.cls = true) (hlen : (lg_sl av).length ≤ maxL) (hlv : lv_args 0 av = lv)
    (body : ∀ (p : Program) (e : Env) (s0 : State) (m : MethodId) (args : Array Value) (below : List Frame) (meth : Method) (c : Code) (ls : Array Slot) (A : Nat → Prop), CX p s0 m args meth c G A cc y.cls maxL → (∀ x ∈ c.exceptionTable.toList, False) → AW G a A s s0.heap s0.heap [] → lv_has ls maxL lv →
      WN p l e (rmA d 1 6) s0 m args below meth c s0.heap [] G A (XCN G a s1 A) 0 ls []) : TN l G y (ws_ y cc maxL ret) d av a s s1 := by
  intro sz
  refine vz_ofW (cc := cc) (maxL := maxL) (ret := ret) hy rfl ?_
  intro p e s0 m args below meth c s₁ B hml hno hv
  obtain ⟨hav, hsz, q1, q2, q3, q4, q5, q6⟩ := hv
  have hts := atoms_spec (ws := ws_ y cc maxL ret) B.pre
  have hts : ∀ w ∈ lw_all, w.before args s0 = true := fun w h => hts w (List.mem_cons_of_mem _ h)
  have hl := lv_entry av (n := maxL) hlen
  subst hsz
  have hA : ∀ q, s0.heap.size ≤ q → va_A (wl G.2.1 a s) s0.heap.size q := fun q h => Or.inr h
  have hAb : ∀ q, va_A (wl G.2.1 a s) s0.heap.size q → G.2.2.1 ≤ q := by
    intro q hq
    rcases hq with ⟨k, ev, h⟩ | h
    · unfold wl at h
      rw [List.getElem?_map] at h
      obtain ⟨r, hr, hr2⟩ := Option.map_eq_some_iff.mp h
      have hr1 : r < s.1 := List.mem_range.mp (List.mem_of_getElem? hr)
      have hq2 : a r = q := congrArg Prod.fst hr2
      rw [← hq2]
      exact q5.2 r hr1
    · exact Nat.le_trans q6 h
  rw [hlv] at hl
  have key := body p e s0 m args below meth c _ _ ⟨B.exec, B.bytes, hml, findClass_of_methodNamed B.named, hts, q2, q4, hA, hAb, B.notSynchronized⟩ hno ⟨q1, q3.self, va_S.rf, q5⟩ hl
  have he : entryFrame m args maxL = F0 m 0 ((lg_sl av ++ List.replicate (maxL - (lg_sl av).length) Slot.unset).toArray) [] := by rw [hav, lg_entry_eq]
  exact W.eq he key
end AWN
