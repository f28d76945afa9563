set_option maxRecDepth 100000
section AWU
variable {p : Program} {l : Launch} {e : Env} {R : Room} {s0 : State} {m : MethodId} {args : Array Value} {below : List Frame} {meth : Method} {c : Code} {H : Heap} {locs : List Loc} {cells slots : Nat} {Q : State → Prop}
variable {cc : ByteArray} {pc nL : Nat} {ls : Array Slot} {rest : List Value} {G : GM} {A : Nat → Prop} {a : Nat → Nat} {s : ST} {own : String}
/-- a method of a class above the receiver's (C): x as the code names it, y as it is declared -/
def UY (C : String) (x y : MethodName) (cy : ByteArray) (maxL : Nat) (ret : Option FieldType) (n : Nat) : Prop := Cond.sameMethod x.cls y.cls x.name x.desc ∈ lw_all ∧ Cond.selects C x y ∈ lw_all ∧ Cond.instanceMethod y ∈ lw_all ∧ Cond.initialized y.cls ∈ lw_all ∧ Cond.code y cy maxL ret ∈ lw_all ∧ y = ⟨y.cls, x.name, x.desc⟩ ∧ (y.cls ≠ "java/lang/invoke/MethodHandle" ∧ y.cls ≠ "java/lang/invoke/VarHandle" ∧ (parseMethodDescriptor x.desc).map (fun d => d.parameters.length) = some n)
theorem aw_runU {x y : MethodName} {cy : ByteArray} {maxL n index r ci : Nat} {ret : Option FieldType} {rm : Room} {As st0 : List Value} {P : Option Value → (Nat → Nat) → ST → Prop} {q : vw_C} (hC : CX p s0 m args meth c G A cc own nL) (hW : AW G a A s s0.heap H locs) (hls : ls.size = nL) (hM : MF l G y (ws_ y cy maxL ret) rm (.ref (a r) :: As) a s P) (hy : UY q.1 x y cy maxL ret n) (hk : Cond.methodLink own index x ∈ lw_all) (hr : r < s.1 ∧ (kd s r).1 = ci + 1) (hc : vwCl[ci]? = some q) (hn : As.length = n) (hst : st0 = As.reverse ++ .ref (a r) :: rest) (hcat : (rest.map fun v => v.category).sum ≤ 8) (hR : rm.frames + 1 ≤ R.frames ∧ 8 + (maxL + 11) + rm.locals ≤ R.locals) (hf : cells + rm.cells ≤ R.cells ∧ slots + rm.slots ≤ R.slots) (hdg : decode cc pc = .ok (.invokevirtual index, 3)) :
    va_Run p l e R s0 m args below meth c H locs cells slots rm.cells rm.slots (F0 m pc ls st0) rest (QW G (va_A (wl G.2.1 a s) H.size) P (.ref (a r) :: As).toArray) (va_A (wl G.2.1 a s) H.size) := by
  obtain ⟨hy0, hy1, hy2, hy3, hy4, hy5, hy6⟩ := hy
  have hts := hC.2.2.2.2.1
  have hp : PreV s0 H q.1 (a r) (PcW G (.ref (a r) :: As) a s H.size) As := ⟨PcW.blind, va_recv hC.2.2.2.2.2.1 hW.1 hc (wl_obj hr (vw_lt hc)), aw_pre hC hW⟩
  have hGd : GoodIn lw_all (va_wsU own index q.1 y.cls x y (ws_ y cy maxL ret)) := by
    refine lw_app ?_ (lw_meth hy4)
    intro w hw
    simp only [List.mem_cons, List.not_mem_nil, or_false] at hw
    rcases hw with rfl | rfl | rfl | rfl | rfl
    · exact hk
    · exact hy0
    · exact hy1
    · exact hy2
    · exact hy3
  exact va_runU ⟨hC.1, hC.2.1, hC.2.2.1, hC.2.2.2.1, hts⟩ (hM H.size) (va_cwU (owner := y.cls) n hts hGd rfl rfl rfl hy5 hy6 hR) hp rfl hn hls hst (cat_le hcat) hdg hf
def VYW (y : MethodName) (cy : ByteArray) (maxL : Nat) (ret : Option FieldType) (hh : List (Nat × Nat × Nat × Nat)) (n : Nat) : Prop := Cond.instanceMethod y ∈ lw_all ∧ Cond.selects y.cls y y ∈ lw_all ∧ Cond.initialized y.cls ∈ lw_all ∧ Cond.codeWith y cy maxL ret hh ∈ lw_all ∧ mdOK y n
theorem aw_runW {y : MethodName} {cy : ByteArray} {maxL n index r ci : Nat} {ret : Option FieldType} {hh : List (Nat × Nat × Nat × Nat)} {rm : Room} {As st0 : List Value} {P : Option Value → (Nat → Nat) → ST → Prop} {q : vw_C} (hC : CX p s0 m args meth c G A cc own nL) (hW : AW G a A s s0.heap H locs) (hls : ls.size = nL) (hM : MF l G y (wsW_ y cy maxL ret hh) rm (.ref (a r) :: As) a s P) (hy : VYW y cy maxL ret hh n) (hk : Cond.methodLink own index y ∈ lw_all) (hr : r < s.1 ∧ (kd s r).1 = ci + 1) (hc : vwCl[ci]? = some q) (hq : q.1 = y.cls) (hn : As.length = n) (hst : st0 = As.reverse ++ .ref (a r) :: rest) (hcat : (rest.map fun v => v.category).sum ≤ 8) (hR : rm.frames + 1 ≤ R.frames ∧ 8 + (maxL + 11) + rm.locals ≤ R.locals) (hf : cells + rm.cells ≤ R.cells ∧ slots + rm.slots ≤ R.slots) (hdg : decode cc pc = .ok (.invokevirtual index, 3)) :
    va_Run p l e R s0 m args below meth c H locs cells slots rm.cells rm.slots (F0 m pc ls st0) rest (QW G (va_A (wl G.2.1 a s) H.size) P (.ref (a r) :: As).toArray) (va_A (wl G.2.1 a s) H.size) := by
  obtain ⟨hy1, hy2, hy3, hy4, hy5⟩ := hy
  have hts := hC.2.2.2.2.1
  have hp : PreV s0 H y.cls (a r) (PcW G (.ref (a r) :: As) a s H.size) As := ⟨PcW.blind, by rw [← hq]; exact va_recv hC.2.2.2.2.2.1 hW.1 hc (wl_obj hr (vw_lt hc)), aw_pre hC hW⟩
  exact vx_runVW (C := y.cls) ⟨hC.1, hC.2.1, hC.2.2.1, hC.2.2.2.1, hts⟩ (hM H.size) (vx_cwVW n hts (lw_VW hk hy1 hy2 hy3 hy4) rfl rfl rfl ⟨rfl, hy5.1, hy5.2.1, hy5.2.2⟩ hR) hp rfl hn hls hst (cat_le hcat) hdg hf

theorem aw_dU0 {x y : MethodName} {cy : ByteArray} {maxL n index d r ci : Nat} {ret : Option FieldType} {As st0 : List Value} {q : vw_C} {s1 : ST} (hM : MD l G y (ws_ y cy maxL ret) d (.ref (a r) :: As) a s none s1) (hC : CX p s0 m args meth c G A cc own nL) (hW : AW G a A s s0.heap H locs) (hls : ls.size = nL) (hy : UY q.1 x y cy maxL ret n) (hk : Cond.methodLink own index x ∈ lw_all) (hr : r < s.1 ∧ (kd s r).1 = ci + 1) (hc : vwCl[ci]? = some q) (hn : As.length = n) (hst : st0 = As.reverse ++ .ref (a r) :: rest) (hcat : (rest.map fun v => v.category).sum ≤ 8) (hR : d + 1 ≤ R.frames ∧ 8 + (maxL + 11) + 40 * d ≤ R.locals) (hf : cells ≤ R.cells ∧ slots ≤ R.slots) (hdg : decode cc pc = .ok (.invokevirtual index, 3))
    (kk : ∀ (H : Heap) (locs : List Loc), AW G a A s1 s0.heap H locs → W p l e R s0 m args below meth c H locs cells slots Q (F0 m (pc + 3) ls (rest))) : W p l e R s0 m args below meth c H locs cells slots Q (F0 m pc ls st0) := by
  refine aw_run hC hW (aw_runU hC hW hls hM hy hk hr hc hn hst hcat hR ⟨hf.1, hf.2⟩ hdg) (fun v' a' s' H1 locs1 h hW1 => ?_)
  obtain ⟨rfl, rfl, rfl⟩ := h
  exact kk H1 locs1 hW1
theorem aw_dU1 {x y : MethodName} {cy : ByteArray} {maxL n index d r ci : Nat} {ret : Option FieldType} {As st0 : List Value} {q : vw_C} {s1 : ST} {v : Value} (hM : MD l G y (ws_ y cy maxL ret) d (.ref (a r) :: As) a s (some v) s1) (hC : CX p s0 m args meth c G A cc own nL) (hW : AW G a A s s0.heap H locs) (hls : ls.size = nL) (hy : UY q.1 x y cy maxL ret n) (hk : Cond.methodLink own index x ∈ lw_all) (hr : r < s.1 ∧ (kd s r).1 = ci + 1) (hc : vwCl[ci]? = some q) (hn : As.length = n) (hst : st0 = As.reverse ++ .ref (a r) :: rest) (hcat : (rest.map fun v => v.category).sum ≤ 8) (hR : d + 1 ≤ R.frames ∧ 8 + (maxL + 11) + 40 * d ≤ R.locals) (hf : cells ≤ R.cells ∧ slots ≤ R.slots) (hdg : decode cc pc = .ok (.invokevirtual index, 3))
    (kk : ∀ (H : Heap) (locs : List Loc), AW G a A s1 s0.heap H locs → W p l e R s0 m args below meth c H locs cells slots Q (F0 m (pc + 3) ls (v :: rest))) : W p l e R s0 m args below meth c H locs cells slots Q (F0 m pc ls st0) := by
  refine aw_run hC hW (aw_runU hC hW hls hM hy hk hr hc hn hst hcat hR ⟨hf.1, hf.2⟩ hdg) (fun v' a' s' H1 locs1 h hW1 => ?_)
  obtain ⟨rfl, rfl, rfl⟩ := h
  exact kk H1 locs1 hW1
theorem aw_dW1 {y : MethodName} {cy : ByteArray} {maxL n index d r ci : Nat} {ret : Option FieldType} {hh : List (Nat × Nat × Nat × Nat)} {As st0 : List Value} {q : vw_C} {s1 : ST} {v : Value} (hM : MD l G y (wsW_ y cy maxL ret hh) d (.ref (a r) :: As) a s (some v) s1) (hC : CX p s0 m args meth c G A cc own nL) (hW : AW G a A s s0.heap H locs) (hls : ls.size = nL) (hy : VYW y cy maxL ret hh n) (hk : Cond.methodLink own index y ∈ lw_all) (hr : r < s.1 ∧ (kd s r).1 = ci + 1) (hc : vwCl[ci]? = some q) (hq : q.1 = y.cls) (hn : As.length = n) (hst : st0 = As.reverse ++ .ref (a r) :: rest) (hcat : (rest.map fun v => v.category).sum ≤ 8) (hR : d + 1 ≤ R.frames ∧ 8 + (maxL + 11) + 40 * d ≤ R.locals) (hf : cells ≤ R.cells ∧ slots ≤ R.slots) (hdg : decode cc pc = .ok (.invokevirtual index, 3))
    (kk : ∀ (H : Heap) (locs : List Loc), AW G a A s1 s0.heap H locs → W p l e R s0 m args below meth c H locs cells slots Q (F0 m (pc + 3) ls (v :: rest))) : W p l e R s0 m args below meth c H locs cells slots Q (F0 m pc ls st0) := by
  refine aw_run hC hW (aw_runW hC hW hls hM hy hk hr hc hq hn hst hcat hR ⟨hf.1, hf.2⟩ hdg) (fun v' a' s' H1 locs1 h hW1 => ?_)
  obtain ⟨rfl, rfl, rfl⟩ := h
  exact kk H1 locs1 hW1
/-- a contract out of a walk of the body -/
theorem mf_ofW {y : MethodName} {rm : Room} {av : List Value} {lv : List (Nat × Value)} {P : Option Value → (Nat → Nat) → ST → Prop} {maxL : Nat} {ret : Option FieldType} {hh : List (Nat × Nat × Nat × Nat)} (hy : plainName y.cls = true) (hlen : (lg_sl av).length ≤ maxL) (hlv : lv_args 0 av = lv)
    (body : ∀ (p : Program) (e : Env) (s0 : State) (m : MethodId) (args : Array Value) (below : List Frame) (meth : Method) (c : Code) (ls : Array Slot) (A : Nat → Prop), CX p s0 m args meth c G A cc y.cls maxL → meth.sig.returnType = ret → meth.name = y.name → AW G a A s s0.heap s0.heap [] → lv_has ls maxL lv →
      W p l e rm s0 m args below meth c s0.heap [] 0 0 (MQ below (QW G A P) args s0 rm.cells rm.slots A) (F0 m 0 ls [])) : MF l G y (wsW_ y cc maxL ret hh) rm av a s P := by
  intro sz
  have hall : ∀ p e s0 m args below meth c s₁, BodyLoose p l y (headSpec (wsW_ y cc maxL ret hh) rm) cc maxL ret e s0 m args below meth c s₁ → c.maxLocals = maxL → PcW G av a s sz args s0 →
      W p l e (headSpec (wsW_ y cc maxL ret hh) rm).room s0 m args below meth c s0.heap [] 0 0 (MQ below (QW G (va_A (wl G.2.1 a s) sz) P) args s0 rm.cells rm.slots (va_A (wl G.2.1 a s) sz)) (entryFrame m args maxL) := by
    intro p e s0 m args below meth c s₁ B hml hv
    obtain ⟨hav, hsz, q1, q2, q3, q4, q5, q6⟩ := hv
    have hts := atoms_spec (ws := wsW_ y cc maxL ret hh) B.pre
    have hts : ∀ w ∈ lw_all, w.before args s0 = true := fun w h => hts w (List.mem_cons_of_mem _ h)
    have hl := lv_entry av (n := maxL) hlen
    subst hsz
    have hA : ∀ q, s0.heap.size ≤ q → va_A (wl G.2.1 a s) s0.heap.size q := fun q h => Or.inr h
    have hAb : ∀ q, va_A (wl G.2.1 a s) s0.heap.size q → G.2.2.1 ≤ q := by
      intro q hq
      rcases hq with ⟨k, ev, h⟩ | h
      · unfold wl at h
        rw [List.getElem?_map] at h
        obtain ⟨r, hr, hr2⟩ := Option.map_eq_some_iff.mp h
        have hr1 : r < s.1 := List.mem_range.mp (List.mem_of_getElem? hr)
        have hq2 : a r = q := congrArg Prod.fst hr2
        rw [← hq2]
        exact q5.2 r hr1
      · exact Nat.le_trans q6 h
    rw [hlv] at hl
    have key := body p e s0 m args below meth c _ _ ⟨B.exec, B.bytes, hml, findClass_of_methodNamed B.named, hts, q2, q4, hA, hAb, B.notSynchronized⟩ B.returns (name_of_methodNamed B.named B.method).1 ⟨q1, q3.self, va_S.rf, q5⟩ hl
    have he : entryFrame m args maxL = F0 m 0 ((lg_sl av ++ List.replicate (maxL - (lg_sl av).length) Slot.unset).toArray) [] := by rw [hav, lg_entry_eq]
    exact W.eq he key
  exact va_MetW (cc := cc) (maxL := maxL) (ret := ret) (hh := hh) hy rfl hall

theorem md_ofW {y : MethodName} {d : Nat} {av : List Value} {lv : List (Nat × Value)} {v : Option Value} {s1 : ST} {maxL : Nat} {ret : Option FieldType} {hh : List (Nat × Nat × Nat × Nat)} (hy : plainName y.cls = true) (hlen : (lg_sl av).length ≤ maxL) (hlv : lv_args 0 av = lv)
    (body : ∀ (p : Program) (e : Env) (s0 : State) (m : MethodId) (args : Array Value) (below : List Frame) (meth : Method) (c : Code) (ls : Array Slot) (A : Nat → Prop) (P : Option Value → (Nat → Nat) → ST → Prop), P v a s1 → CX p s0 m args meth c G A cc y.cls maxL → meth.sig.returnType = ret → meth.name = y.name → AW G a A s s0.heap s0.heap [] → lv_has ls maxL lv →
      WB p l e (rmD d) s0 m args below meth c s0.heap [] G A P 0 ls []) : MD l G y (wsW_ y cc maxL ret hh) d av a s v s1 := by
  refine mf_ofW hy hlen hlv ?_
  intro p e s0 m args below meth c ls A hC hr hn hW hl
  exact body p e s0 m args below meth c ls A _ ⟨rfl, rfl, rfl⟩ hC hr hn hW hl

end AWU
