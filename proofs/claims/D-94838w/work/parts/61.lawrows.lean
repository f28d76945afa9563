set_option maxRecDepth 100000
section LWR
variable {p : Program} {l : Launch} {e : Env} {R : Room} {s0 : State} {m : MethodId} {args : Array Value} {below : List Frame} {meth : Method} {c : Code} {H : Heap} {locs : List Loc} {cells slots : Nat} {Q : State → Prop}
variable {cc : ByteArray} {pc nL : Nat} {ls : Array Slot} {rest : List Value} {G : GM} {A : Nat → Prop} {a : Nat → Nat} {s : ST} {own : String}
theorem aw_runSW {y : MethodName} {cy : ByteArray} {maxL n index : Nat} {ret : Option FieldType} {hh : List (Nat × Nat × Nat × Nat)} {rm : Room} {As st0 : List Value} {P : Option Value → (Nat → Nat) → ST → Prop} (hC : CX p s0 m args meth c G A cc own nL) (hW : AW G a A s s0.heap H locs) (hls : ls.size = nL) (hM : MF l G y (wsW_ y cy maxL ret hh) rm As a s P) (h1 : Cond.static y ∈ lw_all) (h3 : Cond.initialized y.cls ∈ lw_all) (h4 : Cond.codeWith y cy maxL ret hh ∈ lw_all) (h5 : mdOK y n) (hk : Cond.methodLink own index y ∈ lw_all) (hn : As.length = n) (hst : st0 = As.reverse ++ rest) (hcat : (rest.map fun v => v.category).sum ≤ 8) (hR : rm.frames + 1 ≤ R.frames ∧ 8 + (maxL + 11) + rm.locals ≤ R.locals) (hf : cells + rm.cells ≤ R.cells ∧ slots + rm.slots ≤ R.slots) (hdg : decode cc pc = .ok (.invokestatic index, 3)) :
    va_Run p l e R s0 m args below meth c H locs cells slots rm.cells rm.slots (F0 m pc ls st0) rest (QW G (va_A (wl G.2.1 a s) H.size) P As.toArray) (va_A (wl G.2.1 a s) H.size) := by
  have hts := hC.2.2.2.2.1
  have hp : PreS s0 H (PcW G As a s H.size) As := ⟨PcW.blind, aw_pre hC hW⟩
  exact vx_runSW ⟨hC.1, hC.2.1, hC.2.2.1, hC.2.2.2.1, hts⟩ (hM H.size) (vx_cwSW n hts (lw_SW hk h1 h3 h4) rfl rfl rfl h5 hR) hp rfl hn hls hst (cat_le hcat) hdg hf
theorem lw_xcell {b L : Nat} {xs : Nat → Int32} (hX : va_X b L xs s0 s0.heap) (hbl : b < s0.heap.size) (hW : AW G a (fun q => s0.heap.size ≤ q) s s0.heap H locs) : va_X b L xs s0 H := hX.kept (hW.2.2.1.2.1 b hbl (Nat.not_le.mpr hbl))
theorem lw_xld {b L : Nat} {xs : Nat → Int32} {i : Int32} (hx : p.tables.exec = Jvm.exec) (hb : c.code = cc) (hX : va_X b L xs s0 s0.heap) (hbl : b < s0.heap.size) (hW : AW G a (fun q => s0.heap.size ≤ q) s s0.heap H locs) (hi : ¬ (i < 0 ∨ L ≤ i.toNatClampNeg)) (hdg : decode cc pc = .ok (.iaload, 1))
    (kk : W p l e R s0 m args below meth c H locs cells slots Q (F0 m (pc + 1) ls (.int (xs i.toNatClampNeg) :: rest))) : W p l e R s0 m args below meth c H locs cells slots Q (F0 m pc ls (.int i :: .ref b :: rest)) := by
  obtain ⟨scr, h1, h2, h3, h4, h5⟩ := lw_xcell hX hbl hW
  exact W.iald (v := .int (xs i.toNatClampNeg)) hx hb h1 h2 h3 (by rw [h4]; exact hi) (h5 _ (Nat.not_le.mp fun q => hi (Or.inr q))) rfl rfl hdg kk
theorem lw_xlen {b L : Nat} {xs : Nat → Int32} (hx : p.tables.exec = Jvm.exec) (hb : c.code = cc) (hX : va_X b L xs s0 s0.heap) (hbl : b < s0.heap.size) (hW : AW G a (fun q => s0.heap.size ≤ q) s s0.heap H locs) (hdg : decode cc pc = .ok (.arraylength, 1))
    (kk : W p l e R s0 m args below meth c H locs cells slots Q (F0 m (pc + 1) ls (.int (Int32.ofNat L) :: rest))) : W p l e R s0 m args below meth c H locs cells slots Q (F0 m pc ls (.ref b :: rest)) := by
  obtain ⟨scr, h1, h2, h3, h4, h5⟩ := lw_xcell hX hbl hW
  exact W.alen (n := Int32.ofNat L) hx hb h1 h2 (by rw [h4] <;> rfl) rfl rfl hdg kk
end LWR
/-- the law's end -/
theorem lw_end {p : Program} {l : Launch} {e : Env} {s0 : State} {m : MethodId} {b : Nat} {below : List Frame} {meth : Method} {c : Code} {H : Heap} {locs : List Loc} {kc ks pc nL : Nat} {ls : Array Slot} {G : GM} {a : Nat → Nat} {s : ST} {own : String} {A : Nat → Prop} (hC : CX p s0 m #[Value.ref b] meth c G A code own nL) (hA : A = fun q => s0.heap.size ≤ q) (hr : meth.sig.returnType = ret) (hW : AW G a A s s0.heap H locs) (h1 : kc ≤ 603072) (h2 : ks ≤ 7067754) (hdg : decode code pc = .ok (.ireturn, 1)) :
    W p l e room_1 s0 m #[Value.ref b] below meth c H locs kc ks (lw_Z below #[Value.ref b] s0) (F0 m pc ls [.int 1]) := by
  subst hA
  refine va_forget (fun q hq => hW.2.2.1.2.2 q hq) ?_
  refine W.widen (k := 603072) (n := 7067754) h1 h2 ?_
  exact lw_ret hC.1 hC.2.1 hr hC.2.2.2.2.2.2.2.2.2 hdg

