set_option maxRecDepth 100000
def NZE : String := "java/lang/NegativeArraySizeException"
def XCZ (G : GM) (a : Nat → Nat) (s1 : ST) (A1 : Nat → Prop) : String → Addr → State → State → Prop := fun E _ st t => E = NZE ∧ PW G a s1 A1 t ∧ va_F A1 st t
def TZ (l : Launch) (G : GM) (y : MethodName) (ws : List Cond) (d : Nat) (av : List Value) (a : Nat → Nat) (s : ST) (s1 : ST) : Prop :=
  ∀ sz : Nat, vz_Met l y ws (rmA d 3 54) (PcW G av a s sz) QF0 (XCZ G a s1 (va_A (wl G.2.1 a s) sz)) 3 54 (va_A (wl G.2.1 a s) sz)
abbrev WZ (p : Program) (l : Launch) (e : Env) (R : Room) (s0 : State) (m : MethodId) (args : Array Value) (below : List Frame) (meth : Method) (c : Code) (H : Heap) (locs : List Loc) (G : GM) (A : Nat → Prop) (XC : String → Addr → State → State → Prop) (pc : Nat) (ls : Array Slot) (st : List Value) : Prop :=
  W p l e R s0 m args below meth c H locs 0 0 (vz_MQ below QF0 XC args s0 3 54 A) (F0 m pc ls st)
theorem nz_good : ∀ w ∈ (vx_atM NZE nseN).filter goodWord, w ∈ lw_all := by decide +kernel
theorem nz_bad : ∀ w ∈ (vx_atM NZE nseN).filter (fun w => !goodWord w), nbW w = true ∧ w ∈ lw_tbl := by decide +kernel
theorem nz_ot : ∀ w ∈ vx_atM NZE nseN, vx_ot w = true := by decide +kernel
section AWZ

variable {p : Program} {l : Launch} {e : Env} {R : Room} {s0 : State} {m : MethodId} {args : Array Value} {below : List Frame} {meth : Method} {c : Code} {H : Heap} {locs : List Loc} {cells slots : Nat} {Q : State → Prop}
variable {cc : ByteArray} {pc nL : Nat} {ls : Array Slot} {rest : List Value} {G : GM} {A : Nat → Prop} {a : Nat → Nat} {s : ST} {own : String}
theorem aw_nase {atype : ArrayType} {n : Int32} {s1 : ST} (hl : l.stackTraces = false) (hC : CX p s0 m args meth c G A cc own nL) (hno : ∀ x ∈ c.exceptionTable.toList, False) (hW : AW G a A s1 s0.heap H locs) (hls : ls.size = nL) (hn : n < 0) (hR : 8 ≤ R.frames ∧ 10248 ≤ R.locals ∧ 3 ≤ R.cells ∧ 54 ≤ R.slots) (hcat : (rest.map fun v => v.category).sum ≤ 8)
    (hdg : decode cc pc = .ok (.newarray atype, 2)) :
    W p l e R s0 m args below meth c H locs 0 0 (vz_MQ below QF0 (XCZ G a s1 A) args s0 3 54 A) (F0 m pc ls (.int n :: rest)) := by
  obtain ⟨hx, hb, hml, hown, hts, hK, hSB, hA, hAb, hlk⟩ := id hC
  obtain ⟨hp, hD, hS, hwf⟩ := id hW
  have hat : ∀ w ∈ vx_atM NZE nseN, w.before args s0 = true := fun w hw => by
    by_cases hg : goodWord w = true
    · exact hts _ (nz_good w (List.mem_filter.mpr ⟨hw, hg⟩))
    · have h1 := nz_bad w (List.mem_filter.mpr ⟨hw, by simp [hg]⟩)
      exact va_Nw.use (nbW.onT h1.1) (hSB.1 _ h1.2 h1.1)
  obtain ⟨hS1, -, -, -, -, hU, hN, -⟩ := id hSB
  refine vx_newarrayZ hx hb hn hdg (fun tx htx => ?_)
  subst htx
  refine vx_vm (names := nseN) (nb := 44) hx hl (by decide +kernel) (by decide +kernel) (by decide +kernel) (by decide +kernel) hat nz_ot (hU.narrow (fun q h => hAb q h)) (hN.narrow (fun q h => hAb q h)) hS (hls.trans hml.symm) (negative_text_modelled hn) (negative_text_bytes n) (by decide) (by show 2 + 4 < _; omega) (by omega) (by decide) (by omega) (by omega) hlk (fun H1 q9 ce h1 h2 hS' hce hv hcl => ?_)
  exact vz_out (E := NZE) (ce := ce) (mc := 3) (ms := 54) (fun x hx => (hno x hx).elim) hlk hce hv hcl (fun t ht hWm => ⟨rfl, ⟨by rw [ht]; exact hp.kept (fun k y hy => h2 y.1 ((hp k y hy).lt)), va_K.moved hWm.alike hK, hD, hSB.warm hWm (fun q g1 g2 => by rw [ht, h2 q (Nat.lt_of_lt_of_le g1 hS.1)]; exact hS.2.1 q g1 (fun g3 => g2 (hAb q g3))), hwf, by rw [ht]; exact Nat.le_trans hC.b0 hS'.1⟩, hS'.F ht⟩) hS'.2.2 (Nat.le_refl _) (Nat.le_refl _)

theorem aw_zrunX {st0 : List Value} {s1 : ST} (hr : vz_Run p l e R s0 m args below meth c H locs cells slots 3 54 (F0 m pc ls st0) rest (fun _ _ _ => False) (XCZ G a s1 (va_A (wl G.2.1 a s) H.size)) (va_A (wl G.2.1 a s) H.size)) (hC : CX p s0 m args meth c G A cc own nL) (hW : AW G a A s s0.heap H locs)
    (kx : ∀ (q : Nat) (H1 : Heap) (locs1 : List Loc), AW G a A s1 s0.heap H1 locs1 → (∃ ce : Cell, H1[q]? = some ce ∧ ce.vm = .none ∧ s0.vm.findClass NZE = some ce.cls) → vx_W p l e R s0 m args below meth c H1 locs1 (cells + 3) (slots + 54) Q (F0 m pc ls rest) q) : W p l e R s0 m args below meth c H locs cells slots Q (F0 m pc ls st0) := by
  intro T hT X
  rcases hr T hT X with ⟨v, st₀, t, T', L, h0, X', hL, e1, e2, hq, st⟩ | ⟨q, st₀, t, T', L, E, ce, h0, X', hL, e1, e2, ⟨hE, hPW, hVF⟩, hce, hcv, hcl, st⟩
  · exact hq.elim
  · have hal : t.vm.Alike s0.vm := by rw [← e2]; exact X'.warmed.alike.symm
    obtain ⟨t2, a1, b1⟩ := kx q T'.heap (locs ++ L) (aw_back hW (aw_free hC hW) h0 hL e1 hPW hVF) ⟨ce, by rw [e1]; exact hce, hcv, hE ▸ hcl⟩ T' rfl X'
    exact ⟨t2, st.trans a1, b1⟩
theorem aw_zrS {y : MethodName} {cy : ByteArray} {maxL n index d : Nat} {ret : Option FieldType} {As st0 : List Value} {s1 : ST} (hM : TZ l G y (ws_ y cy maxL ret) d As a s s1) (hC : CX p s0 m args meth c G A cc own nL) (hW : AW G a A s s0.heap H locs) (hls : ls.size = nL) (hy : SY y cy maxL ret n) (hk : Cond.methodLink own index y ∈ lw_all) (hn : As.length = n) (hst : st0 = As.reverse ++ rest) (hcat : (rest.map fun v => v.category).sum ≤ 8) (hR : d + 1 ≤ R.frames ∧ 8 + (maxL + 11) + 40 * d ≤ R.locals) (hf : cells + 3 ≤ R.cells ∧ slots + 54 ≤ R.slots) (hdg : decode cc pc = .ok (.invokestatic index, 3)) : vz_Run p l e R s0 m args below meth c H locs cells slots 3 54 (F0 m pc ls st0) rest (fun _ _ _ => False) (XCZ G a s1 (va_A (wl G.2.1 a s) H.size)) (va_A (wl G.2.1 a s) H.size) := by
  obtain ⟨hy1, hy3, hy4, hy5⟩ := hy
  have hts := hC.2.2.2.2.1
  have hp : PreS s0 H (PcW G As a s H.size) As := ⟨PcW.blind, aw_pre hC hW⟩
  exact vz_runS ⟨hC.1, hC.2.1, hC.2.2.1, hC.2.2.2.1, hts⟩ (hM H.size) (va_cwS n hts (lw_S hk hy1 hy3 hy4) rfl rfl rfl hy5 hR) hp rfl hn hls hst (cat_le hcat) hdg hf
theorem tz_of {y : MethodName} {d : Nat} {av : List Value} {lv : List (Nat × Value)} {s1 : ST} {maxL : Nat} {ret : Option FieldType} (hy : plainName y.cls = true) (hlen : (lg_sl av).length ≤ maxL) (hlv : lv_args 0 av = lv)
    (body : ∀ (p : Program) (e : Env) (s0 : State) (m : MethodId) (args : Array Value) (below : List Frame) (meth : Method) (c : Code) (ls : Array Slot) (A : Nat → Prop), CX p s0 m args meth c G A cc y.cls maxL → (∀ x ∈ c.exceptionTable.toList, False) → AW G a A s s0.heap s0.heap [] → lv_has ls maxL lv →
      WZ p l e (rmA d 3 54) s0 m args below meth c s0.heap [] G A (XCZ G a s1 A) 0 ls []) : TZ l G y (ws_ y cc maxL ret) d av a s s1 := by
  intro sz
  refine vz_ofW (cc := cc) (maxL := maxL) (ret := ret) hy rfl ?_
  intro p e s0 m args below meth c s₁ B hml hno hv
  obtain ⟨hav, hsz, q1, q2, q3, q4, q5, q6⟩ := hv
  have hts := atoms_spec (ws := ws_ y cc maxL ret) B.pre
  have hts : ∀ w ∈ lw_all, w.before args s0 = true := fun w h => hts w (List.mem_cons_of_mem _ h)
  have hl := lv_entry av (n := maxL) hlen
  subst hsz
  have hA : ∀ q, s0.heap.size ≤ q → va_A (wl G.2.1 a s) s0.heap.size q := fun q h => Or.inr h
  have hAb : ∀ q, va_A (wl G.2.1 a s) s0.heap.size q → G.2.2.1 ≤ q := by
    intro q hq
    rcases hq with ⟨k, ev, h⟩ | h
    · unfold wl at h
      rw [List.getElem?_map] at h
      obtain ⟨r, hr, hr2⟩ := Option.map_eq_some_iff.mp h
      have hr1 : r < s.1 := List.mem_range.mp (List.mem_of_getElem? hr)
      have hq2 : a r = q := congrArg Prod.fst hr2
      rw [← hq2]
      exact q5.2 r hr1
    · exact Nat.le_trans q6 h
  rw [hlv] at hl
  have key := body p e s0 m args below meth c _ _ ⟨B.exec, B.bytes, hml, findClass_of_methodNamed B.named, hts, q2, q4, hA, hAb, B.notSynchronized⟩ hno ⟨q1, q3.self, va_S.rf, q5⟩ hl
  have he : entryFrame m args maxL = F0 m 0 ((lg_sl av ++ List.replicate (maxL - (lg_sl av).length) Slot.unset).toArray) [] := by rw [hav, lg_entry_eq]
  exact W.eq he key
end AWZ
