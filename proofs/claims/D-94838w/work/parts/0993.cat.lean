set_option maxRecDepth 100000
/-! methods that make cells and catch -/
def oh {β : Type} (o : Option (Int32 × ST)) (Hn : Int32 → ST → Option β) (K : Option β) : Option β := match o with
  | some r => Hn r.1 r.2
  | none => K
theorem oh_cases {β : Type} {o : Option (Int32 × ST)} {Hn : Int32 → ST → Option β} {K : Option β} {x : β} (h : oh o Hn K = some x) : (∃ pl s1, o = some (pl, s1) ∧ Hn pl s1 = some x) ∨ K = some x := by
  cases o with
  | none => exact Or.inr h
  | some r => exact Or.inl ⟨r.1, r.2, rfl, h⟩
section AWC

variable {p : Program} {l : Launch} {e : Env} {R : Room} {s0 : State} {m : MethodId} {args : Array Value} {below : List Frame} {meth : Method} {c : Code} {H : Heap} {locs : List Loc} {cells slots : Nat} {Q : State → Prop}
variable {cc : ByteArray} {pc nL : Nat} {ls : Array Slot} {rest : List Value} {G : GM} {A : Nat → Prop} {a : Nat → Nat} {s : ST} {own : String}
theorem mf_ofH {y : MethodName} {rm : Room} {av : List Value} {lv : List (Nat × Value)} {P : Option Value → (Nat → Nat) → ST → Prop} {maxL : Nat} {ret : Option FieldType} {hh : List (Nat × Nat × Nat × Nat)} (hy : plainName y.cls = true) (hlen : (lg_sl av).length ≤ maxL) (hlv : lv_args 0 av = lv)
    (body : ∀ (p : Program) (e : Env) (s0 : State) (m : MethodId) (args : Array Value) (below : List Frame) (meth : Method) (c : Code) (ls : Array Slot) (A : Nat → Prop), CX p s0 m args meth c G A cc y.cls maxL → c.exceptionTable.toList = tableOf hh → meth.sig.returnType = ret → meth.name = y.name → AW G a A s s0.heap s0.heap [] → lv_has ls maxL lv →
      W p l e rm s0 m args below meth c s0.heap [] 0 0 (MQ below (QW G A P) args s0 rm.cells rm.slots A) (F0 m 0 ls [])) : MF l G y (wsW_ y cc maxL ret hh) rm av a s P := by
  intro sz
  have hall : ∀ p e s0 m args below meth c s₁, BodyLoose p l y (headSpec (wsW_ y cc maxL ret hh) rm) cc maxL ret e s0 m args below meth c s₁ → c.maxLocals = maxL → PcW G av a s sz args s0 →
      W p l e (headSpec (wsW_ y cc maxL ret hh) rm).room s0 m args below meth c s0.heap [] 0 0 (MQ below (QW G (va_A (wl G.2.1 a s) sz) P) args s0 rm.cells rm.slots (va_A (wl G.2.1 a s) sz)) (entryFrame m args maxL) := by
    intro p e s0 m args below meth c s₁ B hml hv
    obtain ⟨hav, hsz, q1, q2, q3, q4, q5, q6⟩ := hv
    have hts := atoms_spec (ws := wsW_ y cc maxL ret hh) B.pre
    have htab : c.exceptionTable.toList = tableOf hh := vx_table (x := y) B (hts _ List.mem_cons_self)
    have hts : ∀ w ∈ lw_all, w.before args s0 = true := fun w h => hts w (List.mem_cons_of_mem _ h)
    have hl := lv_entry av (n := maxL) hlen
    subst hsz
    have hA : ∀ q, s0.heap.size ≤ q → va_A (wl G.2.1 a s) s0.heap.size q := fun q h => Or.inr h
    have hAb : ∀ q, va_A (wl G.2.1 a s) s0.heap.size q → G.2.2.1 ≤ q := by
      intro q hq
      rcases hq with ⟨k, ev, h⟩ | h
      · unfold wl at h
        rw [List.getElem?_map] at h
        obtain ⟨r, hr, hr2⟩ := Option.map_eq_some_iff.mp h
        have hr1 : r < s.1 := List.mem_range.mp (List.mem_of_getElem? hr)
        have hq2 : a r = q := congrArg Prod.fst hr2
        rw [← hq2]
        exact q5.2 r hr1
      · exact Nat.le_trans q6 h
    rw [hlv] at hl
    have key := body p e s0 m args below meth c _ _ ⟨B.exec, B.bytes, hml, findClass_of_methodNamed B.named, hts, q2, q4, hA, hAb, B.notSynchronized⟩ htab B.returns (name_of_methodNamed B.named B.method).1 ⟨q1, q3.self, va_S.rf, q5⟩ hl
    have he : entryFrame m args maxL = F0 m 0 ((lg_sl av ++ List.replicate (maxL - (lg_sl av).length) Slot.unset).toArray) [] := by rw [hav, lg_entry_eq]
    exact W.eq he key
  exact va_MetW (cc := cc) (maxL := maxL) (ret := ret) (hh := hh) hy rfl hall
theorem ma_ofH {y : MethodName} {d mc ms : Nat} {av : List Value} {lv : List (Nat × Value)} {v : (Nat → Nat) → Option Value} {s1 : ST} {maxL : Nat} {ret : Option FieldType} {hh : List (Nat × Nat × Nat × Nat)} (hy : plainName y.cls = true) (hlen : (lg_sl av).length ≤ maxL) (hlv : lv_args 0 av = lv)
    (body : ∀ (p : Program) (e : Env) (s0 : State) (m : MethodId) (args : Array Value) (below : List Frame) (meth : Method) (c : Code) (ls : Array Slot) (A : Nat → Prop) (P : Option Value → (Nat → Nat) → ST → Prop), (∀ a', EX a a' s.1 → s.1 ≤ s1.1 → P (v a') a' s1) → CX p s0 m args meth c G A cc y.cls maxL → c.exceptionTable.toList = tableOf hh → meth.sig.returnType = ret → meth.name = y.name → AW G a A s s0.heap s0.heap [] → lv_has ls maxL lv →
      WBA p l e (rmA d mc ms) s0 m args below meth c s0.heap [] G A P 0 0 mc ms 0 ls []) : MA l G y (wsW_ y cc maxL ret hh) d mc ms av a s v s1 := by
  refine mf_ofH hy hlen hlv ?_
  intro p e s0 m args below meth c ls A hC hT hr hn hW hl
  exact body p e s0 m args below meth c ls A _ (fun a' h1 h2 => ⟨rfl, rfl, h1, h2⟩) hC hT hr hn hW hl
theorem aw_catch {E nm : String} {q h1 h2 h3 h4 : Nat} {ce : Cell} (hC : CX p s0 m args meth c G A cc own nL) (hT : c.exceptionTable.toList = tableOf [(h1, h2, h3, h4)]) (hce : H[q]? = some ce) (hv : ce.vm = .none) (hcl : s0.vm.findClass E = some ce.cls) (hcov : h1 ≤ pc ∧ pc < h2 ∧ h4 ≠ 0) (hlk : Cond.classLink own h4 nm ∈ lw_all) (hca : Cond.castable E nm ∈ lw_tbl)
    (kk : W p l e R s0 m args below meth c H locs cells slots Q (F0 m h3 ls [.ref q])) : vx_W p l e R s0 m args below meth c H locs cells slots Q (F0 m pc ls rest) q := by
  obtain ⟨hx, hb, -, hown, hts, hK, hSB, -⟩ := hC
  refine vx_catch (name := nm) (E := E) (own := own) hown [] ⟨h1, h2, h3, h4⟩ [] hT (fun z hz => by cases hz) ?_ hcov.2.2 (hts _ hlk) (va_Nw.use rfl (hSB.1 _ hca rfl)) hce hv hcl kk
  show (decide (h1 ≤ pc) && decide (pc < h2)) = true
  simp [hcov.1, hcov.2.1]
theorem aw_catchF {q h1 h2 h3 h4 : Nat} {pl : Int32} (hC : CX p s0 m args meth c G A cc own nL) (hT : c.exceptionTable.toList = tableOf [(h1, h2, h3, h4)]) (hF : FCel q pl s0 H) (hcov : h1 ≤ pc ∧ pc < h2 ∧ h4 ≠ 0) (hlk : Cond.classLink own h4 RX16 ∈ lw_all)
    (kk : W p l e R s0 m args below meth c H locs cells slots Q (F0 m h3 ls [.ref q])) : vx_W p l e R s0 m args below meth c H locs cells slots Q (F0 m pc ls rest) q := by
  obtain ⟨i, cell, hi, hce, hv, hcl, hpl⟩ := hF
  exact aw_catch hC hT hce hv hcl hcov hlk q560 kk
theorem aw_gX {q index : Nat} {host : String} {pl : Int32} (hC : CX p s0 m args meth c G A cc own nL) (hF : FCel q pl s0 H) (hl : Cond.fieldLinkNest own index RX16 "place" "I" host ∈ lw_tbl) (hdg : decode cc pc = .ok (.getfield index, 3))
    (kk : W p l e R s0 m args below meth c H locs cells slots Q (F0 m (pc + 3) ls (.int pl :: rest))) : W p l e R s0 m args below meth c H locs cells slots Q (F0 m pc ls (.ref q :: rest)) := by
  obtain ⟨hx, hb, -, hown, hts, hK, hSB, -⟩ := hC
  obtain ⟨i, cell, ⟨cf, kf, fi, f, hi, hsl⟩, hce, hv, hcl, hpl⟩ := hF
  obtain ⟨cC, kC, hfc, hkC, hkind, -⟩ := Cond.instantiable_spec (hts _ q559)
  refine va_Wgetf hx hb hown (va_Nw.use rfl (hSB.1 _ hl rfl)) hi (u_facts hfc hkC (Or.inr (hts _ q611)) hi).1 hce (by rw [hv]; exact fun h => by cases h) (v := .int pl) ?_ rfl rfl hdg kk
  rw [hsl]
  exact hpl
theorem aw_clone {r index N : Nat} (hC : CX p s0 m args meth c G A cc own nL) (hW : AW G a A s s0.heap H locs) (hls : ls.size = nL) (hr : r < s.1 ∧ (kd s r).1 = 101) (hN : (kd s r).2 = N) (hfit : ∀ i, i < (kd s r).2 → fits .byte (.int (gi s r i)) = true) (hl : Cond.methodLink own index ⟨"[B", "clone", "()Ljava/lang/Object;"⟩ ∈ lw_all) (hfr : 1 ≤ R.frames) (hlo : 22 ≤ R.locals) (hcat : (rest.map fun v => v.category).sum ≤ 8) (hcells : cells + 1 ≤ R.cells) (hslots : slots + N ≤ R.slots) (hdg : decode cc pc = .ok (.invokevirtual index, 3))
    (kk : ∀ (a' : Nat → Nat) (H1 : Heap), EX a a' s.1 → AW G a' A (nw s 101 N (gi s r)) s0.heap H1 locs → W p l e R s0 m args below meth c H1 locs (cells + 1) (slots + N) Q (F0 m (pc + 3) ls (.ref (a' s.1) :: rest))) : W p l e R s0 m args below meth c H locs cells slots Q (F0 m pc ls (.ref (a r) :: rest)) := by
  obtain ⟨hx, hb, hml, hown, hts, hK, hSB, hA, hAb, -⟩ := hC
  obtain ⟨hP, hD, hS, hwf⟩ := hW
  have he : (wl G.2.1 a s)[r]? = some (a r, .inl (G.2.1 1, N, .inl (gi s r))) := by rw [wl_at hr.1, ec_int 1 hr.2 (by decide), hN]
  refine va_clone hx hb (hml.trans hls.symm) hown (hts _ hl) (hts _ q672) (hts _ q673) (hts _ q674) (hts _ q675) (hSB.1 _ q676 rfl) hK hP hD hS hA r 1 he rfl (va_nm_byte (hK.2 1 _ rfl).2) ?_ hfr (by omega) hcells hslots hdg (fun q H1 hK1 hP1 hD1 hS1 => ?_)
  · intro i v hv
    rw [vp_cell_i] at hv
    have hi : i < N := by
      have := (Array.getElem?_eq_some_iff.mp hv).1
      rw [arrV_size] at this
      exact this
    rw [arrV_read _ _ hi] at hv
    cases hv
    exact hfit i (hN ▸ hi)
  · have h := aw_pushed (c := 101) (n := N) (f := gi s r) hwf hAb (ec_int (q := (101, N)) 1 rfl (by decide)) hP1 hD1 hS1
    have h2 := kk _ H1 EX.up h
    rw [upN_self] at h2
    exact h2
end AWC

