set_option maxRecDepth 100000
/-! THE SIX STRING CONSTANTS -/
def stLen (i : Nat) : Nat := stL.getD i 0
def stAt (i : Nat) (k : Int32) : Int32 := (stB.getD i []).getD k.toNatClampNeg 0
def narR (t : FieldType) (v : Int32) : Int32 := match narrow t (.int v) with
  | .int x => x
  | _ => v
theorem nbR {t : FieldType} {v : Int32} (h : narR t v = v) : narrow t (.int v) = .int v := by
  unfold narR at h
  cases t <;> first | rfl | (simp only [narrow] at h ⊢; rw [h])
section AWST
variable {p : Program} {l : Launch} {e : Env} {R : Room} {s0 : State} {m : MethodId} {args : Array Value} {below : List Frame} {meth : Method} {c : Code} {H : Heap} {locs : List Loc} {cells slots : Nat} {Q : State → Prop}
variable {cc : ByteArray} {pc nL : Nat} {ls : Array Slot} {rest : List Value} {G : GM} {A : Nat → Prop} {a : Nat → Nat} {s : ST} {own : String}
theorem aw_st (hC : CX p s0 m args meth c G A cc own nL) : vk_S 6 stL stB G.2.2.2.1 G.2.2.2.2 A s0 s0.heap := hC.2.2.2.2.2.2.1.2.2.2.1.1.narrow hC.2.2.2.2.2.2.2.2.1
theorem aw_sval {i index : Nat} (hi : i < 6) (hC : CX p s0 m args meth c G A cc own nL) (hW : AW G a A s s0.heap H locs) (hlink : Cond.fieldLink own index "java/lang/String" "value" "[B" ∈ lw_all) (hdg : decode cc pc = .ok (.getfield index, 3))
    (kk : W p l e R s0 m args below meth c H locs cells slots Q (F0 m (pc + 3) ls (.ref (G.2.2.2.2 i) :: rest))) : W p l e R s0 m args below meth c H locs cells slots Q (F0 m pc ls (.ref (G.2.2.2.1 i) :: rest)) :=
  vk_getf hC.1 hC.2.1 ((aw_st hC).1 i hi).2.2.1 hW.2.2.1 hC.2.2.2.1 (hC.2.2.2.2.1 _ hlink) (fun _ h => h) hdg kk
theorem aw_scod {i index : Nat} (hi : i < 6) (hC : CX p s0 m args meth c G A cc own nL) (hW : AW G a A s s0.heap H locs) (hlink : Cond.fieldLink own index "java/lang/String" "coder" "B" ∈ lw_all) (hdg : decode cc pc = .ok (.getfield index, 3))
    (kk : W p l e R s0 m args below meth c H locs cells slots Q (F0 m (pc + 3) ls (.int 0 :: rest))) : W p l e R s0 m args below meth c H locs cells slots Q (F0 m pc ls (.ref (G.2.2.2.1 i) :: rest)) :=
  vk_getf hC.1 hC.2.1 ((aw_st hC).1 i hi).2.1 hW.2.2.1 hC.2.2.2.1 (hC.2.2.2.2.1 _ hlink) (fun _ h => h) hdg kk
theorem aw_slen {i : Nat} (hi : i < 6) (hC : CX p s0 m args meth c G A cc own nL) (hW : AW G a A s s0.heap H locs) (hdg : decode cc pc = .ok (.arraylength, 1))
    (kk : W p l e R s0 m args below meth c H locs cells slots Q (F0 m (pc + 1) ls (.int (Int32.ofNat (stLen i)) :: rest))) : W p l e R s0 m args below meth c H locs cells slots Q (F0 m pc ls (.ref (G.2.2.2.2 i) :: rest)) :=
  va_tlen hC.1 hC.2.1 ((aw_st hC).1 i hi).2.2.2 hW.2.2.1 rfl hdg kk
theorem aw_sbal {i : Nat} {k : Int32} (hi : i < 6) (hk : ¬ (k < 0 ∨ stLen i ≤ k.toNatClampNeg)) (hC : CX p s0 m args meth c G A cc own nL) (hW : AW G a A s s0.heap H locs) (hdg : decode cc pc = .ok (.baload, 1))
    (kk : W p l e R s0 m args below meth c H locs cells slots Q (F0 m (pc + 1) ls (.int (stAt i k) :: rest))) : W p l e R s0 m args below meth c H locs cells slots Q (F0 m pc ls (.int k :: .ref (G.2.2.2.2 i) :: rest)) :=
  va_tb hC.1 hC.2.1 ((aw_st hC).1 i hi).2.2.2 hW.2.2.1 hk rfl hdg kk
theorem aw_compact {index : Nat} (hC : CX p s0 m args meth c G A cc own nL) (hW : AW G a A s s0.heap H locs) (hlink : Cond.fieldLink own index "java/lang/String" "COMPACT_STRINGS" "Z" ∈ lw_all) (hdg : decode cc pc = .ok (.getstatic index, 3))
    (kk : W p l e R s0 m args below meth c H locs cells slots Q (F0 m (pc + 3) ls (.int 1 :: rest))) : W p l e R s0 m args below meth c H locs cells slots Q (F0 m pc ls rest) :=
  va_gets hC.1 hC.2.1 (hC.2.2.2.2.2.2.1.2.2.2.2.1.narrow hC.2.2.2.2.2.2.2.2.1) hW.2.2.1 hC.2.2.2.1 (hC.2.2.2.2.1 _ hlink) (fun _ h => h) hdg kk
theorem aw_sioobe {index : Nat} (hC : CX p s0 m args meth c G A cc own nL) (hW : AW G a A s s0.heap H locs) (hlink : Cond.fieldLink own index "jdk/internal/util/Preconditions" "SIOOBE_FORMATTER" "Ljava/util/function/BiFunction;" ∈ lw_all) (hdg : decode cc pc = .ok (.getstatic index, 3))
    (kk : ∀ v : Value, (v = .null ∨ ∃ t, v = .ref t) → W p l e R s0 m args below meth c H locs cells slots Q (F0 m (pc + 3) ls (v :: rest))) : W p l e R s0 m args below meth c H locs cells slots Q (F0 m pc ls rest) := by
  rcases va_Zq.narrow hC.2.2.2.2.2.2.1.2.2.2.2.2.2.2.1 hC.2.2.2.2.2.2.2.2.1 with h | ⟨t, h⟩
  · exact va_gets hC.1 hC.2.1 h hW.2.2.1 hC.2.2.2.1 (hC.2.2.2.2.1 _ hlink) (fun _ h => h) hdg (kk _ (Or.inl rfl))
  · exact va_gets hC.1 hC.2.1 h hW.2.2.1 hC.2.2.2.1 (hC.2.2.2.2.1 _ hlink) (fun _ h => h) hdg (kk _ (Or.inr ⟨t, rfl⟩))
theorem aw_ldcS (i : Nat) {index : Nat} (hi : i < 6) (ho : stO i = own) (hx : stI i = index) (hC : CX p s0 m args meth c G A cc own nL) (hdg : decode cc pc = .ok (.ldc index, 2))
    (kk : W p l e R s0 m args below meth c H locs cells slots Q (F0 m (pc + 2) ls (.ref (G.2.2.2.1 i) :: rest))) : W p l e R s0 m args below meth c H locs cells slots Q (F0 m pc ls rest) := by
  have h := hC.2.2.2.2.2.2.1.2.2.2.1.2 i hi
  rw [ho, hx] at h
  exact va_ldcS hC.1 hC.2.1 hC.2.2.2.1 h hdg kk
/-- a call of a method of String on a constant -/
theorem aw_dSt1 {y : MethodName} {cy : ByteArray} {maxL n index d i : Nat} {ret : Option FieldType} {As st0 : List Value} {s1 : ST} {v : Value} (hi : i < 6) (hM : MD l G y (ws_ y cy maxL ret) d (.ref (G.2.2.2.1 i) :: As) a s (some v) s1) (hC : CX p s0 m args meth c G A cc own nL) (hW : AW G a A s s0.heap H locs) (hls : ls.size = nL) (hy : VY y cy maxL ret n) (hyc : y.cls = "java/lang/String") (hk : Cond.methodLink own index y ∈ lw_all) (hn : As.length = n) (hst : st0 = As.reverse ++ .ref (G.2.2.2.1 i) :: rest) (hcat : (rest.map fun v => v.category).sum ≤ 8) (hR : d + 1 ≤ R.frames ∧ 8 + (maxL + 11) + 40 * d ≤ R.locals) (hf : cells ≤ R.cells ∧ slots ≤ R.slots) (hdg : decode cc pc = .ok (.invokevirtual index, 3))
    (kk : ∀ (H : Heap) (locs : List Loc), AW G a A s1 s0.heap H locs → W p l e R s0 m args below meth c H locs cells slots Q (F0 m (pc + 3) ls (v :: rest))) : W p l e R s0 m args below meth c H locs cells slots Q (F0 m pc ls st0) := by
  obtain ⟨hy1, hy2, hy3, hy4, hy5⟩ := hy
  have hts := hC.2.2.2.2.1
  have hp : PreV s0 H y.cls (G.2.2.2.1 i) (PcW G (.ref (G.2.2.2.1 i) :: As) a s H.size) As := ⟨PcW.blind, by rw [hyc]; exact vk_recv (aw_st hC) hi hW.2.2.1, aw_pre hC hW⟩
  refine aw_run hC hW (va_runV (C := y.cls) ⟨hC.1, hC.2.1, hC.2.2.1, hC.2.2.2.1, hts⟩ (hM H.size) (cwV n hts (lw_V hk hy1 hy2 hy3 hy4) rfl rfl rfl ⟨rfl, hy5.1, hy5.2.1, hy5.2.2⟩ hR) hp rfl hn hls hst (cat_le hcat) hdg ⟨hf.1, hf.2⟩) (fun v' a' s' H1 locs1 h hW1 => ?_)
  obtain ⟨rfl, rfl, rfl⟩ := h
  exact kk H1 locs1 hW1

end AWST
