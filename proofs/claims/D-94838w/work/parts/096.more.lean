set_option maxRecDepth 100000
section AWX
variable {p : Program} {l : Launch} {e : Env} {R : Room} {s0 : State} {m : MethodId} {args : Array Value} {below : List Frame} {meth : Method} {c : Code} {H : Heap} {locs : List Loc} {cells slots : Nat} {Q : State → Prop}
variable {cc : ByteArray} {pc nL : Nat} {ls : Array Slot} {rest : List Value} {G : GM} {A : Nat → Prop} {a : Nat → Nat} {s : ST} {own : String}
/-! arraycopy of references, instanceof and checkcast of arrays -/
theorem aw_copyT {r r1 index : Nat} {sp dp n : Int32} {s' : ST} (es : s' = pRr s r1 (va_cpy (gr s r) (gr s r1) sp.toNatClampNeg dp.toNatClampNeg n.toNatClampNeg)) (hC : CX p s0 m args meth c G A cc own nL) (hW : AW G a A s s0.heap H locs) (hml : c.maxLocals = ls.size) (hlink : Cond.methodLink own index arraycopyName ∈ lw_all) (hnat : Cond.native arraycopyName ∈ lw_all) (hstat : Cond.static arraycopyName ∈ lw_all) (hini : Cond.initialized "java/lang/System" ∈ lw_all)
    (hr : r < s.1 ∧ (kd s r).1 = 106) (hr1 : r1 < s.1 ∧ (kd s r1).1 = 106) (hin : (¬ sp < 0 ∧ ¬ dp < 0 ∧ ¬ n < 0) ∧ sp.toNatClampNeg + n.toNatClampNeg ≤ (kd s r).2 ∧ dp.toNatClampNeg + n.toNatClampNeg ≤ (kd s r1).2) (hel : ∀ k, k < n.toNatClampNeg → (gr s r (sp.toNatClampNeg + k)).all (fun q => decide (q < s.1 ∧ (kd s q).1 = 2)) = true) (hframes : 1 ≤ R.frames) (hlocals : (rest.map fun v => v.category).sum + (nativeFrameWords "java/lang/System" "arraycopy" 5 + 11) ≤ R.locals) (hdg : decode cc pc = .ok (.invokestatic index, 3))
    (kk : ∀ (H : Heap) (locs : List Loc), AW G a A s' s0.heap H locs → W p l e R s0 m args below meth c H locs cells slots Q (F0 m (pc + 3) ls rest)) : W p l e R s0 m args below meth c H locs cells slots Q (F0 m pc ls (.int n :: .int dp :: .ref (a r1) :: .int sp :: .ref (a r) :: rest)) := by
  subst es
  obtain ⟨hx, hb, -, hown, hts, hK, hSB, hA, hAb, -⟩ := hC
  obtain ⟨hP, hD, hS, hwf1, hwf2⟩ := hW
  have he : (wl G.2.1 a s)[r]? = some (a r, .inl (G.2.1 (5 + 1), (kd s r).2, .inr (.inr (.inr (.inr (fun k => (gr s r k).map a)))))) := by rw [wl_at hr.1, ec_ref 1 hr.2]
  have he1 : (wl G.2.1 a s)[r1]? = some (a r1, .inl (G.2.1 (5 + 1), (kd s r1).2, .inr (.inr (.inr (.inr (fun k => (gr s r1 k).map a)))))) := by rw [wl_at hr1.1, ec_ref 1 hr1.2]
  have hT : (tyL G.2.1)[5 + 1]? = some (G.2.1 (5 + 1), .object RX2) := rfl
  have hcls : ClassAt s0 RX2 (G.1.1 1) := (hK.1 1 (RX2, TX2, 11) rfl).2
  refine va_copyq (C := RX2) (E0 := RX2) (E1 := RX2) hx hb hml hown (hts _ hlink) (hts _ hnat) (hts _ hstat) (hts _ hini) hK hP hD hS r r1 (5 + 1) (5 + 1) he he1 hT hT hin.1.1 hin.1.2.1 hin.1.2.2 hin.2.1 hin.2.2 (fun i hi y hy => ?_) (fun comp c0 h1 h2 => ?_) hframes hlocals hdg (fun H1 locs1 g1 g2 g3 => ?_)
  · obtain ⟨q, hq, rfl⟩ := Option.map_eq_some_iff.mp hy
    have h := hel i hi
    rw [hq] at h
    have h : q < s.1 ∧ (kd s q).1 = 2 := of_decide_eq_true h
    exact va_recv hK hP (q := (RX2, TX2, 11)) (ci := 1) rfl (wl_obj (ca := G.2.1) (a := a) h (by decide))
  · cases hcls.1.symm.trans h1
    cases hcls.1.symm.trans h2
    exact va_assign hcls
  · have hset : (wl G.2.1 a s).set r1 (a r1, .inl (G.2.1 (5 + 1), (kd s r1).2, .inr (.inr (.inr (.inr (va_cpy (fun k => (gr s r k).map a) (fun k => (gr s r1 k).map a) sp.toNatClampNeg dp.toNatClampNeg n.toNatClampNeg)))))) = wl G.2.1 a (pRr s r1 (va_cpy (gr s r) (gr s r1) sp.toNatClampNeg dp.toNatClampNeg n.toNatClampNeg)) := by
      refine wl_set rfl ?_ (fun r' hr' => ⟨rfl, rfl, rfl, ?_⟩)
      · rw [ec_ref (q := kd (pRr s r1 (va_cpy (gr s r) (gr s r1) sp.toNatClampNeg dp.toNatClampNeg n.toNatClampNeg)) r1) 1 hr1.2]
        congr 1
        simp only [Prod.mk.injEq, true_and]
        refine ⟨rfl, ?_⟩
        congr 4
        funext k
        simp only [va_cpy, gr, pRr, if_true]
        split <;> rfl
      · funext k
        simp [gr, pRr, hr']
    rw [hset] at g1 g2
    refine kk H1 locs1 ⟨g1, g2, g3, fun r' k q' hq' => ?_, hwf2⟩
    by_cases z : r' = r1
    · subst z
      have hq' : va_cpy (gr s r) (gr s r') sp.toNatClampNeg dp.toNatClampNeg n.toNatClampNeg k = some q' := by simpa [gr, pRr] using hq'
      unfold va_cpy at hq'
      split at hq'
      · exact hwf1 _ _ _ hq'
      · exact hwf1 _ _ _ hq'
    · have hq' : gr s r' k = some q' := by simpa [gr, pRr, z] using hq'
      exact hwf1 _ _ _ hq'
def nmA (j : Nat) : String := if j = 0 then "[I" else if j = 1 then "[B" else "[S"
theorem nmA_at (hC : CX p s0 m args meth c G A cc own nL) {j : Nat} (hj : j < 3) : s0.vm.findClass (nmA j) = some (G.2.1 j) := by
  have hK := hC.2.2.2.2.2.1
  rcases (show j = 0 ∨ j = 1 ∨ j = 2 by omega) with rfl | rfl | rfl
  · have h := (hK.2 0 (G.2.1 0, .int) rfl).2
    have e : "[" ++ FieldType.int.toString = nmA 0 := by decide +kernel
    rw [← e]; exact h
  · have h := (hK.2 1 (G.2.1 1, .byte) rfl).2
    have e : "[" ++ FieldType.byte.toString = nmA 1 := by decide +kernel
    rw [← e]; exact h
  · have h := (hK.2 2 (G.2.1 2, .short) rfl).2
    have e : "[" ++ FieldType.short.toString = nmA 2 := by decide +kernel
    rw [← e]; exact h
theorem aw_castA {r j index : Nat} (hj : j < 3) (hC : CX p s0 m args meth c G A cc own nL) (hW : AW G a A s s0.heap H locs) (hr : r < s.1 ∧ (kd s r).1 = 100 + j) (hlink : Cond.classLink own index (nmA j) ∈ lw_all) (hdg : decode cc pc = .ok (.checkcast index, 3))
    (kk : W p l e R s0 m args below meth c H locs cells slots Q (F0 m (pc + 3) ls (.ref (a r) :: rest))) : W p l e R s0 m args below meth c H locs cells slots Q (F0 m pc ls (.ref (a r) :: rest)) := by
  have he : (wl G.2.1 a s)[r]? = some (a r, .inl (G.2.1 j, (kd s r).2, .inl (gi s r))) := by rw [wl_at hr.1, ec_int j hr.2 (by omega)]
  exact va_castA hC.1 hC.2.1 hC.2.2.2.1 (hC.2.2.2.2.1 _ hlink) hW.1 r he (nmA_at hC hj) hdg kk
theorem aw_instA {r j index : Nat} (hj : j < 3) (hC : CX p s0 m args meth c G A cc own nL) (hW : AW G a A s s0.heap H locs) (hr : r < s.1 ∧ (kd s r).1 = 100 + j) (hlink : Cond.classLink own index (nmA j) ∈ lw_all) (hdg : decode cc pc = .ok (.instanceof index, 3))
    (kk : W p l e R s0 m args below meth c H locs cells slots Q (F0 m (pc + 3) ls (.int 1 :: rest))) : W p l e R s0 m args below meth c H locs cells slots Q (F0 m pc ls (.ref (a r) :: rest)) := by
  have he : (wl G.2.1 a s)[r]? = some (a r, .inl (G.2.1 j, (kd s r).2, .inl (gi s r))) := by rw [wl_at hr.1, ec_int j hr.2 (by omega)]
  have hc : H[a r]? = some (vp_cell (G.2.1 j) ((kd s r).2, .inl (gi s r))) := hW.1 r _ he
  obtain ⟨hx, hb, -, hown, hts, hK, -⟩ := id hC
  intro T hT X
  obtain ⟨vm', X', st⟩ := X.instanceofYes hx hown (hts _ hlink) (by rw [hT]; exact hc) rfl (nmA_at hC hj) (va_asg _ _) (g := F0 m pc ls (.ref (a r) :: rest)) rfl rfl (by rw [hb]; exact hdg)
  obtain ⟨t, a1, b1⟩ := kk (T.setVm vm') hT X'
  exact ⟨t, st t a1, b1⟩
theorem aw_instN {r j i index : Nat} (hj : (j = 2 ∧ i = 1) ∨ (j = 0 ∧ i = 1) ∨ (j = 0 ∧ i = 2)) (hC : CX p s0 m args meth c G A cc own nL) (hW : AW G a A s s0.heap H locs) (hr : r < s.1 ∧ (kd s r).1 = 100 + j) (hlink : Cond.classLink own index (nmA i) ∈ lw_all) (hdg : decode cc pc = .ok (.instanceof index, 3))
    (kk : W p l e R s0 m args below meth c H locs cells slots Q (F0 m (pc + 3) ls (.int 0 :: rest))) : W p l e R s0 m args below meth c H locs cells slots Q (F0 m pc ls (.ref (a r) :: rest)) := by
  have hj3 : j < 3 := by omega
  have he : (wl G.2.1 a s)[r]? = some (a r, .inl (G.2.1 j, (kd s r).2, .inl (gi s r))) := by rw [wl_at hr.1, ec_int j hr.2 (by omega)]
  have hc : H[a r]? = some (vp_cell (G.2.1 j) ((kd s r).2, .inl (gi s r))) := hW.1 r _ he
  have hn : va_Nc (nmA j) (nmA i) s0 := by
    obtain ⟨h1, h2, h3⟩ := hC.2.2.2.2.2.2.1.2.2.2.2.2.2.2.2
    rcases hj with ⟨rfl, rfl⟩ | ⟨rfl, rfl⟩ | ⟨rfl, rfl⟩
    · exact h1
    · exact h2
    · exact h3
  exact va_instNo hC.1 hC.2.1 hC.2.2.2.1 (hC.2.2.2.2.1 _ hlink) hn ⟨_, hc, rfl, nmA_at hC hj3⟩ hdg kk

end AWX
