set_option maxRecDepth 100000
theorem ec_ext {ca : Nat → ClassId} {a a' : Nat → Nat} {q : Nat × Nat} {fi : Nat → Int32} {fl : Nat → Int64} {fr : Nat → Option Nat} (h : ∀ k r, fr k = some r → a' r = a r) : ecR ca a' q fi fl fr = ecR ca a q fi fl fr := by
  have h1 : ∀ k, (fr k).map a' = (fr k).map a := by
    intro k
    cases hk : fr k with
    | none => rfl
    | some r => simp [h k r hk]
  unfold ecR flds
  have h2 : ∀ ci, fvv a' ci fi fr = fvv a ci fi fr := fun ci => by funext k; unfold fvv; rw [h1]
  simp only [h1, h2]
def upN (a : Nat → Nat) (N q : Nat) : Nat → Nat := fun r => if r = N then q else a r
theorem wl_push {G : GM} {a : Nat → Nat} {s : ST} {c n q : Nat} {f : Nat → Int32} (hwf : WF G a s) : wl G.2.1 (upN a s.1 q) (nw s c n f) = wl G.2.1 a s ++ [(q, ecR G.2.1 (upN a s.1 q) (c, n) f (fun _ => 0) (fun _ => none))] := by
  unfold wl
  show (List.range (s.1 + 1)).map _ = _
  rw [List.range_succ, List.map_append]
  congr 1
  · apply List.map_congr_left
    intro r hr
    have hr := List.mem_range.mp hr
    have hne : r ≠ s.1 := by omega
    have e1 : kd (nw s c n f) r = kd s r := by simp [kd, nw, hne]
    have e2 : gi (nw s c n f) r = gi s r := by funext k; simp [gi, nw, hne]
    have e3 : gl (nw s c n f) r = gl s r := by funext k; simp [gl, nw, hne]
    have e4 : gr (nw s c n f) r = gr s r := by funext k; simp [gr, nw, hne]
    rw [e1, e2, e3, e4, ec_ext (a := a) (fun k r' hk => by have := hwf.1 r k r' hk; unfold upN; rw [if_neg (by omega)])]
    simp [upN, hne]
  · simp [upN, kd, nw]
    congr 1
    · funext k; simp [gi]
    · funext k; simp [gl]
    · funext k; simp [gr]
theorem WF.push {G : GM} {a : Nat → Nat} {s : ST} {c n q : Nat} {f : Nat → Int32} (hwf : WF G a s) (hq : G.2.2.1 ≤ q) : WF G (upN a s.1 q) (nw s c n f) := by
  refine ⟨fun r k q' h => ?_, fun r hr => ?_⟩
  · show q' < s.1 + 1
    by_cases hr : r = s.1
    · simp [gr, nw, hr] at h
    · have h2 : gr s r k = some q' := by simpa [gr, nw, hr] using h
      have := hwf.1 r k q' h2
      omega
  · have hr : r < s.1 + 1 := hr
    unfold upN
    by_cases h : r = s.1
    · rw [if_pos h]; exact hq
    · rw [if_neg h]; exact hwf.2 r (by omega)
theorem EX.up {a : Nat → Nat} {N q : Nat} : EX a (upN a N q) N := fun r hr => by unfold upN; rw [if_neg (by omega)]
theorem upN_self {a : Nat → Nat} {N q : Nat} : upN a N q N = q := by simp [upN]
def okT (t : FieldType) : Bool := match t with
  | .long => false
  | .float => false
  | .double => false
  | _ => true
theorem okT_d {t : FieldType} (h : okT t = true) : defaultValue t = if refKind t = true then .null else .int 0 := by
  cases t <;> first | rfl | cases h
/-! arraycopy of ints -/
def cpyI (f g : Nat → Int32) (sp dp n : Int32) : Nat → Int32 := va_cpy f g sp.toNatClampNeg dp.toNatClampNeg n.toNatClampNeg

section AWS
variable {p : Program} {l : Launch} {e : Env} {R : Room} {s0 : State} {m : MethodId} {args : Array Value} {below : List Frame} {meth : Method} {c : Code} {H : Heap} {locs : List Loc} {cells slots : Nat} {Q : State → Prop}
variable {cc : ByteArray} {pc nL : Nat} {ls : Array Slot} {rest : List Value} {G : GM} {A : Nat → Prop} {a : Nat → Nat} {s : ST} {own : String}
theorem aw_pushed {c n q : Nat} {f : Nat → Int32} {H1 : Heap} {ev : va_E} (hwf : WF G a s) (hAb : ∀ q, A q → G.2.2.1 ≤ q) (he : ecR G.2.1 (upN a s.1 q) (c, n) f (fun _ => 0) (fun _ => none) = ev) (h1 : va_P G.1 vwCl (wl G.2.1 a s ++ [(q, ev)]) H1) (h2 : va_D A (wl G.2.1 a s ++ [(q, ev)])) (h3 : va_S A s0.heap H1 locs) : AW G (upN a s.1 q) A (nw s c n f) s0.heap H1 locs := by
  have hq : A q := h2.2 (wl G.2.1 a s).length (q, ev) (by rw [List.getElem?_append_right (Nat.le_refl _)]; simp)
  have e := wl_push (c := c) (n := n) (q := q) (f := f) hwf
  rw [he] at e
  exact ⟨by rw [e]; exact h1, by rw [e]; exact h2, h3, hwf.push (hAb q hq)⟩
theorem aw_new {ci index : Nat} {q : vw_C} (hC : CX p s0 m args meth c G A cc own nL) (hW : AW G a A s s0.heap H locs) (hc : vwCl[ci]? = some q) (hcl : Cond.classLink own index q.1 ∈ lw_all) (hinst : Cond.instantiable q.1 q.2.2 ∈ lw_all) (hini : Cond.initialized q.1 ∈ lw_all) (hok : ∀ j, j < q.2.2 → okT (tF ci j) = true) (hcells : cells + 1 ≤ R.cells) (hslots : slots + q.2.2 ≤ R.slots) (hdg : decode cc pc = .ok (.new index, 3))
    (kk : ∀ (a' : Nat → Nat) (H1 : Heap), EX a a' s.1 → AW G a' A (nw s (ci + 1) 0 (fun _ => 0)) s0.heap H1 locs → W p l e R s0 m args below meth c H1 locs (cells + 1) (slots + q.2.2) Q (F0 m (pc + 3) ls (.ref (a' s.1) :: rest))) : W p l e R s0 m args below meth c H locs cells slots Q (F0 m pc ls rest) := by
  obtain ⟨hx, hb, -, hown, hts, hK, hSB, hA, hAb, -⟩ := hC
  obtain ⟨hN, hin, hty, hnm⟩ := clOK ci q hc
  obtain ⟨hP, hD, hS, hwf⟩ := hW
  refine va_new (C := q.1) (T := q.2.1) (N := q.2.2) (ci := ci) (fs := flds a ci (fun _ => 0) (fun _ => none)) hx hb hts hin (tF ci) hty hown (hts _ hcl) (hts _ hinst) (hts _ hini) hK hP hD hS hA hc (fun j hj => ?_) hcells hslots hdg (fun q' H1 g1 g2 g3 => ?_)
  · rw [okT_d (hok j hj)]
    unfold vp_V
    rw [List.getD_eq_getElem?_getD, flds_at (by rw [hN]; exact hj)]
    rfl
  · have h := aw_pushed (c := ci + 1) (n := 0) (f := fun _ => 0) hwf hAb (by rw [ec_obj (ci := ci) rfl (vw_lt hc)]; rfl) g1 g2 g3
    have h2 := kk _ H1 EX.up h
    rw [upN_self] at h2
    exact h2
theorem aw_newI (j : Nat) {atype : ArrayType} {ty : FieldType} {n : Int32} {N : Nat} (hC : CX p s0 m args meth c G A cc own nL) (hW : AW G a A s s0.heap H locs) (harr : Cond.arrayClass (newarray.typeOf atype) ∈ lw_all) (hty : newarray.typeOf atype = ty) (hj : (tyL G.2.1)[j]? = some (G.2.1 j, ty)) (hrd : va_RA s0 (G.2.1 j) ty → s0.vm.findClass ("[" ++ ty.toString) = some (G.2.1 j)) (hcell : ∀ a' : Nat → Nat, ∃ x : vp_A, ecR G.2.1 a' (100 + j, N) (fun _ => 0) (fun _ => 0) (fun _ => none) = .inl (G.2.1 j, x) ∧ vp_cell (G.2.1 j) x = arrV (G.2.1 j) N (fun _ => defaultValue ty)) (hn : ¬ n < 0) (hN : n.toNatClampNeg = N) (hbytes : N * componentBytes ty ≤ 536870912) (hcells : cells + 1 ≤ R.cells) (hslots : slots + N ≤ R.slots) (hdg : decode cc pc = .ok (.newarray atype, 2))
    (kk : ∀ (a' : Nat → Nat) (H1 : Heap), EX a a' s.1 → AW G a' A (nw s (100 + j) N (fun _ => 0)) s0.heap H1 locs → W p l e R s0 m args below meth c H1 locs (cells + 1) (slots + N) Q (F0 m (pc + 2) ls (.ref (a' s.1) :: rest))) : W p l e R s0 m args below meth c H locs cells slots Q (F0 m pc ls (.int n :: rest)) := by
  subst hty
  obtain ⟨hx, hb, -, hown, hts, hK, hSB, hA, hAb, -⟩ := hC
  obtain ⟨hP, hD, hS, hwf⟩ := hW
  refine va_newaK hx hb (hts _ harr) rfl hdg rfl hn hN hbytes hcells hslots rfl (fun H1 cA e1 z1 o1 hAr hf => ?_)
  have hcA : cA = G.2.1 j := Option.some.inj (hf.symm.trans (hrd (hK.2 j _ hj).2))
  subst hcA
  obtain ⟨x, hx1, hx2⟩ := hcell (upN a s.1 H.size)
  have h := aw_pushed (c := 100 + j) (n := N) (f := fun _ => 0) (q := H.size) (s0 := s0) (H1 := H1) (locs := locs) (A := A) hwf hAb hx1 ((hP.kept fun k y hy => o1 y.1 ((hP k y hy).lt)).app (fun k y hy => by
      have hz : k < 1 := (List.getElem?_eq_some_iff.mp hy).1
      rw [show k = 0 by omega] at hy
      cases hy
      show H1[H.size]? = some (vp_cell _ _)
      rw [hx2]
      exact e1)) (hD.push hP rfl (hA _ hS.1)) ⟨Nat.le_trans hS.1 (by omega), fun q h1 h2 => (o1 q (Nat.lt_of_lt_of_le h1 hS.1)).trans (hS.2.1 q h1 h2), hS.2.2⟩
  have h2 := kk _ H1 EX.up h
  rw [upN_self] at h2
  exact h2
theorem cellI (ca : Nat → ClassId) {j N : Nat} {ty : FieldType} (hj : j < 4) (ht : defaultValue ty = .int 0) (a' : Nat → Nat) : ∃ x : vp_A, ecR ca a' (100 + j, N) (fun _ => 0) (fun _ => 0) (fun _ => none) = .inl (ca j, x) ∧ vp_cell (ca j) x = arrV (ca j) N (fun _ => defaultValue ty) :=
  ⟨(N, .inl (fun _ => 0)), ec_int j rfl hj, by rw [vp_cell_i, ht]⟩
theorem cellL (ca : Nat → ClassId) {N : Nat} (a' : Nat → Nat) : ∃ x : vp_A, ecR ca a' (100 + 4, N) (fun _ => 0) (fun _ => 0) (fun _ => none) = .inl (ca 4, x) ∧ vp_cell (ca 4) x = arrV (ca 4) N (fun _ => defaultValue .long) :=
  ⟨(N, .inr (.inl (fun _ => 0))), ec_long rfl, by rw [vp_cell_l]; rfl⟩
theorem aw_newQ (j : Nat) {index : Nat} {n : Int32} {N : Nat} (hC : CX p s0 m args meth c G A cc own nL) (hW : AW G a A s s0.heap H locs) (hj : j < 3) (hcl : Cond.classLink own index (elC j).1 ∈ lw_all) (hn : ¬ n < 0) (hN : n.toNatClampNeg = N) (hbytes : N * 4 ≤ 536870912) (hcells : cells + 1 ≤ R.cells) (hslots : slots + N ≤ R.slots) (hdg : decode cc pc = .ok (.anewarray index, 3))
    (kk : ∀ (a' : Nat → Nat) (H1 : Heap), EX a a' s.1 → AW G a' A (nw s (105 + j) N (fun _ => 0)) s0.heap H1 locs → W p l e R s0 m args below meth c H1 locs (cells + 1) (slots + N) Q (F0 m (pc + 3) ls (.ref (a' s.1) :: rest))) : W p l e R s0 m args below meth c H locs cells slots Q (F0 m pc ls (.int n :: rest)) := by
  obtain ⟨hx, hb, -, hown, hts, hK, hSB, hA, hAb, -⟩ := hC
  obtain ⟨hP, hD, hS, hwf⟩ := hW
  have hAO : va_AO (elC j).1 s0 := by
    obtain ⟨-, -, ⟨h3, h4, h5⟩, -⟩ := hSB
    rcases (show j = 0 ∨ j = 1 ∨ j = 2 by omega) with rfl | rfl | rfl
    · exact h3
    · exact h4
    · exact h5
  have hRA := (hK.2 (5 + j) _ (elT _ hj)).2
  refine va_newq (C := (elC j).1) hx hb hown (hts _ hcl) hAO hK hP hD hS hA hn hN hbytes hcells hslots hdg (fun q cA H1 g0 g1 g2 g3 => ?_)
  have hRA2 := (g0.2 8 (cA, .object (elC j).1) rfl).2
  have hcA : cA = G.2.1 (5 + j) := by
    obtain ⟨_, _, _, _, _, e1⟩ := hRA
    obtain ⟨_, _, _, _, _, e2⟩ := hRA2
    exact Option.some.inj (e2.symm.trans e1)
  subst hcA
  have h := aw_pushed (c := 105 + j) (n := N) (f := fun _ => 0) hwf hAb (by rw [ec_ref j rfl]; rfl) g1 g2 g3
  have h2 := kk _ H1 EX.up h
  rw [upN_self] at h2
  exact h2
theorem aw_copyI {r r1 index : Nat} {sp dp n : Int32} {s' : ST} (es : s' = pIr s r1 (cpyI (gi s r) (gi s r1) sp dp n)) (hC : CX p s0 m args meth c G A cc own nL) (hW : AW G a A s s0.heap H locs) (hml : c.maxLocals = ls.size) (hlink : Cond.methodLink own index arraycopyName ∈ lw_all) (hnat : Cond.native arraycopyName ∈ lw_all) (hstat : Cond.static arraycopyName ∈ lw_all) (hini : Cond.initialized "java/lang/System" ∈ lw_all)
    (hr : r < s.1 ∧ (kd s r).1 = 100) (hr1 : r1 < s.1 ∧ (kd s r1).1 = 100) (hin : (¬ sp < 0 ∧ ¬ dp < 0 ∧ ¬ n < 0) ∧ sp.toNatClampNeg + n.toNatClampNeg ≤ (kd s r).2 ∧ dp.toNatClampNeg + n.toNatClampNeg ≤ (kd s r1).2) (hframes : 1 ≤ R.frames) (hlocals : (rest.map fun v => v.category).sum + (nativeFrameWords "java/lang/System" "arraycopy" 5 + 11) ≤ R.locals) (hdg : decode cc pc = .ok (.invokestatic index, 3))
    (kk : ∀ (H : Heap) (locs : List Loc), AW G a A s' s0.heap H locs → W p l e R s0 m args below meth c H locs cells slots Q (F0 m (pc + 3) ls rest)) : W p l e R s0 m args below meth c H locs cells slots Q (F0 m pc ls (.int n :: .int dp :: .ref (a r1) :: .int sp :: .ref (a r) :: rest)) := by
  subst es
  obtain ⟨hx, hb, -, hown, hts, hK, hSB, hA, hAb, -⟩ := hC
  obtain ⟨hP, hD, hS, hwf⟩ := hW
  have he : (wl G.2.1 a s)[r]? = some (a r, .inl (G.2.1 0, (kd s r).2, .inl (gi s r))) := by rw [wl_at hr.1, ec_int 0 hr.2 (by decide)]
  have he1 : (wl G.2.1 a s)[r1]? = some (a r1, .inl (G.2.1 0, (kd s r1).2, .inl (gi s r1))) := by rw [wl_at hr1.1, ec_int 0 hr1.2 (by decide)]
  refine va_copyi hx hb hml hown (hts _ hlink) (hts _ hnat) (hts _ hstat) (hts _ hini) hK hP hD hS r r1 0 0 he he1 rfl rfl rfl hin.1.1 hin.1.2.1 hin.1.2.2 hin.2.1 hin.2.2 (fun _ _ => rfl) hframes hlocals hdg (fun H1 locs1 g1 g2 g3 => ?_)
  have hset : (wl G.2.1 a s).set r1 (a r1, .inl (G.2.1 0, (kd s r1).2, .inl (va_cpy (gi s r) (gi s r1) sp.toNatClampNeg dp.toNatClampNeg n.toNatClampNeg))) = wl G.2.1 a (pIr s r1 (cpyI (gi s r) (gi s r1) sp dp n)) := by
    refine wl_set rfl ?_ (fun r' hr' => ⟨rfl, ?_, rfl, rfl⟩)
    · rw [ec_int (q := kd (pIr s r1 (cpyI (gi s r) (gi s r1) sp dp n)) r1) 0 hr1.2 (by decide)]
      congr 1
      simp only [Prod.mk.injEq, true_and]
      refine ⟨rfl, ?_⟩
      congr 1
      funext j
      simp [gi, pIr, cpyI]
    · funext j
      simp [gi, pIr, hr']
  rw [hset] at g1 g2
  exact kk H1 locs1 ⟨g1, g2, g3, hwf⟩

end AWS
/-! CONTRACTS: from the world s, with the arguments av, the method y returns; P says what (answer, addresses, world) -/
def rmD (d : Nat) : Room := { frames := d, cells := 0, slots := 0, locals := 40 * d }
def rmA (d mc ms : Nat) : Room := { frames := d, cells := mc, slots := ms, locals := 40 * d }
def QW (G : GM) (A1 : Nat → Prop) (P : Option Value → (Nat → Nat) → ST → Prop) : Array Value → State → Outcome → State → Prop := fun _ st oc t => (∃ (v : Option Value) (a' : Nat → Nat) (s' : ST), oc = .returned v ∧ P v a' s' ∧ PW G a' s' A1 t) ∧ va_F A1 st t
def PcW (G : GM) (av : List Value) (a : Nat → Nat) (s : ST) (sz : Nat) : Array Value → State → Prop := va_Pc av (fun U => U.heap.size = sz ∧ PW G a s (fun _ => True) U)
def MF (l : Launch) (G : GM) (y : MethodName) (ws : List Cond) (rm : Room) (av : List Value) (a : Nat → Nat) (s : ST) (P : Option Value → (Nat → Nat) → ST → Prop) : Prop :=
  ∀ sz : Nat, Met l y ws rm (PcW G av a s sz) (QW G (va_A (wl G.2.1 a s) sz) P) rm.cells rm.slots (va_A (wl G.2.1 a s) sz)
/-- .. a method that makes no cells and answers v -/
def MD (l : Launch) (G : GM) (y : MethodName) (ws : List Cond) (d : Nat) (av : List Value) (a : Nat → Nat) (s : ST) (v : Option Value) (s' : ST) : Prop := MF l G y ws (rmD d) av a s (fun v' a' s'' => v' = v ∧ a' = a ∧ s'' = s')
theorem PcW.blind {G : GM} {av : List Value} {a : Nat → Nat} {s : ST} {sz : Nat} : FrameBlind (PcW G av a s sz) := by
  intro v U g mk q
  obtain ⟨q0, q1, q2, q3, q4, q5, q6, q7⟩ := q
  exact ⟨q0, q1, q2, va_K.moved (u := U) (U := U.calling g mk v) (Vm.Alike.refl U.vm) q3, q4, SB.same (s := U) (U := U.calling g mk v) q5 rfl rfl, q6, q7⟩

section AWT
variable {p : Program} {l : Launch} {e : Env} {R : Room} {s0 : State} {m : MethodId} {args : Array Value} {below : List Frame} {meth : Method} {c : Code} {H : Heap} {locs : List Loc} {cells slots : Nat} {Q : State → Prop}
variable {cc : ByteArray} {pc nL : Nat} {ls : Array Slot} {rest : List Value} {G : GM} {A : Nat → Prop} {a : Nat → Nat} {s : ST} {own : String}
theorem CX.b0 (hC : CX p s0 m args meth c G A cc own nL) : G.2.2.1 ≤ s0.heap.size := hC.2.2.2.2.2.2.2.2.1 _ (hC.2.2.2.2.2.2.2.1 _ (Nat.le_refl _))
/-- the world handed to a callee -/
theorem aw_pre {av : List Value} (hC : CX p s0 m args meth c G A cc own nL) (hW : AW G a A s s0.heap H locs) : ∀ U : State, U.heap = H → s0.WarmedH U.vm → PcW G av a s H.size av.toArray U := by
  intro U hU hWm
  obtain ⟨hx, hb, -, hown, hts, hK, hSB, hA, hAb, -⟩ := id hC
  obtain ⟨hP, hD, hS, hwf⟩ := hW
  exact ⟨rfl, by rw [hU], by rw [hU]; exact hP, va_K.moved hWm.alike hK, hD.weaken (fun _ _ _ _ => trivial), hSB.warm hWm (fun q h1 h2 => by rw [hU]; exact hS.2.1 q h1 (fun h3 => h2 (hAb q h3))), hwf, by rw [hU]; exact Nat.le_trans hC.b0 hS.1⟩
theorem aw_free (hC : CX p s0 m args meth c G A cc own nL) (hW : AW G a A s s0.heap H locs) : ∀ q, va_A (wl G.2.1 a s) H.size q → A q := by
  intro q hq
  rcases hq with ⟨k, ev, h⟩ | h
  · exact hW.2.1.2 k _ h
  · exact hC.2.2.2.2.2.2.2.1 q (Nat.le_trans hW.2.2.1.1 h)
theorem aw_back {A1 : Nat → Prop} {st₀ t T' : State} {L : List Loc} {a' : Nat → Nat} {s' : ST} (hW : AW G a A s s0.heap H locs) (hfr : ∀ q, A1 q → A q) (h0 : st₀.heap = H) (hL : ∀ q ∈ L, A1 q.base) (e1 : T'.heap = t.heap) (hPW : PW G a' s' A1 t) (hF : va_F A1 st₀ t) : AW G a' A s' s0.heap T'.heap (locs ++ L) := by
  obtain ⟨hP, hD, hS, hwf⟩ := hW
  obtain ⟨k1, k2, k3, k4, k5, k6⟩ := hPW
  obtain ⟨hz, hk⟩ := hF
  rw [h0] at hz hk
  rw [e1]
  exact ⟨k1, k3.weaken (fun _ _ _ h => hfr _ h), ⟨Nat.le_trans hS.1 hz, fun q h1 h2 => by rw [hk q (Nat.lt_of_lt_of_le h1 hS.1) (fun z => h2 (hfr q z))]; exact hS.2.1 q h1 h2, fun q hq => by
      rcases List.mem_append.mp hq with h | h
      · exact hS.2.2 q h
      · exact hfr _ (hL q h)⟩, k5⟩
theorem aw_run {mc ms : Nat} {st0 : List Value} {P : Option Value → (Nat → Nat) → ST → Prop} {ar : Array Value} (hC : CX p s0 m args meth c G A cc own nL) (hW : AW G a A s s0.heap H locs) (hr : va_Run p l e R s0 m args below meth c H locs cells slots mc ms (F0 m pc ls st0) rest (QW G (va_A (wl G.2.1 a s) H.size) P ar) (va_A (wl G.2.1 a s) H.size))
    (kk : ∀ (v : Option Value) (a' : Nat → Nat) (s' : ST) (H1 : Heap) (locs1 : List Loc), P v a' s' → AW G a' A s' s0.heap H1 locs1 → W p l e R s0 m args below meth c H1 locs1 (cells + mc) (slots + ms) Q (F0 m (pc + 3) ls (v.toList ++ rest))) : W p l e R s0 m args below meth c H locs cells slots Q (F0 m pc ls st0) := by
  intro T hT X
  obtain ⟨v, st₀, t, T', L, h0, X', hL, e1, e2, ⟨⟨v', a', s', hv, hp, hPW⟩, hF⟩, st⟩ := hr T hT X
  cases hv
  obtain ⟨t2, a1, b1⟩ := kk v a' s' T'.heap (locs ++ L) hp (aw_back hW (aw_free hC hW) h0 hL e1 hPW hF) T' rfl X'
  exact ⟨t2, st t2 a1, b1⟩
theorem aw_run5 {mc ms : Nat} {st0 : List Value} {P : Option Value → (Nat → Nat) → ST → Prop} {ar : Array Value} (hC : CX p s0 m args meth c G A cc own nL) (hW : AW G a A s s0.heap H locs) (hr : va_Run5 p l e R s0 m args below meth c H locs cells slots mc ms (F0 m pc ls st0) rest (QW G (va_A (wl G.2.1 a s) H.size) P ar) (va_A (wl G.2.1 a s) H.size))
    (kk : ∀ (v : Option Value) (a' : Nat → Nat) (s' : ST) (H1 : Heap) (locs1 : List Loc), P v a' s' → AW G a' A s' s0.heap H1 locs1 → W p l e R s0 m args below meth c H1 locs1 (cells + mc) (slots + ms) Q (F0 m (pc + 5) ls (v.toList ++ rest))) : W p l e R s0 m args below meth c H locs cells slots Q (F0 m pc ls st0) := by
  intro T hT X
  obtain ⟨v, st₀, t, T', L, h0, X', hL, e1, e2, ⟨⟨v', a', s', hv, hp, hPW⟩, hF⟩, st⟩ := hr T hT X
  cases hv
  obtain ⟨t2, a1, b1⟩ := kk v a' s' T'.heap (locs ++ L) hp (aw_back hW (aw_free hC hW) h0 hL e1 hPW hF) T' rfl X'
  exact ⟨t2, st t2 a1, b1⟩
/-- what a method's words say: an instance method, a static one -/
def mdOK (y : MethodName) (n : Nat) : Prop := y.cls ≠ "java/lang/invoke/MethodHandle" ∧ y.cls ≠ "java/lang/invoke/VarHandle" ∧ (parseMethodDescriptor y.desc).map (fun d => d.parameters.length) = some n
def VY (y : MethodName) (cy : ByteArray) (maxL : Nat) (ret : Option FieldType) (n : Nat) : Prop := Cond.instanceMethod y ∈ lw_all ∧ Cond.selects y.cls y y ∈ lw_all ∧ Cond.initialized y.cls ∈ lw_all ∧ Cond.code y cy maxL ret ∈ lw_all ∧ mdOK y n
def IY (y : MethodName) (cy : ByteArray) (maxL : Nat) (n : Nat) : Prop := Cond.instanceMethod y ∈ lw_all ∧ y.name = "<init>" ∧ Cond.initialized y.cls ∈ lw_all ∧ Cond.code y cy maxL none ∈ lw_all ∧ mdOK y n
def SY (y : MethodName) (cy : ByteArray) (maxL : Nat) (ret : Option FieldType) (n : Nat) : Prop := Cond.static y ∈ lw_all ∧ Cond.initialized y.cls ∈ lw_all ∧ Cond.code y cy maxL ret ∈ lw_all ∧ mdOK y n
def LK (own : String) (index : Nat) (y : MethodName) : Prop := Cond.methodLink own index y ∈ lw_all ∨ ∃ host, Cond.methodLinkNest own index y host ∈ lw_tbl
theorem cat_le {st : List Value} (h : (st.map fun v => v.category).sum ≤ 8) : 2 * (F0 m pc ls rest).monitorRoom + (st.map fun v => v.category).sum ≤ 8 := lv_room h

theorem aw_runV {y : MethodName} {cy : ByteArray} {maxL n index r ci : Nat} {ret : Option FieldType} {rm : Room} {As st0 : List Value} {P : Option Value → (Nat → Nat) → ST → Prop} {q : vw_C} (hC : CX p s0 m args meth c G A cc own nL) (hW : AW G a A s s0.heap H locs) (hls : ls.size = nL) (hM : MF l G y (ws_ y cy maxL ret) rm (.ref (a r) :: As) a s P) (hy : VY y cy maxL ret n) (hk : LK own index y) (hr : r < s.1 ∧ (kd s r).1 = ci + 1) (hc : vwCl[ci]? = some q) (hq : q.1 = y.cls) (hn : As.length = n) (hst : st0 = As.reverse ++ .ref (a r) :: rest) (hcat : (rest.map fun v => v.category).sum ≤ 8) (hR : rm.frames + 1 ≤ R.frames ∧ 8 + (maxL + 11) + rm.locals ≤ R.locals) (hf : cells + rm.cells ≤ R.cells ∧ slots + rm.slots ≤ R.slots) (hdg : decode cc pc = .ok (.invokevirtual index, 3)) :
    va_Run p l e R s0 m args below meth c H locs cells slots rm.cells rm.slots (F0 m pc ls st0) rest (QW G (va_A (wl G.2.1 a s) H.size) P (.ref (a r) :: As).toArray) (va_A (wl G.2.1 a s) H.size) := by
  obtain ⟨hy1, hy2, hy3, hy4, hy5⟩ := hy
  have hts := hC.2.2.2.2.1
  have hp : PreV s0 H y.cls (a r) (PcW G (.ref (a r) :: As) a s H.size) As := ⟨PcW.blind, by rw [← hq]; exact va_recv hC.2.2.2.2.2.1 hW.1 hc (wl_obj hr (vw_lt hc)), aw_pre hC hW⟩
  rcases hk with hk | ⟨host, hk⟩
  · exact va_runV (C := y.cls) ⟨hC.1, hC.2.1, hC.2.2.1, hC.2.2.2.1, hts⟩ (hM H.size) (cwV n hts (lw_V hk hy1 hy2 hy3 hy4) rfl rfl rfl ⟨rfl, hy5.1, hy5.2.1, hy5.2.2⟩ hR) hp rfl hn hls hst (cat_le hcat) hdg hf
  · exact va_runVN (C := y.cls) ⟨hC.1, hC.2.1, hC.2.2.1, hC.2.2.2.1, hts⟩ (hM H.size) ⟨va_cnB n hts (lw_meth hy4) rfl rfl rfl (hC.2.2.2.2.2.2.1.1 _ hk rfl) (hts _ hy3) hy5 hR, hts _ hy1, hts _ hy2⟩ hp rfl hn hls hst (cat_le hcat) hdg hf
theorem aw_runI {y : MethodName} {cy : ByteArray} {maxL n index r : Nat} {rm : Room} {As st0 : List Value} {P : Option Value → (Nat → Nat) → ST → Prop} (hC : CX p s0 m args meth c G A cc own nL) (hW : AW G a A s s0.heap H locs) (hls : ls.size = nL) (hM : MF l G y (ws_ y cy maxL none) rm (.ref (a r) :: As) a s P) (hy : IY y cy maxL n) (hk : LK own index y) (hn : As.length = n) (hst : st0 = As.reverse ++ .ref (a r) :: rest) (hcat : (rest.map fun v => v.category).sum ≤ 8) (hR : rm.frames + 1 ≤ R.frames ∧ 8 + (maxL + 11) + rm.locals ≤ R.locals) (hf : cells + rm.cells ≤ R.cells ∧ slots + rm.slots ≤ R.slots) (hdg : decode cc pc = .ok (.invokespecial index, 3)) :
    va_Run p l e R s0 m args below meth c H locs cells slots rm.cells rm.slots (F0 m pc ls st0) rest (QW G (va_A (wl G.2.1 a s) H.size) P (.ref (a r) :: As).toArray) (va_A (wl G.2.1 a s) H.size) := by
  obtain ⟨hy1, hy2, hy3, hy4, hy5⟩ := hy
  have hts := hC.2.2.2.2.1
  have hp : PreS s0 H (PcW G (.ref (a r) :: As) a s H.size) (.ref (a r) :: As) := ⟨PcW.blind, aw_pre hC hW⟩
  rcases hk with hk | ⟨host, hk⟩
  · exact va_runI ⟨hC.1, hC.2.1, hC.2.2.1, hC.2.2.2.1, hts⟩ (hM H.size) (cwI n hts (lw_meth hy4) rfl rfl rfl (hts _ hy3) (hts _ hk) (hts _ hy1) hy2 hy5 hR) hp rfl hn hls hst (cat_le hcat) hdg hf
  · exact va_runIN ⟨hC.1, hC.2.1, hC.2.2.1, hC.2.2.2.1, hts⟩ (hM H.size) ⟨va_cnB n hts (lw_meth hy4) rfl rfl rfl (hC.2.2.2.2.2.2.1.1 _ hk rfl) (hts _ hy3) hy5 hR, hy2, hts _ hy1⟩ hp rfl hn hls hst (cat_le hcat) hdg hf
theorem aw_runS {y : MethodName} {cy : ByteArray} {maxL n index : Nat} {ret : Option FieldType} {rm : Room} {As st0 : List Value} {P : Option Value → (Nat → Nat) → ST → Prop} (hC : CX p s0 m args meth c G A cc own nL) (hW : AW G a A s s0.heap H locs) (hls : ls.size = nL) (hM : MF l G y (ws_ y cy maxL ret) rm As a s P) (hy : SY y cy maxL ret n) (hk : LK own index y) (hn : As.length = n) (hst : st0 = As.reverse ++ rest) (hcat : (rest.map fun v => v.category).sum ≤ 8) (hR : rm.frames + 1 ≤ R.frames ∧ 8 + (maxL + 11) + rm.locals ≤ R.locals) (hf : cells + rm.cells ≤ R.cells ∧ slots + rm.slots ≤ R.slots) (hdg : decode cc pc = .ok (.invokestatic index, 3)) :
    va_Run p l e R s0 m args below meth c H locs cells slots rm.cells rm.slots (F0 m pc ls st0) rest (QW G (va_A (wl G.2.1 a s) H.size) P As.toArray) (va_A (wl G.2.1 a s) H.size) := by
  obtain ⟨hy1, hy3, hy4, hy5⟩ := hy
  have hts := hC.2.2.2.2.1
  have hp : PreS s0 H (PcW G As a s H.size) As := ⟨PcW.blind, aw_pre hC hW⟩
  rcases hk with hk | ⟨host, hk⟩
  · exact va_runS ⟨hC.1, hC.2.1, hC.2.2.1, hC.2.2.2.1, hts⟩ (hM H.size) (va_cwS n hts (lw_S hk hy1 hy3 hy4) rfl rfl rfl hy5 hR) hp rfl hn hls hst (cat_le hcat) hdg hf
  · exact va_runSN ⟨hC.1, hC.2.1, hC.2.2.1, hC.2.2.2.1, hts⟩ (hM H.size) ⟨va_cnB n hts (lw_meth hy4) rfl rfl rfl (hC.2.2.2.2.2.2.1.1 _ hk rfl) (hts _ hy3) hy5 hR, hts _ hy1, trivial⟩ hp rfl hn hls hst (cat_le hcat) hdg hf
/-- a call through an interface: x the interface's method, y the class's own -/
def FY (x y : MethodName) (cy : ByteArray) (maxL : Nat) (ret : Option FieldType) (n : Nat) : Prop := (y.cls, x, y) ∈ fwL ∧ Cond.selects y.cls x y ∈ lw_all ∧ Cond.instanceMethod y ∈ lw_all ∧ Cond.initialized y.cls ∈ lw_all ∧ Cond.code y cy maxL ret ∈ lw_all ∧ mdOK x n
theorem aw_runF {x y : MethodName} {cy : ByteArray} {maxL n index count r ci : Nat} {ret : Option FieldType} {rm : Room} {As st0 : List Value} {P : Option Value → (Nat → Nat) → ST → Prop} {q : vw_C} (hC : CX p s0 m args meth c G A cc own nL) (hW : AW G a A s s0.heap H locs) (hls : ls.size = nL) (hM : MF l G y (ws_ y cy maxL ret) rm (.ref (a r) :: As) a s P) (hy : FY x y cy maxL ret n) (hk : Cond.methodLink own index x ∈ lw_all) (hr : r < s.1 ∧ (kd s r).1 = ci + 1) (hc : vwCl[ci]? = some q) (hq : q.1 = y.cls) (hn : As.length = n) (hst : st0 = As.reverse ++ .ref (a r) :: rest) (hcat : (rest.map fun v => v.category).sum ≤ 8) (hR : rm.frames + 1 ≤ R.frames ∧ 8 + (maxL + 11) + rm.locals ≤ R.locals) (hf : cells + rm.cells ≤ R.cells ∧ slots + rm.slots ≤ R.slots) (hdg : decode cc pc = .ok (.invokeinterface index count, 5)) :
    va_Run5 p l e R s0 m args below meth c H locs cells slots rm.cells rm.slots (F0 m pc ls st0) rest (QW G (va_A (wl G.2.1 a s) H.size) P (.ref (a r) :: As).toArray) (va_A (wl G.2.1 a s) H.size) := by
  obtain ⟨hy0, hy1, hy2, hy3, hy4, hy5⟩ := hy
  have hts := hC.2.2.2.2.1
  have hp : PreV s0 H y.cls (a r) (PcW G (.ref (a r) :: As) a s H.size) As := ⟨PcW.blind, by rw [← hq]; exact va_recv hC.2.2.2.2.2.1 hW.1 hc (wl_obj hr (vw_lt hc)), aw_pre hC hW⟩
  have hat : ClassAt s0 y.cls (G.1.1 ci) := by
    have := (hC.2.2.2.2.2.1.1 ci q hc).2
    rw [hq] at this
    exact this
  have hfw := hC.2.2.2.2.2.2.1.2.1 _ hy0
  have hGd : GoodIn lw_all (va_wsF own index y.cls x y (ws_ y cy maxL ret)) := by
    refine lw_app ?_ (lw_meth hy4)
    intro w hw
    simp only [List.mem_cons, List.not_mem_nil, or_false] at hw
    rcases hw with rfl | rfl | rfl | rfl
    · exact hk
    · exact hy1
    · exact hy2
    · exact hy3
  exact va_runF hat ⟨hC.1, hC.2.1, hC.2.2.1, hC.2.2.2.1, hts⟩ (hM H.size) (va_cwF n hts hGd rfl rfl rfl hfw hy5 hR) hp rfl hn hls hst (cat_le hcat) hdg hf

theorem aw_dV0 {y : MethodName} {cy : ByteArray} {maxL n index d r ci : Nat} {ret : Option FieldType} {As st0 : List Value} {q : vw_C} {s1 : ST} (hM : MD l G y (ws_ y cy maxL ret) d (.ref (a r) :: As) a s none s1) (hC : CX p s0 m args meth c G A cc own nL) (hW : AW G a A s s0.heap H locs) (hls : ls.size = nL) (hy : VY y cy maxL ret n) (hk : LK own index y) (hr : r < s.1 ∧ (kd s r).1 = ci + 1) (hc : vwCl[ci]? = some q) (hq : q.1 = y.cls) (hn : As.length = n) (hst : st0 = As.reverse ++ .ref (a r) :: rest) (hcat : (rest.map fun v => v.category).sum ≤ 8) (hR : d + 1 ≤ R.frames ∧ 8 + (maxL + 11) + 40 * d ≤ R.locals) (hf : cells ≤ R.cells ∧ slots ≤ R.slots) (hdg : decode cc pc = .ok (.invokevirtual index, 3))
    (kk : ∀ (H : Heap) (locs : List Loc), AW G a A s1 s0.heap H locs → W p l e R s0 m args below meth c H locs cells slots Q (F0 m (pc + 3) ls (rest))) : W p l e R s0 m args below meth c H locs cells slots Q (F0 m pc ls st0) := by
  refine aw_run hC hW (aw_runV hC hW hls hM hy hk hr hc hq hn hst hcat hR ⟨hf.1, hf.2⟩ hdg) (fun v' a' s' H1 locs1 h hW1 => ?_)
  obtain ⟨rfl, rfl, rfl⟩ := h
  exact kk H1 locs1 hW1
theorem aw_dV1 {y : MethodName} {cy : ByteArray} {maxL n index d r ci : Nat} {ret : Option FieldType} {As st0 : List Value} {q : vw_C} {s1 : ST} {v : Value} (hM : MD l G y (ws_ y cy maxL ret) d (.ref (a r) :: As) a s (some v) s1) (hC : CX p s0 m args meth c G A cc own nL) (hW : AW G a A s s0.heap H locs) (hls : ls.size = nL) (hy : VY y cy maxL ret n) (hk : LK own index y) (hr : r < s.1 ∧ (kd s r).1 = ci + 1) (hc : vwCl[ci]? = some q) (hq : q.1 = y.cls) (hn : As.length = n) (hst : st0 = As.reverse ++ .ref (a r) :: rest) (hcat : (rest.map fun v => v.category).sum ≤ 8) (hR : d + 1 ≤ R.frames ∧ 8 + (maxL + 11) + 40 * d ≤ R.locals) (hf : cells ≤ R.cells ∧ slots ≤ R.slots) (hdg : decode cc pc = .ok (.invokevirtual index, 3))
    (kk : ∀ (H : Heap) (locs : List Loc), AW G a A s1 s0.heap H locs → W p l e R s0 m args below meth c H locs cells slots Q (F0 m (pc + 3) ls (v :: rest))) : W p l e R s0 m args below meth c H locs cells slots Q (F0 m pc ls st0) := by
  refine aw_run hC hW (aw_runV hC hW hls hM hy hk hr hc hq hn hst hcat hR ⟨hf.1, hf.2⟩ hdg) (fun v' a' s' H1 locs1 h hW1 => ?_)
  obtain ⟨rfl, rfl, rfl⟩ := h
  exact kk H1 locs1 hW1
theorem aw_dI0 {y : MethodName} {cy : ByteArray} {maxL n index d r : Nat} {As st0 : List Value} {s1 : ST} (hM : MD l G y (ws_ y cy maxL none) d (.ref (a r) :: As) a s none s1) (hC : CX p s0 m args meth c G A cc own nL) (hW : AW G a A s s0.heap H locs) (hls : ls.size = nL) (hy : IY y cy maxL n) (hk : LK own index y) (hn : As.length = n) (hst : st0 = As.reverse ++ .ref (a r) :: rest) (hcat : (rest.map fun v => v.category).sum ≤ 8) (hR : d + 1 ≤ R.frames ∧ 8 + (maxL + 11) + 40 * d ≤ R.locals) (hf : cells ≤ R.cells ∧ slots ≤ R.slots) (hdg : decode cc pc = .ok (.invokespecial index, 3))
    (kk : ∀ (H : Heap) (locs : List Loc), AW G a A s1 s0.heap H locs → W p l e R s0 m args below meth c H locs cells slots Q (F0 m (pc + 3) ls (rest))) : W p l e R s0 m args below meth c H locs cells slots Q (F0 m pc ls st0) := by
  refine aw_run hC hW (aw_runI hC hW hls hM hy hk hn hst hcat hR ⟨hf.1, hf.2⟩ hdg) (fun v' a' s' H1 locs1 h hW1 => ?_)
  obtain ⟨rfl, rfl, rfl⟩ := h
  exact kk H1 locs1 hW1
theorem aw_dS0 {y : MethodName} {cy : ByteArray} {maxL n index d : Nat} {ret : Option FieldType} {As st0 : List Value} {s1 : ST} (hM : MD l G y (ws_ y cy maxL ret) d As a s none s1) (hC : CX p s0 m args meth c G A cc own nL) (hW : AW G a A s s0.heap H locs) (hls : ls.size = nL) (hy : SY y cy maxL ret n) (hk : LK own index y) (hn : As.length = n) (hst : st0 = As.reverse ++ rest) (hcat : (rest.map fun v => v.category).sum ≤ 8) (hR : d + 1 ≤ R.frames ∧ 8 + (maxL + 11) + 40 * d ≤ R.locals) (hf : cells ≤ R.cells ∧ slots ≤ R.slots) (hdg : decode cc pc = .ok (.invokestatic index, 3))
    (kk : ∀ (H : Heap) (locs : List Loc), AW G a A s1 s0.heap H locs → W p l e R s0 m args below meth c H locs cells slots Q (F0 m (pc + 3) ls (rest))) : W p l e R s0 m args below meth c H locs cells slots Q (F0 m pc ls st0) := by
  refine aw_run hC hW (aw_runS hC hW hls hM hy hk hn hst hcat hR ⟨hf.1, hf.2⟩ hdg) (fun v' a' s' H1 locs1 h hW1 => ?_)
  obtain ⟨rfl, rfl, rfl⟩ := h
  exact kk H1 locs1 hW1
theorem aw_dS1 {y : MethodName} {cy : ByteArray} {maxL n index d : Nat} {ret : Option FieldType} {As st0 : List Value} {s1 : ST} {v : Value} (hM : MD l G y (ws_ y cy maxL ret) d As a s (some v) s1) (hC : CX p s0 m args meth c G A cc own nL) (hW : AW G a A s s0.heap H locs) (hls : ls.size = nL) (hy : SY y cy maxL ret n) (hk : LK own index y) (hn : As.length = n) (hst : st0 = As.reverse ++ rest) (hcat : (rest.map fun v => v.category).sum ≤ 8) (hR : d + 1 ≤ R.frames ∧ 8 + (maxL + 11) + 40 * d ≤ R.locals) (hf : cells ≤ R.cells ∧ slots ≤ R.slots) (hdg : decode cc pc = .ok (.invokestatic index, 3))
    (kk : ∀ (H : Heap) (locs : List Loc), AW G a A s1 s0.heap H locs → W p l e R s0 m args below meth c H locs cells slots Q (F0 m (pc + 3) ls (v :: rest))) : W p l e R s0 m args below meth c H locs cells slots Q (F0 m pc ls st0) := by
  refine aw_run hC hW (aw_runS hC hW hls hM hy hk hn hst hcat hR ⟨hf.1, hf.2⟩ hdg) (fun v' a' s' H1 locs1 h hW1 => ?_)
  obtain ⟨rfl, rfl, rfl⟩ := h
  exact kk H1 locs1 hW1
theorem aw_dF1 {x y : MethodName} {cy : ByteArray} {maxL n index count d r ci : Nat} {ret : Option FieldType} {As st0 : List Value} {q : vw_C} {s1 : ST} {v : Value} (hM : MD l G y (ws_ y cy maxL ret) d (.ref (a r) :: As) a s (some v) s1) (hC : CX p s0 m args meth c G A cc own nL) (hW : AW G a A s s0.heap H locs) (hls : ls.size = nL) (hy : FY x y cy maxL ret n) (hk : Cond.methodLink own index x ∈ lw_all) (hr : r < s.1 ∧ (kd s r).1 = ci + 1) (hc : vwCl[ci]? = some q) (hq : q.1 = y.cls) (hn : As.length = n) (hst : st0 = As.reverse ++ .ref (a r) :: rest) (hcat : (rest.map fun v => v.category).sum ≤ 8) (hR : d + 1 ≤ R.frames ∧ 8 + (maxL + 11) + 40 * d ≤ R.locals) (hf : cells ≤ R.cells ∧ slots ≤ R.slots) (hdg : decode cc pc = .ok (.invokeinterface index count, 5))
    (kk : ∀ (H : Heap) (locs : List Loc), AW G a A s1 s0.heap H locs → W p l e R s0 m args below meth c H locs cells slots Q (F0 m (pc + 5) ls (v :: rest))) : W p l e R s0 m args below meth c H locs cells slots Q (F0 m pc ls st0) := by
  refine aw_run5 hC hW (aw_runF hC hW hls hM hy hk hr hc hq hn hst hcat hR ⟨hf.1, hf.2⟩ hdg) (fun v' a' s' H1 locs1 h hW1 => ?_)
  obtain ⟨rfl, rfl, rfl⟩ := h
  exact kk H1 locs1 hW1
theorem aw_end {P : Option Value → (Nat → Nat) → ST → Prop} {v : Option Value} {a' : Nat → Nat} {s' : ST} (hC : CX p s0 m args meth c G A cc own nL) (hW : AW G a' A s' s0.heap H locs) (hP : P v a' s') : ∀ t : State, t.heap = H → s0.WarmedH t.vm → QW G A P args s0 (.returned v) t := by
  intro t ht hWm
  obtain ⟨hx, hb, -, hown, hts, hK, hSB, hA, hAb, -⟩ := id hC
  obtain ⟨hp, hD, hS, hwf⟩ := hW
  exact ⟨⟨v, a', s', rfl, hP, by rw [ht]; exact hp, va_K.moved hWm.alike hK, hD, hSB.warm hWm (fun q h1 h2 => by rw [ht]; exact hS.2.1 q h1 (fun h3 => h2 (hAb q h3))), hwf, by rw [ht]; exact Nat.le_trans hC.b0 hS.1⟩, hS.F ht⟩
theorem aw_iret {P : Option Value → (Nat → Nat) → ST → Prop} {v : Int32} {a' : Nat → Nat} {s' : ST} {mc ms : Nat} {ty : FieldType} (hC : CX p s0 m args meth c G A cc own nL) (hW : AW G a' A s' s0.heap H locs) (hr : meth.sig.returnType = some ty) (hn : narrow ty (.int v) = .int v) (hP : P (some (.int v)) a' s') (h1 : cells ≤ mc) (h2 : slots ≤ ms) (hdg : decode cc pc = .ok (.ireturn, 1)) : W p l e R s0 m args below meth c H locs cells slots (MQ below (QW G A P) args s0 mc ms A) (F0 m pc ls [.int v]) :=
  W.widen h1 h2 (W.zret hC.1 hC.2.1 hr hn (aw_end hC hW hP) hW.2.2.1.2.2 hdg hC.2.2.2.2.2.2.2.2.2)
theorem aw_lret {P : Option Value → (Nat → Nat) → ST → Prop} {v : Int64} {a' : Nat → Nat} {s' : ST} {mc ms : Nat} (hC : CX p s0 m args meth c G A cc own nL) (hW : AW G a' A s' s0.heap H locs) (hr : meth.sig.returnType = some .long) (hP : P (some (.long v)) a' s') (h1 : cells ≤ mc) (h2 : slots ≤ ms) (hdg : decode cc pc = .ok (.lreturn, 1)) : W p l e R s0 m args below meth c H locs cells slots (MQ below (QW G A P) args s0 mc ms A) (F0 m pc ls [.long v]) :=
  W.widen h1 h2 (W.lret hC.1 hC.2.1 hr (aw_end hC hW hP) hW.2.2.1.2.2 hdg hC.2.2.2.2.2.2.2.2.2)
theorem aw_aret {P : Option Value → (Nat → Nat) → ST → Prop} {q : Nat} {a' : Nat → Nat} {s' : ST} {mc ms : Nat} {ty : FieldType} (hC : CX p s0 m args meth c G A cc own nL) (hW : AW G a' A s' s0.heap H locs) (hr : meth.sig.returnType = some ty) (hrt : (∃ n, ty = .object n) ∨ ∃ t, ty = .array t) (hP : P (some (.ref (a' q))) a' s') (h1 : cells ≤ mc) (h2 : slots ≤ ms) (hdg : decode cc pc = .ok (.areturn, 1)) : W p l e R s0 m args below meth c H locs cells slots (MQ below (QW G A P) args s0 mc ms A) (F0 m pc ls [.ref (a' q)]) :=
  W.widen h1 h2 (W.aret hC.1 hC.2.1 hr hrt (Or.inr ⟨_, rfl⟩) (aw_end hC hW hP) hW.2.2.1.2.2 hdg hC.2.2.2.2.2.2.2.2.2)
theorem aw_vret {P : Option Value → (Nat → Nat) → ST → Prop} {a' : Nat → Nat} {s' : ST} {mc ms : Nat} (hC : CX p s0 m args meth c G A cc own nL) (hW : AW G a' A s' s0.heap H locs) (hr : meth.sig.returnType = none) (hP : P none a' s') (h1 : cells ≤ mc) (h2 : slots ≤ ms) (hdg : decode cc pc = .ok (.return_, 1)) : W p l e R s0 m args below meth c H locs cells slots (MQ below (QW G A P) args s0 mc ms A) (F0 m pc ls []) :=
  W.widen h1 h2 (W.vret hC.1 hC.2.1 hr (aw_end hC hW hP) hW.2.2.1.2.2 hdg hC.2.2.2.2.2.2.2.2.2)
/-- a contract out of a walk of the body -/
theorem mf_of {y : MethodName} {rm : Room} {av : List Value} {lv : List (Nat × Value)} {P : Option Value → (Nat → Nat) → ST → Prop} {maxL : Nat} {ret : Option FieldType} (hy : plainName y.cls = true ∨ plainFor y = true) (hlen : (lg_sl av).length ≤ maxL) (hlv : lv_args 0 av = lv)
    (body : ∀ (p : Program) (e : Env) (s0 : State) (m : MethodId) (args : Array Value) (below : List Frame) (meth : Method) (c : Code) (ls : Array Slot) (A : Nat → Prop), CX p s0 m args meth c G A cc y.cls maxL → meth.sig.returnType = ret → meth.name = y.name → AW G a A s s0.heap s0.heap [] → lv_has ls maxL lv →
      W p l e rm s0 m args below meth c s0.heap [] 0 0 (MQ below (QW G A P) args s0 rm.cells rm.slots A) (F0 m 0 ls [])) : MF l G y (ws_ y cc maxL ret) rm av a s P := by
  intro sz
  have hall : ∀ p e s0 m args below meth c s₁, BodyLoose p l y (headSpec (ws_ y cc maxL ret) rm) cc maxL ret e s0 m args below meth c s₁ → c.maxLocals = maxL → PcW G av a s sz args s0 →
      W p l e (headSpec (ws_ y cc maxL ret) rm).room s0 m args below meth c s0.heap [] 0 0 (MQ below (QW G (va_A (wl G.2.1 a s) sz) P) args s0 rm.cells rm.slots (va_A (wl G.2.1 a s) sz)) (entryFrame m args maxL) := by
    intro p e s0 m args below meth c s₁ B hml hv
    obtain ⟨hav, hsz, q1, q2, q3, q4, q5, q6⟩ := hv
    have hts := atoms_spec (ws := ws_ y cc maxL ret) B.pre
    have hts : ∀ w ∈ lw_all, w.before args s0 = true := fun w h => hts w (List.mem_cons_of_mem _ h)
    have hl := lv_entry av (n := maxL) hlen
    subst hsz
    have hA : ∀ q, s0.heap.size ≤ q → va_A (wl G.2.1 a s) s0.heap.size q := fun q h => Or.inr h
    have hAb : ∀ q, va_A (wl G.2.1 a s) s0.heap.size q → G.2.2.1 ≤ q := by
      intro q hq
      rcases hq with ⟨k, ev, h⟩ | h
      · unfold wl at h
        rw [List.getElem?_map] at h
        obtain ⟨r, hr, hr2⟩ := Option.map_eq_some_iff.mp h
        have hr1 : r < s.1 := List.mem_range.mp (List.mem_of_getElem? hr)
        have hq2 : a r = q := congrArg Prod.fst hr2
        rw [← hq2]
        exact q5.2 r hr1
      · exact Nat.le_trans q6 h
    rw [hlv] at hl
    have key := body p e s0 m args below meth c _ _ ⟨B.exec, B.bytes, hml, findClass_of_methodNamed B.named, hts, q2, q4, hA, hAb, B.notSynchronized⟩ B.returns (name_of_methodNamed B.named B.method).1 ⟨q1, q3.self, va_S.rf, q5⟩ hl
    have he : entryFrame m args maxL = F0 m 0 ((lg_sl av ++ List.replicate (maxL - (lg_sl av).length) Slot.unset).toArray) [] := by rw [hav, lg_entry_eq]
    exact W.eq he key
  rcases hy with hy | hy
  · exact Met.ofW (cc := cc) (maxL := maxL) (ret := ret) hy rfl hall
  · exact va_MetF (cc := cc) (maxL := maxL) (ret := ret) hy rfl hall

end AWT
