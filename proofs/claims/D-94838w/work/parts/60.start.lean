set_option maxRecDepth 100000
theorem st_inst : ∀ (ci : Nat) (q : vw_C), vwCl[ci]? = some q → ∃ n, Cond.instantiable q.1 n ∈ lw_all
  | 0, q, h => by cases h; exact ⟨_, q108⟩
  | 1, q, h => by cases h; exact ⟨_, q118⟩
  | 2, q, h => by cases h; exact ⟨_, q183⟩
  | 3, q, h => by cases h; exact ⟨_, q212⟩
  | 4, q, h => by cases h; exact ⟨_, q222⟩
  | 5, q, h => by cases h; exact ⟨_, q234⟩
  | 6, q, h => by cases h; exact ⟨_, q256⟩
  | 7, q, h => by cases h; exact ⟨_, q271⟩
  | 8, q, h => by cases h; exact ⟨_, q289⟩
  | 9, q, h => by cases h; exact ⟨_, q303⟩
  | 10, q, h => by cases h; exact ⟨_, q317⟩
  | 11, q, h => by cases h; exact ⟨_, q335⟩
  | 12, q, h => by cases h; exact ⟨_, q353⟩
  | 13, q, h => by cases h; exact ⟨_, q1361⟩
  | 14, q, h => by cases h; exact ⟨_, q527⟩
  | 15, q, h => by cases h; exact ⟨_, q559⟩
  | 16, q, h => by cases h; exact ⟨_, q679⟩
  | 17, q, h => by cases h; exact ⟨_, q1272⟩
  | ci + 18, q, h => by simp [vwCl] at h
theorem st_cls {args : Array Value} {s : State} (hts : ∀ w ∈ lw_all, w.before args s = true) : ∃ D : va_G, ∀ (k : Nat) (q : vw_C), vwCl[k]? = some q → u_Kn s q.1 q.2.1 q.2.2 (D.1 k) (D.2 k) := by
  have h : ∀ k : Nat, ∃ cd : ClassId × (Nat → Nat), ∀ q, vwCl[k]? = some q → u_Kn s q.1 q.2.1 q.2.2 cd.1 cd.2 := by
    intro k
    cases hk : vwCl[k]? with
    | none => exact ⟨(0, fun _ => 0), fun q h => by cases h⟩
    | some q =>
      obtain ⟨n, hn⟩ := st_inst k q hk
      obtain ⟨hN, hin, -, -⟩ := clOK k q hk
      obtain ⟨cC, iS, h⟩ := u_known hts hin (hts _ hn)
      exact ⟨(cC, iS), fun q' h' => by cases h'; exact h⟩
  obtain ⟨f, hf⟩ := Classical.axiomOfChoice h
  exact ⟨(fun k => (f k).1, fun k => (f k).2), hf⟩
theorem st_arr {args : Array Value} {s : State} {ty : FieldType} (h : (Cond.arrayClass ty).before args s = true) : ∃ cA : ClassId, ArrOfT s cA ty ∧ s.vm.findClass ("[" ++ ty.toString) = some cA := by
  obtain ⟨c, k, comp, h1, h2, h3⟩ := Cond.arrayClass_spec h
  exact ⟨c, fun N z => ⟨(fun k h => by cases h), k, h2, comp, h3⟩, h1⟩
theorem st_aro {args : Array Value} {s : State} {C : String} (h : (Cond.arrayOver (.object C)).before args s = true) : ∃ cA : ClassId, ArrOfT s cA (.object C) ∧ va_RA s cA (.object C) := by
  obtain ⟨comp, c, k, h1, h2, h3, h4, h5⟩ := Cond.arrayOver_spec h
  exact ⟨c, fun N z => ⟨(fun k h => by cases h), k, h3, comp, h4⟩, ⟨k, comp, h3, h4, h1, h5⟩⟩
theorem st_K {args : Array Value} {s : State} (hts : ∀ w ∈ lw_tbl, w.before args s = true) : ∃ (D : va_G) (ca : Nat → ClassId), va_K D vwCl (tyL ca) s := by
  have hts' : ∀ w ∈ lw_all, w.before args s = true := fun w h => hts w (lw_all_tbl h)
  obtain ⟨D, hD⟩ := st_cls hts'
  obtain ⟨c0, a0, b0⟩ := st_arr (hts' _ q181)
  obtain ⟨c1, a1, b1⟩ := st_arr (hts' _ q209)
  obtain ⟨c2, a2, b2⟩ := st_arr (hts' _ q908)
  obtain ⟨c3, a3, b3⟩ := st_arr (hts' _ q1505)
  obtain ⟨c4, a4, b4⟩ := st_arr (hts' _ q210)
  obtain ⟨c5, a5, b5⟩ := st_aro (hts _ q116)
  obtain ⟨c6, a6, b6⟩ := st_aro (hts _ q182)
  obtain ⟨c7, a7, b7⟩ := st_aro (hts _ q367)
  refine ⟨D, fun j => [c0, c1, c2, c3, c4, c5, c6, c7].getD j 0, hD, ?_⟩
  intro k q hk
  match k, hk with
  | 0, hk => cases hk; exact ⟨a0, b0⟩
  | 1, hk => cases hk; exact ⟨a1, b1⟩
  | 2, hk => cases hk; exact ⟨a2, b2⟩
  | 3, hk => cases hk; exact ⟨a3, b3⟩
  | 4, hk => cases hk; exact ⟨a4, b4⟩
  | 5, hk => cases hk; exact ⟨a5, b5⟩
  | 6, hk => cases hk; exact ⟨a6, b6⟩
  | 7, hk => cases hk; exact ⟨a7, b7⟩
  | k + 8, hk => simp [tyL] at hk
def stTm (i : Nat) : Term := .string (stO i) (stI i)
theorem st_str {args : Array Value} {s : State} (hts : ∀ w ∈ lw_tbl, w.before args s = true) (h : (Jvm.Cond.and given_1 narrow_1).before args s = true) : ∃ adK adV : Nat → Nat, vk_S 6 stL stB adK adV (fun q => s.heap.size ≤ q) s s.heap ∧ ∀ i, i < 6 → vk_R (stO i) (stI i) (stT i) (adK i) s := by
  have hs := flat_of_before _ h
  obtain ⟨adK, adV, hS, hev⟩ := vk_Sof (args := args) (s := s) (N := 6) (tm := stTm) (len := stL) (byt := stB) (A := fun q => s.heap.size ≤ q) (by decide +kernel)
    (fun i hi => hs _ ((by decide +kernel : ∀ i, i < 6 → (Cond.exactly (stTm i) "java/lang/String") ∈ flatC (Jvm.Cond.and given_1 narrow_1)) i hi))
    (fun i hi => hs _ ((by decide +kernel : ∀ i, i < 6 → (Cond.eq (.field (stTm i) "java/lang/String" "coder" "B") (.int 0)) ∈ flatC (Jvm.Cond.and given_1 narrow_1)) i hi))
    (fun i hi => hs _ ((by decide +kernel : ∀ i, i < 6 → (Cond.arrayOf (.field (stTm i) "java/lang/String" "value" "[B") .byte) ∈ flatC (Jvm.Cond.and given_1 narrow_1)) i hi))
    (fun i hi => hs _ ((by decide +kernel : ∀ i, i < 6 → (Cond.eq (.length (.field (stTm i) "java/lang/String" "value" "[B")) (.int (Int32.ofNat (stL.getD i 0)))) ∈ flatC (Jvm.Cond.and given_1 narrow_1)) i hi))
    (fun i hi j hj => hs _ ((by decide +kernel : ∀ i, i < 6 → ∀ j, j < stL.getD i 0 → (Cond.eq (.elem (.field (stTm i) "java/lang/String" "value" "[B") (.int (Int32.ofNat j))) (.int ((stB.getD i []).getD j 0))) ∈ flatC (Jvm.Cond.and given_1 narrow_1)) i hi j hj))
    (fun i j hi hj hij => by
      rcases (by decide +kernel : ∀ i, i < 6 → ∀ j, j < 6 → i ≠ j → (Cond.not (Cond.eq (stTm i) (stTm j))) ∈ flatC (Jvm.Cond.and given_1 narrow_1) ∨ (Cond.not (Cond.eq (stTm j) (stTm i))) ∈ flatC (Jvm.Cond.and given_1 narrow_1)) i hi j hj hij with h1 | h1
      · exact Or.inl (hs _ h1)
      · exact Or.inr (hs _ h1))
    (fun a ha => Nat.not_le.mpr ha)
  refine ⟨adK, adV, hS, fun i hi => vk_R.of (A := args) (hts _ ?_) (hev i hi)⟩
  rcases (show i = 0 ∨ i = 1 ∨ i = 2 ∨ i = 3 ∨ i = 4 ∨ i = 5 by omega) with rfl | rfl | rfl | rfl | rfl | rfl
  · exact q1547
  · exact q1577
  · exact q1614
  · exact q1615
  · exact q1616
  · exact q737
theorem st_fw {args : Array Value} {s : State} (hts : ∀ w ∈ lw_tbl, w.before args s = true) : ∀ q ∈ fwL, va_Fw q.1 q.2.1 q.2.2 s := by
  have h : ∀ q ∈ fwL, Cond.declares q.2.1 ∈ lw_tbl ∧ Cond.interfaceMethod q.2.1.cls q.2.1.cls q.2.1.name q.2.1.desc ∈ lw_tbl ∧ Cond.publicMethod q.2.2 ∈ lw_tbl ∧ Cond.unhidden q.1 q.2.1.name q.2.1.desc ∈ lw_tbl ∧ Cond.castable q.1 q.2.1.cls ∈ lw_tbl := by decide +kernel
  intro q hq
  obtain ⟨h1, h2, h3, h4, h5⟩ := h q hq
  exact va_Fw.of (hts _ h1) (hts _ h2) (hts _ h3) (hts _ h4) (hts _ h5)
theorem st_SB {args : Array Value} {s : State} (hts : ∀ w ∈ lw_tbl, w.before args s = true) (h : (Jvm.Cond.and given_1 narrow_1).before args s = true) : ∃ G : GM, va_K G.1 vwCl (tyL G.2.1) s ∧ SB G s ∧ G.2.2.1 = s.heap.size := by
  have hs := flat_of_before _ h
  obtain ⟨D, ca, hK⟩ := st_K hts
  obtain ⟨adK, adV, hS, hR⟩ := st_str hts h
  have hA : ∀ a : Nat, a < s.heap.size → ¬ (fun q => s.heap.size ≤ q) a := fun a ha => Nat.not_le.mpr ha
  refine ⟨(D, ca, s.heap.size, adK, adV), hK, ⟨fun w h1 h2 => va_Nw.of (nbW.onT h2) (hts w h1), st_fw hts, ⟨va_AO.of (hts _ q116), va_AO.of (hts _ q182), va_AO.of (hts _ q367)⟩, ⟨hS, hR⟩, ?_, ?_, ?_, ?_, ?_⟩, rfl⟩
  · exact va_Zof (hts _ q751) (hts _ (lw_all_tbl q95)) (va_eqi (hs _ (by decide +kernel))) hA
  · exact vx_Zqof (hts _ q583) (hts _ (lw_all_tbl q91)) (hs _ (by decide +kernel)) hA
  · exact vx_Zqof (hts _ q585) (hts _ (lw_all_tbl q91)) (hs _ (by decide +kernel)) hA
  · exact va_Zqof (hts _ q792) (hts _ (lw_all_tbl q97)) (hs _ (by decide +kernel)) hA
  · exact ⟨va_Nc.of (hs _ (by decide +kernel)), va_Nc.of (hs _ (by decide +kernel)), va_Nc.of (hs _ (by decide +kernel))⟩

