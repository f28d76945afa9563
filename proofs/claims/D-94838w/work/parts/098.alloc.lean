set_option maxRecDepth 100000
/-! methods that make cells -/
def MA (l : Launch) (G : GM) (y : MethodName) (ws : List Cond) (d mc ms : Nat) (av : List Value) (a : Nat → Nat) (s : ST) (v : (Nat → Nat) → Option Value) (s' : ST) : Prop := MF l G y ws (rmA d mc ms) av a s (fun v' a' s'' => v' = v a' ∧ s'' = s' ∧ EX a a' s.1 ∧ s.1 ≤ s'.1)
theorem EX.trans {a b c : Nat → Nat} {N M : Nat} (h1 : EX a b N) (h2 : EX b c M) (h : N ≤ M) : EX a c N := fun r hr => (h2 r (by omega)).trans (h1 r hr)
theorem EX.rf {a : Nat → Nat} {N : Nat} : EX a a N := fun _ _ => rfl
theorem EX.le {a b : Nat → Nat} {N M : Nat} (h1 : EX a b N) (h : M ≤ N) : EX a b M := fun r hr => h1 r (by omega)
theorem ko_nw {s s' : ST} {c0 n0 : Nat} {f : Nat → Int32} (e : s' = nw s c0 n0 f) {q c : Nat} (h : q < s.1 ∧ (kd s q).1 = c) : q < s'.1 ∧ (kd s' q).1 = c := by
  subst e
  refine ⟨Nat.lt_succ_of_lt h.1, ?_⟩
  have hne : q ≠ s.1 := by omega
  have : kd (nw s c0 n0 f) q = kd s q := by simp [kd, nw, hne]
  rw [this]; exact h.2
theorem ko_new {s s' : ST} {c0 n0 : Nat} {f : Nat → Int32} (e : s' = nw s c0 n0 f) : s.1 < s'.1 ∧ (kd s' s.1).1 = c0 := by
  subst e
  exact ⟨Nat.lt_succ_self _, by simp [kd, nw]⟩
theorem n_nw {s s' : ST} {c0 n0 N : Nat} {f : Nat → Int32} (e : s' = nw s c0 n0 f) (h : N ≤ s.1) : N ≤ s'.1 := by subst e; exact Nat.le_succ_of_le h
theorem n_pI {s s' : ST} {r k N : Nat} {v : Int32} (e : s' = pI s r k v) (h : N ≤ s.1) : N ≤ s'.1 := by subst e; exact h
theorem n_pL {s s' : ST} {r k N : Nat} {v : Int64} (e : s' = pL s r k v) (h : N ≤ s.1) : N ≤ s'.1 := by subst e; exact h
theorem n_pR {s s' : ST} {r k N : Nat} {v : Option Nat} (e : s' = pR s r k v) (h : N ≤ s.1) : N ≤ s'.1 := by subst e; exact h
theorem n_pIr {s s' : ST} {r N : Nat} {f : Nat → Int32} (e : s' = pIr s r f) (h : N ≤ s.1) : N ≤ s'.1 := by subst e; exact h
abbrev WBA (p : Program) (l : Launch) (e : Env) (R : Room) (s0 : State) (m : MethodId) (args : Array Value) (below : List Frame) (meth : Method) (c : Code) (H : Heap) (locs : List Loc) (G : GM) (A : Nat → Prop) (P : Option Value → (Nat → Nat) → ST → Prop) (k n mc ms pc : Nat) (ls : Array Slot) (st : List Value) : Prop :=
  W p l e R s0 m args below meth c H locs k n (MQ below (QW G A P) args s0 mc ms A) (F0 m pc ls st)
section TOPA
variable {l : Launch} {cc : ByteArray} {G : GM} {a : Nat → Nat} {s : ST}
theorem ma_of {y : MethodName} {d mc ms : Nat} {av : List Value} {lv : List (Nat × Value)} {v : (Nat → Nat) → Option Value} {s1 : ST} {maxL : Nat} {ret : Option FieldType} (hy : plainName y.cls = true ∨ plainFor y = true) (hlen : (lg_sl av).length ≤ maxL) (hlv : lv_args 0 av = lv)
    (body : ∀ (p : Program) (e : Env) (s0 : State) (m : MethodId) (args : Array Value) (below : List Frame) (meth : Method) (c : Code) (ls : Array Slot) (A : Nat → Prop) (P : Option Value → (Nat → Nat) → ST → Prop), (∀ a', EX a a' s.1 → s.1 ≤ s1.1 → P (v a') a' s1) → CX p s0 m args meth c G A cc y.cls maxL → meth.sig.returnType = ret → meth.name = y.name → AW G a A s s0.heap s0.heap [] → lv_has ls maxL lv →
      WBA p l e (rmA d mc ms) s0 m args below meth c s0.heap [] G A P 0 0 mc ms 0 ls []) : MA l G y (ws_ y cc maxL ret) d mc ms av a s v s1 := by
  refine mf_of hy hlen hlv ?_
  intro p e s0 m args below meth c ls A hC hr hn hW hl
  exact body p e s0 m args below meth c ls A _ (fun a' h1 h2 => ⟨rfl, rfl, h1, h2⟩) hC hr hn hW hl
end TOPA
theorem aw_eq {G : GM} {a : Nat → Nat} {A : Nat → Prop} {s s' : ST} {H0 H : Heap} {locs : List Loc} (e : s' = s) (h : AW G a A s H0 H locs) : AW G a A s' H0 H locs := by rw [e]; exact h
