set_option maxRecDepth 100000
/-! small things that the printed certificates use -/
def fuel : Nat := 5000
def obn {β : Type} (o : Option Nat) (A : Option β) (K : Nat → Option β) : Option β := match o with
  | none => A
  | some r => K r
theorem obn_cases {β : Type} {o : Option Nat} {A : Option β} {K : Nat → Option β} {x : Option β} (h : obn o A K = x) : (o = none ∧ A = x) ∨ ∃ r, o = some r ∧ K r = x := by
  cases o with
  | none => exact Or.inl ⟨rfl, h⟩
  | some r => exact Or.inr ⟨r, rfl, h⟩
theorem ko_pI {s s' : ST} {r k : Nat} {v : Int32} (e : s' = pI s r k v) {q c : Nat} (h : q < s.1 ∧ (kd s q).1 = c) : q < s'.1 ∧ (kd s' q).1 = c := by subst e; exact h
theorem ko_pL {s s' : ST} {r k : Nat} {v : Int64} (e : s' = pL s r k v) {q c : Nat} (h : q < s.1 ∧ (kd s q).1 = c) : q < s'.1 ∧ (kd s' q).1 = c := by subst e; exact h
theorem ko_pR {s s' : ST} {r k : Nat} {v : Option Nat} (e : s' = pR s r k v) {q c : Nat} (h : q < s.1 ∧ (kd s q).1 = c) : q < s'.1 ∧ (kd s' q).1 = c := by subst e; exact h
theorem ko_pIr {s s' : ST} {r : Nat} {f : Nat → Int32} (e : s' = pIr s r f) {q c : Nat} (h : q < s.1 ∧ (kd s q).1 = c) : q < s'.1 ∧ (kd s' q).1 = c := by subst e; exact h
theorem ko_pRr {s s' : ST} {r : Nat} {f : Nat → Option Nat} (e : s' = pRr s r f) {q c : Nat} (h : q < s.1 ∧ (kd s q).1 = c) : q < s'.1 ∧ (kd s' q).1 = c := by subst e; exact h
theorem nb01 {v : Int32} (h : v = 0 ∨ v = 1) : narrow .boolean (.int v) = .int v := by rcases h with rfl | rfl <;> rfl
theorem fb01 {v : Int32} (h : v = 0 ∨ v = 1) : fits .boolean (.int v) = true := by rcases h with rfl | rfl <;> rfl
theorem so_inj {α : Type} {x x' : α} {y y' : ST} (h : some (x, y) = some (x', y')) : x = x' ∧ y = y' := by cases h; exact ⟨rfl, rfl⟩
theorem p_eq {P : Option Value → (Nat → Nat) → ST → Prop} {w v : Option Value} {a : Nat → Nat} {s sf : ST} (hP : P w a sf) (e1 : v = w) (e2 : s = sf) : P v a s := by subst e1; subst e2; exact hP
abbrev WB (p : Program) (l : Launch) (e : Env) (R : Room) (s0 : State) (m : MethodId) (args : Array Value) (below : List Frame) (meth : Method) (c : Code) (H : Heap) (locs : List Loc) (G : GM) (A : Nat → Prop) (P : Option Value → (Nat → Nat) → ST → Prop) (pc : Nat) (ls : Array Slot) (st : List Value) : Prop :=
  W p l e R s0 m args below meth c H locs 0 0 (MQ below (QW G A P) args s0 0 0 A) (F0 m pc ls st)
section TOPS
variable {p : Program} {l : Launch} {e : Env} {R : Room} {s0 : State} {m : MethodId} {args : Array Value} {below : List Frame} {meth : Method} {c : Code} {H : Heap} {locs : List Loc} {cells slots : Nat} {Q : State → Prop}
variable {cc : ByteArray} {pc nL : Nat} {ls : Array Slot} {rest : List Value} {G : GM} {A : Nat → Prop} {a : Nat → Nat} {s : ST} {own : String}
theorem top_i {x y : Int32} (h : y = x) (k : W p l e R s0 m args below meth c H locs cells slots Q (F0 m pc ls (.int y :: rest))) : W p l e R s0 m args below meth c H locs cells slots Q (F0 m pc ls (.int x :: rest)) := by subst h; exact k
theorem top_l {x y : Int64} (h : y = x) (k : W p l e R s0 m args below meth c H locs cells slots Q (F0 m pc ls (.long y :: rest))) : W p l e R s0 m args below meth c H locs cells slots Q (F0 m pc ls (.long x :: rest)) := by subst h; exact k
theorem md_of {y : MethodName} {d : Nat} {av : List Value} {lv : List (Nat × Value)} {v : Option Value} {s1 : ST} {maxL : Nat} {ret : Option FieldType} (hy : plainName y.cls = true ∨ plainFor y = true) (hlen : (lg_sl av).length ≤ maxL) (hlv : lv_args 0 av = lv)
    (body : ∀ (p : Program) (e : Env) (s0 : State) (m : MethodId) (args : Array Value) (below : List Frame) (meth : Method) (c : Code) (ls : Array Slot) (A : Nat → Prop) (P : Option Value → (Nat → Nat) → ST → Prop), P v a s1 → CX p s0 m args meth c G A cc y.cls maxL → meth.sig.returnType = ret → meth.name = y.name → AW G a A s s0.heap s0.heap [] → lv_has ls maxL lv →
      WB p l e (rmD d) s0 m args below meth c s0.heap [] G A P 0 ls []) : MD l G y (ws_ y cc maxL ret) d av a s v s1 := by
  refine mf_of hy hlen hlv ?_
  intro p e s0 m args below meth c ls A hC hr hn hW hl
  exact body p e s0 m args below meth c ls A _ ⟨rfl, rfl, rfl⟩ hC hr hn hW hl
end TOPS
def p_in (v lo hi : Int64) : Int32 := if lo ≤ v ∧ v ≤ hi then 1 else 0
def p_has (b k : Int32) : Int32 := if (b >>> (k &&& 31)) &&& 1 = 1 then 1 else 0
def p_flag (b : Int32) : Int32 := if b = 0 then 0 else 1
def p_max (x y : Int32) : Int32 := if x < y then y else x
def p_min (x y : Int32) : Int32 := if y < x then y else x
theorem lgc_lt {x y : Int64} : lg_cmp x y < 0 ↔ x < y := by
  have h := lg_cmp_ge x y
  rw [← Int32.not_le, h, Int64.not_le]
theorem lgc_gt {x y : Int64} : 0 < lg_cmp x y ↔ y < x := by
  unfold lg_cmp
  by_cases h : x > y
  · rw [if_pos h]; exact ⟨fun _ => h, fun _ => by decide⟩
  · rw [if_neg h]
    by_cases e : x = y
    · rw [if_pos e]; exact ⟨fun z => absurd z (by decide), fun z => absurd z h⟩
    · rw [if_neg e]; exact ⟨fun z => absurd z (by decide), fun z => absurd z h⟩
