set_option maxRecDepth 100000
/-! THE WORLD AS A FUNCTION OF TWO RECORDS -/
def I (n : Nat) : Int32 := Int32.ofNat n
def upd {α : Type} (f : Nat → α) (k : Nat) (v : α) : Nat → α := fun q => if q = k then v else f q
def Sr (o : Option Nat) : Int32 := match o with | none => -1 | some p => I p
structure Tm where
  w : Nat → Int32
  sv : Nat → Int32
  mb : Nat → Int32
  mi : Nat → Int32
  fl : Nat → Int32
  kn : Nat → Int32
  al : Int32
  sr : Option Nat
  te : Int32
  wk : Nat
  lw : Nat
structure On where
  pa : Nat
  il : Nat
  ch : Nat
  hb : Nat → Int32
structure XV where
  many : Nat
  came : Nat
  undoM : Nat
  grain : Int32
  off : Int32
  typed : Nat
  rowM : Nat
  isOther : Int32
  fallen : Int32
  weighM : Nat
  toldM : Nat
  those : Int32
  pWho : Int32
  pPlan : Int32
  pFrom : Int32
  aFrom : Int32
  tParty : Int32
  tFrom : Int32
  nWho : Int32
  hN : Int32
  sWho : Int32
  sN : Int32
  vWho : Int32
  vN : Int32
  xWho : Int32
  text : Nat → Int32
  comeW : Nat → Int32
  plans : Nat → Int32
  year : Nat → Int32
  weeksOf : Nat → Int32
  wOne : Nat → Int32
  wAs : Nat → Int32
  tOne : Nat → Int32
  tWeek : Nat → Int32
  row : Nat → Int64
  lk : Nat → Nat → Int64
  rule : Option Nat
  kept : Nat → Option Nat
  ah : Nat → Nat
  tm : Nat → Tm
  on : Nat → On
  out : Nat → Int64
  e : Nat
  dk : Nat → Nat × Nat
  dm : Nat → Nat → Int32
  dl : Nat → Nat → Int64
  dr : Nat → Nat → Option Nat
structure MV where
  thrown : Int32
  rows : Nat
  people : Nat
  grain : Int32
  off : Int32
  taped : Nat
  at_ : Nat
  to_ : Nat
  nest : Nat
  readMany : Nat
  codeLong : Nat
  readLong : Nat
  fell : Int32
  undos : Nat
  readWeeks : Nat
  weighings : Nat
  dates : Nat
  tape : Nat → Int32
  readWeight : Nat → Int32
  readParty : Nat → Int32
  code : Nat → Int32
  readCode : Nat → Int32
  stack : Nat → Int32
  readStand : Nat → Int32
  servedFor : Nat → Int32
  plan : Nat → Int32
  weighedWho : Nat → Int32
  weighedShown : Nat → Int32
  dateWho : Nat → Int32
  dateWeek : Nat → Int32
  isKept : Nat → Int32
  keptPeople : Nat → Int32
  rw : Nat → Tm
  un : Nat → Tm
  kp : Nat → Tm
  on : Nat → On
  rhb : Nat → Nat → Int32
  rhM : Nat → Nat
  row : Nat → Int64
  lk : Nat → Nat → Int64
structure LB where
  s : ST
  ok : Lay s
def isTr (r : Nat) : Bool := (2 ≤ r && r < 16) || (55 ≤ r && r < 76) || (95 ≤ r && r < 235)
def tid (r : Nat) : Nat := if r < 16 then (r - 2) / 7 else if r < 76 then 2 + (r - 55) / 7 else 5 + (r - 95) / 7
def tof (r : Nat) : Nat := if r < 16 then (r - 2) % 7 else if r < 76 then (r - 55) % 7 else (r - 95) % 7
def tr (i : Nat) : Nat := if i < 2 then 2 + 7 * i else if i < 5 then 55 + 7 * (i - 2) else 95 + 7 * (i - 5)
def isOr (r : Nat) : Bool := (20 ≤ r && r < 36) || (79 ≤ r && r < 95)
def oid (r : Nat) : Nat := if r < 36 then 8 + (r - 20) / 2 else (r - 79) / 2
def oof (r : Nat) : Nat := if r < 36 then (r - 20) % 2 else (r - 79) % 2
def orl (i : Nat) : Nat := if i < 8 then 79 + 2 * i else 20 + 2 * (i - 8)
def rr (i : Nat) : Nat := if i = 0 then 241 else if i = 1 then 242 else 261
def lr (i : Nat) : Nat := if i = 0 then 259 else 260
def xl (i : Nat) : Nat := if i = 0 then 76 else 77
def D (j : Nat) : Nat := 266 + j
def tmRow (T : Tm) (b : Nat → Int32) (j : Nat) : Nat → Int32 := if j = 0 then upd (upd (upd (upd (upd b 6 T.al) 7 (Sr T.sr)) 8 T.te) 9 (I T.wk)) 10 (I T.lw) else if j = 1 then T.w else if j = 2 then T.sv else if j = 3 then T.mb else if j = 4 then T.mi else if j = 5 then T.fl else T.kn
def rowF (T : Tm) (b : Nat → Int32) : Nat → Int32 := fun k => if k < 8 then T.w k else if k < 16 then T.sv (k - 8) else if k = 16 then T.al else if k = 17 then Sr T.sr else if k = 18 then T.te else if k = 19 then I T.wk else if k = 20 then I T.lw else if k < 33 then T.mb (k - 21) else if k < 45 then T.mi (k - 33) else if k < 57 then T.fl (k - 45) else if k < 117 then T.kn (k - 57) else b k
def onRow (T : On) (b : Nat → Int32) (j : Nat) : Nat → Int32 := if j = 0 then upd (upd (upd b 0 (I T.pa)) 1 (I T.il)) 2 (I T.ch) else T.hb
def giW (B : LB) (X : XV) (M : MV) (r : Nat) : Nat → Int32 := if isTr r then tmRow (X.tm (tid r)) (gi B.s r) (tof r) else if isOr r then onRow (X.on (oid r)) (gi B.s r) (oof r) else if r = 0 then upd (upd (upd (upd (upd (upd (upd (upd (upd (upd (upd (gi B.s 0) 4 (I X.many)) 5 (I X.came)) 6 (I X.undoM)) 7 (X.grain)) 8 (X.off)) 10 (I X.typed)) 12 (I X.rowM)) 21 (X.isOther)) 22 (X.fallen)) 32 (I X.weighM)) 35 (I X.toldM) else if r = 17 then X.text else if r = 36 then X.comeW else if r = 38 then upd (gi B.s 38) 0 (X.those) else if r = 39 then upd (upd (upd (gi B.s 39) 0 (X.pWho)) 1 (X.pPlan)) 2 (X.pFrom) else if r = 40 then upd (gi B.s 40) 1 (X.aFrom) else if r = 41 then X.plans else if r = 42 then upd (upd (gi B.s 42) 0 (X.tParty)) 1 (X.tFrom) else if r = 43 then X.year else if r = 44 then X.weeksOf else if r = 45 then upd (gi B.s 45) 0 (X.nWho) else if r = 46 then upd (gi B.s 46) 0 (X.hN) else if r = 47 then upd (upd (gi B.s 47) 0 (X.sWho)) 1 (X.sN) else if r = 48 then upd (upd (gi B.s 48) 0 (X.vWho)) 1 (X.vN) else if r = 49 then upd (gi B.s 49) 0 (X.xWho) else if r = 50 then X.wOne else if r = 51 then X.wAs else if r = 52 then X.tOne else if r = 53 then X.tWeek else if r = 235 then upd (upd (upd (upd (upd (upd (upd (upd (upd (upd (upd (upd (upd (upd (upd (upd (upd (gi B.s 235) 0 (M.thrown)) 1 (I M.rows)) 3 (I M.people)) 8 (M.grain)) 9 (M.off)) 13 (I M.taped)) 14 (I M.at_)) 15 (I M.to_)) 16 (I M.nest)) 21 (I M.readMany)) 24 (I M.codeLong)) 25 (I M.readLong)) 27 (M.fell)) 28 (I M.undos)) 31 (I M.readWeeks)) 34 (I M.weighings)) 37 (I M.dates) else if r = 237 then (fun k => if k < 8 then I (M.on k).pa else gi B.s 237 k) else if r = 238 then (fun k => if k < 8 then I (M.on k).il else gi B.s 238 k) else if r = 239 then (fun k => if k < 48 then (M.on (k / 6)).hb (k % 6) else gi B.s 239 k) else if r = 240 then (fun k => if k < 8 then I (M.on k).ch else gi B.s 240 k) else if r = 241 then rowF (M.rw 0) (gi B.s 241) else if r = 242 then rowF (M.rw 1) (gi B.s 242) else if r = 243 then M.tape else if r = 244 then M.readWeight else if r = 245 then M.readParty else if r = 246 then (fun k => if k < 54 then M.rhb (k / 6) (k % 6) else gi B.s 246 k) else if r = 247 then (fun k => if k < 9 then I (M.rhM k) else gi B.s 247 k) else if r = 248 then M.code else if r = 249 then M.readCode else if r = 250 then M.stack else if r = 251 then (fun k => if k < 2340 then rowF (M.un (k / 117)) (fun _ => 0) (k % 117) else gi B.s 251 k) else if r = 252 then M.readStand else if r = 253 then M.servedFor else if r = 254 then M.plan else if r = 255 then M.weighedWho else if r = 256 then M.weighedShown else if r = 257 then M.dateWho else if r = 258 then M.dateWeek else if r = 261 then rowF (M.rw 2) (gi B.s 261) else if r = 262 then M.isKept else if r = 263 then M.keptPeople else if r = 264 then (fun k => if k < 351 then rowF (M.kp (k / 117)) (fun _ => 0) (k % 117) else gi B.s 264 k) else if 266 ≤ r then X.dm (r - 266) else gi B.s r
def glW (B : LB) (X : XV) (M : MV) (r : Nat) : Nat → Int64 := if r = 18 then X.row else if r = 76 then X.lk 0 else if r = 77 then X.lk 1 else if r = 236 then M.row else if r = 259 then M.lk 0 else if r = 260 then M.lk 1 else if r = 265 then X.out else if 266 ≤ r then X.dl (r - 266) else gl B.s r
def grW (B : LB) (X : XV) (r : Nat) : Nat → Option Nat := if r = 0 then upd (gr B.s 0) 15 X.rule else if r = 16 then (fun k => if k < 20 then some (tr (5 + X.ah k)) else gr B.s 16 k) else if r = 78 then X.kept else if 266 ≤ r then X.dr (r - 266) else gr B.s r
def kdW (B : LB) (X : XV) (r : Nat) : Nat × Nat := if 266 ≤ r then X.dk (r - 266) else kd B.s r
def W (B : LB) (X : XV) (M : MV) : ST := (D X.e, kdW B X, giW B X M, glW B X M, grW B X)
theorem fst_W {B X M} : (W B X M).1 = D X.e := rfl
theorem kd_W {B X M} : kd (W B X M) = kdW B X := rfl
theorem gi_W {B X M} : gi (W B X M) = giW B X M := rfl
theorem gl_W {B X M} : gl (W B X M) = glW B X M := rfl
theorem gr_W {B X M} : gr (W B X M) = grW B X := rfl
theorem lay_kd (B : LB) {r : Nat} {q : Nat × Nat} (h : r < 266) (e : kT[r]? = some q) : kd B.s r = q := Option.some.inj ((B.ok.2.1 r h).trans e)
theorem lay_gr (B : LB) {q : Nat × Nat × Nat} (i : Nat) (e : rT[i]? = some q) : gr B.s q.1 q.2.1 = some q.2.2 := B.ok.2.2 q (List.mem_of_getElem? e)
theorem W_ext {s : ST} {B X M} (h1 : s.1 = D X.e) (h2 : ∀ r, kd s r = kdW B X r) (h3 : ∀ r k, gi s r k = giW B X M r k) (h4 : ∀ r k, gl s r k = glW B X M r k) (h5 : ∀ r k, gr s r k = grW B X r k) : s = W B X M := Prod.ext h1 (Prod.ext (funext h2) (Prod.ext (funext fun r => funext (h3 r)) (Prod.ext (funext fun r => funext (h4 r)) (funext fun r => funext (h5 r)))))
theorem pI_W {B X M r k v X2 M2} (he : X2.e = X.e) (hk : X2.dk = X.dk) (hg : glW B X2 M2 = glW B X M) (hr : grW B X2 = grW B X) (h : ∀ r2 k2, (if r2 = r ∧ k2 = k then v else giW B X M r2 k2) = giW B X2 M2 r2 k2) : pI (W B X M) r k v = W B X2 M2 := by
  refine W_ext (by rw [he]; rfl) (fun r => ?_) h (fun r k => ?_) (fun r k => ?_)
  · unfold kdW; rw [hk]; rfl
  · rw [hg]; rfl
  · rw [hr]; rfl
theorem pIr_W {B X M r f X2 M2} (he : X2.e = X.e) (hk : X2.dk = X.dk) (hg : glW B X2 M2 = glW B X M) (hr : grW B X2 = grW B X) (h : ∀ r2, (if r2 = r then f else giW B X M r2) = giW B X2 M2 r2) : pIr (W B X M) r f = W B X2 M2 := by
  refine W_ext (by rw [he]; rfl) (fun r => ?_) (fun r2 k => congrFun (h r2) k) (fun r k => ?_) (fun r k => ?_)
  · unfold kdW; rw [hk]; rfl
  · rw [hg]; rfl
  · rw [hr]; rfl
theorem pL_W {B X M r k v X2 M2} (he : X2.e = X.e) (hk : X2.dk = X.dk) (hg : giW B X2 M2 = giW B X M) (hr : grW B X2 = grW B X) (h : ∀ r2 k2, (if r2 = r ∧ k2 = k then v else glW B X M r2 k2) = glW B X2 M2 r2 k2) : pL (W B X M) r k v = W B X2 M2 := by
  refine W_ext (by rw [he]; rfl) (fun r => ?_) (fun r k => ?_) h (fun r k => ?_)
  · unfold kdW; rw [hk]; rfl
  · rw [hg]; rfl
  · rw [hr]; rfl
theorem tr_ok : ∀ i, i < 25 → ∀ j, j < 7 → isTr (tr i + j) = true ∧ tid (tr i + j) = i ∧ tof (tr i + j) = j ∧ tr i + j < 266 := by decide +kernel
theorem tr_in : ∀ r, r < 266 → isTr r = true → r = tr (tid r) + tof r ∧ tid r < 25 ∧ tof r < 7 := by decide +kernel
theorem tr_lt : ∀ r, isTr r = true → r < 266 := by intro r h; simp [isTr] at h; omega
theorem or_ok : ∀ i, i < 16 → ∀ j, j < 2 → isTr (orl i + j) = false ∧ isOr (orl i + j) = true ∧ oid (orl i + j) = i ∧ oof (orl i + j) = j ∧ orl i + j < 266 := by decide +kernel
theorem or_in : ∀ r, r < 266 → isOr r = true → r = orl (oid r) + oof r ∧ oid r < 16 ∧ oof r < 2 := by decide +kernel
theorem or_lt : ∀ r, isOr r = true → r < 266 := by intro r h; simp [isOr] at h; omega
theorem tr_st : ∀ i, i < 25 → ∀ j, j < 7 → kT[tr i + j]? = some (if j = 0 then (2, 0) else if j < 3 then (100, 8) else if j < 6 then (100, 12) else (100, 60)) := by decide +kernel
theorem or_st : ∀ i, i < 16 → ∀ j, j < 2 → kT[orl i + j]? = some (if j = 0 then (3, 0) else (100, 6)) := by decide +kernel
theorem tr_rf : ∀ i, i < 25 → ∀ j, j < 6 → rT.contains (tr i, j, tr i + (j + 1)) = true := by decide +kernel
theorem or_rf : ∀ i, i < 16 → rT.contains (orl i, 3, orl i + 1) = true := by decide +kernel
theorem lay_grc (B : LB) {q : Nat × Nat × Nat} (e : rT.contains q = true) : gr B.s q.1 q.2.1 = some q.2.2 := B.ok.2.2 q (List.elem_iff.mp e)
theorem kd_W_0 {B : LB} {X : XV} {M : MV} : kd (W B X M) 0 = (1, 0) := lay_kd B (by decide) rfl
theorem kd_W_1 {B : LB} {X : XV} {M : MV} : kd (W B X M) 1 = (105, 8) := lay_kd B (by decide) rfl
theorem kd_W_16 {B : LB} {X : XV} {M : MV} : kd (W B X M) 16 = (106, 20) := lay_kd B (by decide) rfl
theorem kd_W_17 {B : LB} {X : XV} {M : MV} : kd (W B X M) 17 = (101, 80) := lay_kd B (by decide) rfl
theorem kd_W_18 {B : LB} {X : XV} {M : MV} : kd (W B X M) 18 = (104, 16) := lay_kd B (by decide) rfl
theorem kd_W_19 {B : LB} {X : XV} {M : MV} : kd (W B X M) 19 = (105, 8) := lay_kd B (by decide) rfl
theorem kd_W_36 {B : LB} {X : XV} {M : MV} : kd (W B X M) 36 = (100, 8) := lay_kd B (by decide) rfl
theorem kd_W_37 {B : LB} {X : XV} {M : MV} : kd (W B X M) 37 = (4, 0) := lay_kd B (by decide) rfl
theorem kd_W_38 {B : LB} {X : XV} {M : MV} : kd (W B X M) 38 = (5, 0) := lay_kd B (by decide) rfl
theorem kd_W_39 {B : LB} {X : XV} {M : MV} : kd (W B X M) 39 = (6, 0) := lay_kd B (by decide) rfl
theorem kd_W_40 {B : LB} {X : XV} {M : MV} : kd (W B X M) 40 = (7, 0) := lay_kd B (by decide) rfl
theorem kd_W_41 {B : LB} {X : XV} {M : MV} : kd (W B X M) 41 = (100, 8) := lay_kd B (by decide) rfl
theorem kd_W_42 {B : LB} {X : XV} {M : MV} : kd (W B X M) 42 = (8, 0) := lay_kd B (by decide) rfl
theorem kd_W_43 {B : LB} {X : XV} {M : MV} : kd (W B X M) 43 = (100, 61) := lay_kd B (by decide) rfl
theorem kd_W_44 {B : LB} {X : XV} {M : MV} : kd (W B X M) 44 = (100, 4) := lay_kd B (by decide) rfl
theorem kd_W_45 {B : LB} {X : XV} {M : MV} : kd (W B X M) 45 = (9, 0) := lay_kd B (by decide) rfl
theorem kd_W_46 {B : LB} {X : XV} {M : MV} : kd (W B X M) 46 = (10, 0) := lay_kd B (by decide) rfl
theorem kd_W_47 {B : LB} {X : XV} {M : MV} : kd (W B X M) 47 = (11, 0) := lay_kd B (by decide) rfl
theorem kd_W_48 {B : LB} {X : XV} {M : MV} : kd (W B X M) 48 = (12, 0) := lay_kd B (by decide) rfl
theorem kd_W_49 {B : LB} {X : XV} {M : MV} : kd (W B X M) 49 = (13, 0) := lay_kd B (by decide) rfl
theorem kd_W_50 {B : LB} {X : XV} {M : MV} : kd (W B X M) 50 = (100, 12) := lay_kd B (by decide) rfl
theorem kd_W_51 {B : LB} {X : XV} {M : MV} : kd (W B X M) 51 = (100, 12) := lay_kd B (by decide) rfl
theorem kd_W_52 {B : LB} {X : XV} {M : MV} : kd (W B X M) 52 = (100, 10) := lay_kd B (by decide) rfl
theorem kd_W_53 {B : LB} {X : XV} {M : MV} : kd (W B X M) 53 = (100, 10) := lay_kd B (by decide) rfl
theorem kd_W_54 {B : LB} {X : XV} {M : MV} : kd (W B X M) 54 = (106, 3) := lay_kd B (by decide) rfl
theorem kd_W_76 {B : LB} {X : XV} {M : MV} : kd (W B X M) 76 = (104, 9) := lay_kd B (by decide) rfl
theorem kd_W_77 {B : LB} {X : XV} {M : MV} : kd (W B X M) 77 = (104, 9) := lay_kd B (by decide) rfl
theorem kd_W_78 {B : LB} {X : XV} {M : MV} : kd (W B X M) 78 = (107, 3) := lay_kd B (by decide) rfl
theorem kd_W_235 {B : LB} {X : XV} {M : MV} : kd (W B X M) 235 = (14, 0) := lay_kd B (by decide) rfl
theorem kd_W_236 {B : LB} {X : XV} {M : MV} : kd (W B X M) 236 = (104, 24) := lay_kd B (by decide) rfl
theorem kd_W_237 {B : LB} {X : XV} {M : MV} : kd (W B X M) 237 = (100, 8) := lay_kd B (by decide) rfl
theorem kd_W_238 {B : LB} {X : XV} {M : MV} : kd (W B X M) 238 = (100, 8) := lay_kd B (by decide) rfl
theorem kd_W_239 {B : LB} {X : XV} {M : MV} : kd (W B X M) 239 = (100, 48) := lay_kd B (by decide) rfl
theorem kd_W_240 {B : LB} {X : XV} {M : MV} : kd (W B X M) 240 = (100, 8) := lay_kd B (by decide) rfl
theorem kd_W_243 {B : LB} {X : XV} {M : MV} : kd (W B X M) 243 = (100, 80) := lay_kd B (by decide) rfl
theorem kd_W_244 {B : LB} {X : XV} {M : MV} : kd (W B X M) 244 = (100, 8) := lay_kd B (by decide) rfl
theorem kd_W_245 {B : LB} {X : XV} {M : MV} : kd (W B X M) 245 = (100, 8) := lay_kd B (by decide) rfl
theorem kd_W_246 {B : LB} {X : XV} {M : MV} : kd (W B X M) 246 = (100, 54) := lay_kd B (by decide) rfl
theorem kd_W_247 {B : LB} {X : XV} {M : MV} : kd (W B X M) 247 = (100, 9) := lay_kd B (by decide) rfl
theorem kd_W_248 {B : LB} {X : XV} {M : MV} : kd (W B X M) 248 = (100, 80) := lay_kd B (by decide) rfl
theorem kd_W_249 {B : LB} {X : XV} {M : MV} : kd (W B X M) 249 = (100, 80) := lay_kd B (by decide) rfl
theorem kd_W_250 {B : LB} {X : XV} {M : MV} : kd (W B X M) 250 = (100, 80) := lay_kd B (by decide) rfl
theorem kd_W_251 {B : LB} {X : XV} {M : MV} : kd (W B X M) 251 = (100, 2340) := lay_kd B (by decide) rfl
theorem kd_W_252 {B : LB} {X : XV} {M : MV} : kd (W B X M) 252 = (100, 61) := lay_kd B (by decide) rfl
theorem kd_W_253 {B : LB} {X : XV} {M : MV} : kd (W B X M) 253 = (100, 8) := lay_kd B (by decide) rfl
theorem kd_W_254 {B : LB} {X : XV} {M : MV} : kd (W B X M) 254 = (100, 8) := lay_kd B (by decide) rfl
theorem kd_W_255 {B : LB} {X : XV} {M : MV} : kd (W B X M) 255 = (100, 12) := lay_kd B (by decide) rfl
theorem kd_W_256 {B : LB} {X : XV} {M : MV} : kd (W B X M) 256 = (100, 12) := lay_kd B (by decide) rfl
theorem kd_W_257 {B : LB} {X : XV} {M : MV} : kd (W B X M) 257 = (100, 10) := lay_kd B (by decide) rfl
theorem kd_W_258 {B : LB} {X : XV} {M : MV} : kd (W B X M) 258 = (100, 10) := lay_kd B (by decide) rfl
theorem kd_W_262 {B : LB} {X : XV} {M : MV} : kd (W B X M) 262 = (103, 3) := lay_kd B (by decide) rfl
theorem kd_W_263 {B : LB} {X : XV} {M : MV} : kd (W B X M) 263 = (100, 3) := lay_kd B (by decide) rfl
theorem kd_W_264 {B : LB} {X : XV} {M : MV} : kd (W B X M) 264 = (100, 351) := lay_kd B (by decide) rfl
theorem kd_W_265 {B : LB} {X : XV} {M : MV} : kd (W B X M) 265 = (104, 1) := lay_kd B (by decide) rfl
theorem kd_W_tr0 {B : LB} {X : XV} {M : MV} {i : Nat} (h : i < 25) : kd (W B X M) (tr i) = (2, 0) := by
  have h1 := tr_ok i h 0 (by decide)
  have h2 := tr_st i h 0 (by decide)
  rw [kd_W, kdW, if_neg (by omega)]
  exact lay_kd B h1.2.2.2 h2
theorem kd_W_tr1 {B : LB} {X : XV} {M : MV} {i : Nat} (h : i < 25) : kd (W B X M) (tr i + 1) = (100, 8) := by
  have h1 := tr_ok i h 1 (by decide)
  have h2 := tr_st i h 1 (by decide)
  rw [kd_W, kdW, if_neg (by omega)]
  exact lay_kd B h1.2.2.2 h2
theorem kd_W_tr2 {B : LB} {X : XV} {M : MV} {i : Nat} (h : i < 25) : kd (W B X M) (tr i + 2) = (100, 8) := by
  have h1 := tr_ok i h 2 (by decide)
  have h2 := tr_st i h 2 (by decide)
  rw [kd_W, kdW, if_neg (by omega)]
  exact lay_kd B h1.2.2.2 h2
theorem kd_W_tr3 {B : LB} {X : XV} {M : MV} {i : Nat} (h : i < 25) : kd (W B X M) (tr i + 3) = (100, 12) := by
  have h1 := tr_ok i h 3 (by decide)
  have h2 := tr_st i h 3 (by decide)
  rw [kd_W, kdW, if_neg (by omega)]
  exact lay_kd B h1.2.2.2 h2
theorem kd_W_tr4 {B : LB} {X : XV} {M : MV} {i : Nat} (h : i < 25) : kd (W B X M) (tr i + 4) = (100, 12) := by
  have h1 := tr_ok i h 4 (by decide)
  have h2 := tr_st i h 4 (by decide)
  rw [kd_W, kdW, if_neg (by omega)]
  exact lay_kd B h1.2.2.2 h2
theorem kd_W_tr5 {B : LB} {X : XV} {M : MV} {i : Nat} (h : i < 25) : kd (W B X M) (tr i + 5) = (100, 12) := by
  have h1 := tr_ok i h 5 (by decide)
  have h2 := tr_st i h 5 (by decide)
  rw [kd_W, kdW, if_neg (by omega)]
  exact lay_kd B h1.2.2.2 h2
theorem kd_W_tr6 {B : LB} {X : XV} {M : MV} {i : Nat} (h : i < 25) : kd (W B X M) (tr i + 6) = (100, 60) := by
  have h1 := tr_ok i h 6 (by decide)
  have h2 := tr_st i h 6 (by decide)
  rw [kd_W, kdW, if_neg (by omega)]
  exact lay_kd B h1.2.2.2 h2
theorem kd_W_or0 {B : LB} {X : XV} {M : MV} {i : Nat} (h : i < 16) : kd (W B X M) (orl i) = (3, 0) := by
  have h1 := or_ok i h 0 (by decide)
  have h2 := or_st i h 0 (by decide)
  rw [kd_W, kdW, if_neg (by omega)]
  exact lay_kd B h1.2.2.2.2 h2
theorem kd_W_or1 {B : LB} {X : XV} {M : MV} {i : Nat} (h : i < 16) : kd (W B X M) (orl i + 1) = (100, 6) := by
  have h1 := or_ok i h 1 (by decide)
  have h2 := or_st i h 1 (by decide)
  rw [kd_W, kdW, if_neg (by omega)]
  exact lay_kd B h1.2.2.2.2 h2
theorem kd_W_rr {B : LB} {X : XV} {M : MV} {i : Nat} (h : i < 3) : kd (W B X M) (rr i) = (100, 117) := by
  match i, h with
  | 0, _ => exact lay_kd B (by decide) rfl
  | 1, _ => exact lay_kd B (by decide) rfl
  | 2, _ => exact lay_kd B (by decide) rfl
theorem kd_W_lr {B : LB} {X : XV} {M : MV} {i : Nat} (h : i < 2) : kd (W B X M) (lr i) = (104, 9) := by
  match i, h with
  | 0, _ => exact lay_kd B (by decide) rfl
  | 1, _ => exact lay_kd B (by decide) rfl
theorem kd_W_xl {B : LB} {X : XV} {M : MV} {i : Nat} (h : i < 2) : kd (W B X M) (xl i) = (104, 9) := by
  match i, h with
  | 0, _ => exact lay_kd B (by decide) rfl
  | 1, _ => exact lay_kd B (by decide) rfl
theorem kd_W_D {B : LB} {X : XV} {M : MV} {j : Nat} : kd (W B X M) (D j) = X.dk j := by
  rw [kd_W, kdW, if_pos (by unfold D; omega)]
  unfold D
  congr 1
  omega
theorem lt_D {n e : Nat} (h : n < 266) : (n < D e) = True := by unfold D; exact eq_true (by omega)
theorem D_lt_D {n e : Nat} : (D n < D e) = (n < e) := by unfold D; exact propext (by omega)
theorem D_le_D {n e : Nat} : (D n ≤ D e) = (n ≤ e) := by unfold D; exact propext (by omega)
theorem tr_lt0 {i e : Nat} (h : i < 25) : (tr i < D e) = True := by have := tr_ok i h 0 (by decide); unfold D; exact eq_true (by omega)
theorem tr_lt1 {i e : Nat} (h : i < 25) : (tr i + 1 < D e) = True := by have := tr_ok i h 1 (by decide); unfold D; exact eq_true (by omega)
theorem tr_lt2 {i e : Nat} (h : i < 25) : (tr i + 2 < D e) = True := by have := tr_ok i h 2 (by decide); unfold D; exact eq_true (by omega)
theorem tr_lt3 {i e : Nat} (h : i < 25) : (tr i + 3 < D e) = True := by have := tr_ok i h 3 (by decide); unfold D; exact eq_true (by omega)
theorem tr_lt4 {i e : Nat} (h : i < 25) : (tr i + 4 < D e) = True := by have := tr_ok i h 4 (by decide); unfold D; exact eq_true (by omega)
theorem tr_lt5 {i e : Nat} (h : i < 25) : (tr i + 5 < D e) = True := by have := tr_ok i h 5 (by decide); unfold D; exact eq_true (by omega)
theorem tr_lt6 {i e : Nat} (h : i < 25) : (tr i + 6 < D e) = True := by have := tr_ok i h 6 (by decide); unfold D; exact eq_true (by omega)
theorem or_lt0 {i e : Nat} (h : i < 16) : (orl i < D e) = True := by have := or_ok i h 0 (by decide); unfold D; exact eq_true (by omega)
theorem or_lt1 {i e : Nat} (h : i < 16) : (orl i + 1 < D e) = True := by have := or_ok i h 1 (by decide); unfold D; exact eq_true (by omega)
theorem rr_lt {i e : Nat} : (rr i < D e) = True := by unfold D rr; exact eq_true (by split <;> (try split) <;> omega)
theorem lr_lt {i e : Nat} : (lr i < D e) = True := by unfold D lr; exact eq_true (by split <;> omega)
theorem xl_lt {i e : Nat} : (xl i < D e) = True := by unfold D xl; exact eq_true (by split <;> omega)
theorem gr_W_0_0 {B : LB} {X : XV} {M : MV} : gr (W B X M) 0 0 = some (1) := lay_gr B 0 rfl
theorem gr_W_0_1 {B : LB} {X : XV} {M : MV} : gr (W B X M) 0 1 = some (tr 0) := lay_gr B 1 rfl
theorem gr_W_0_2 {B : LB} {X : XV} {M : MV} : gr (W B X M) 0 2 = some (tr 1) := lay_gr B 2 rfl
theorem gr_W_0_3 {B : LB} {X : XV} {M : MV} : gr (W B X M) 0 3 = some (16) := lay_gr B 3 rfl
theorem gr_W_0_9 {B : LB} {X : XV} {M : MV} : gr (W B X M) 0 9 = some (17) := lay_gr B 4 rfl
theorem gr_W_0_11 {B : LB} {X : XV} {M : MV} : gr (W B X M) 0 11 = some (18) := lay_gr B 5 rfl
theorem gr_W_0_13 {B : LB} {X : XV} {M : MV} : gr (W B X M) 0 13 = some (19) := lay_gr B 6 rfl
theorem gr_W_0_14 {B : LB} {X : XV} {M : MV} : gr (W B X M) 0 14 = some (36) := lay_gr B 7 rfl
theorem gr_W_0_16 {B : LB} {X : XV} {M : MV} : gr (W B X M) 0 16 = some (37) := lay_gr B 8 rfl
theorem gr_W_0_17 {B : LB} {X : XV} {M : MV} : gr (W B X M) 0 17 = some (38) := lay_gr B 9 rfl
theorem gr_W_0_18 {B : LB} {X : XV} {M : MV} : gr (W B X M) 0 18 = some (39) := lay_gr B 10 rfl
theorem gr_W_0_19 {B : LB} {X : XV} {M : MV} : gr (W B X M) 0 19 = some (40) := lay_gr B 11 rfl
theorem gr_W_0_20 {B : LB} {X : XV} {M : MV} : gr (W B X M) 0 20 = some (42) := lay_gr B 12 rfl
theorem gr_W_0_23 {B : LB} {X : XV} {M : MV} : gr (W B X M) 0 23 = some (43) := lay_gr B 13 rfl
theorem gr_W_0_24 {B : LB} {X : XV} {M : MV} : gr (W B X M) 0 24 = some (44) := lay_gr B 14 rfl
theorem gr_W_0_25 {B : LB} {X : XV} {M : MV} : gr (W B X M) 0 25 = some (45) := lay_gr B 15 rfl
theorem gr_W_0_26 {B : LB} {X : XV} {M : MV} : gr (W B X M) 0 26 = some (46) := lay_gr B 16 rfl
theorem gr_W_0_27 {B : LB} {X : XV} {M : MV} : gr (W B X M) 0 27 = some (47) := lay_gr B 17 rfl
theorem gr_W_0_28 {B : LB} {X : XV} {M : MV} : gr (W B X M) 0 28 = some (48) := lay_gr B 18 rfl
theorem gr_W_0_29 {B : LB} {X : XV} {M : MV} : gr (W B X M) 0 29 = some (49) := lay_gr B 19 rfl
theorem gr_W_0_30 {B : LB} {X : XV} {M : MV} : gr (W B X M) 0 30 = some (50) := lay_gr B 20 rfl
theorem gr_W_0_31 {B : LB} {X : XV} {M : MV} : gr (W B X M) 0 31 = some (51) := lay_gr B 21 rfl
theorem gr_W_0_33 {B : LB} {X : XV} {M : MV} : gr (W B X M) 0 33 = some (52) := lay_gr B 22 rfl
theorem gr_W_0_34 {B : LB} {X : XV} {M : MV} : gr (W B X M) 0 34 = some (53) := lay_gr B 23 rfl
theorem gr_W_0_36 {B : LB} {X : XV} {M : MV} : gr (W B X M) 0 36 = some (54) := lay_gr B 24 rfl
theorem gr_W_0_37 {B : LB} {X : XV} {M : MV} : gr (W B X M) 0 37 = some (xl 0) := lay_gr B 25 rfl
theorem gr_W_0_38 {B : LB} {X : XV} {M : MV} : gr (W B X M) 0 38 = some (xl 1) := lay_gr B 26 rfl
theorem gr_W_0_39 {B : LB} {X : XV} {M : MV} : gr (W B X M) 0 39 = some (78) := lay_gr B 27 rfl
theorem gr_W_37_0 {B : LB} {X : XV} {M : MV} : gr (W B X M) 37 0 = some (0) := lay_gr B 84 rfl
theorem gr_W_39_3 {B : LB} {X : XV} {M : MV} : gr (W B X M) 39 3 = some (0) := lay_gr B 85 rfl
theorem gr_W_40_0 {B : LB} {X : XV} {M : MV} : gr (W B X M) 40 0 = some (41) := lay_gr B 86 rfl
theorem gr_W_42_2 {B : LB} {X : XV} {M : MV} : gr (W B X M) 42 2 = some (0) := lay_gr B 87 rfl
theorem gr_W_45_1 {B : LB} {X : XV} {M : MV} : gr (W B X M) 45 1 = some (0) := lay_gr B 88 rfl
theorem gr_W_46_1 {B : LB} {X : XV} {M : MV} : gr (W B X M) 46 1 = some (0) := lay_gr B 89 rfl
theorem gr_W_47_2 {B : LB} {X : XV} {M : MV} : gr (W B X M) 47 2 = some (0) := lay_gr B 90 rfl
theorem gr_W_48_2 {B : LB} {X : XV} {M : MV} : gr (W B X M) 48 2 = some (0) := lay_gr B 91 rfl
theorem gr_W_49_1 {B : LB} {X : XV} {M : MV} : gr (W B X M) 49 1 = some (0) := lay_gr B 92 rfl
theorem gr_W_235_2 {B : LB} {X : XV} {M : MV} : gr (W B X M) 235 2 = some (236) := lay_gr B 242 rfl
theorem gr_W_235_4 {B : LB} {X : XV} {M : MV} : gr (W B X M) 235 4 = some (237) := lay_gr B 243 rfl
theorem gr_W_235_5 {B : LB} {X : XV} {M : MV} : gr (W B X M) 235 5 = some (238) := lay_gr B 244 rfl
theorem gr_W_235_6 {B : LB} {X : XV} {M : MV} : gr (W B X M) 235 6 = some (239) := lay_gr B 245 rfl
theorem gr_W_235_7 {B : LB} {X : XV} {M : MV} : gr (W B X M) 235 7 = some (240) := lay_gr B 246 rfl
theorem gr_W_235_10 {B : LB} {X : XV} {M : MV} : gr (W B X M) 235 10 = some (rr 0) := lay_gr B 247 rfl
theorem gr_W_235_11 {B : LB} {X : XV} {M : MV} : gr (W B X M) 235 11 = some (rr 1) := lay_gr B 248 rfl
theorem gr_W_235_12 {B : LB} {X : XV} {M : MV} : gr (W B X M) 235 12 = some (243) := lay_gr B 249 rfl
theorem gr_W_235_17 {B : LB} {X : XV} {M : MV} : gr (W B X M) 235 17 = some (244) := lay_gr B 250 rfl
theorem gr_W_235_18 {B : LB} {X : XV} {M : MV} : gr (W B X M) 235 18 = some (245) := lay_gr B 251 rfl
theorem gr_W_235_19 {B : LB} {X : XV} {M : MV} : gr (W B X M) 235 19 = some (246) := lay_gr B 252 rfl
theorem gr_W_235_20 {B : LB} {X : XV} {M : MV} : gr (W B X M) 235 20 = some (247) := lay_gr B 253 rfl
theorem gr_W_235_22 {B : LB} {X : XV} {M : MV} : gr (W B X M) 235 22 = some (248) := lay_gr B 254 rfl
theorem gr_W_235_23 {B : LB} {X : XV} {M : MV} : gr (W B X M) 235 23 = some (249) := lay_gr B 255 rfl
theorem gr_W_235_26 {B : LB} {X : XV} {M : MV} : gr (W B X M) 235 26 = some (250) := lay_gr B 256 rfl
theorem gr_W_235_29 {B : LB} {X : XV} {M : MV} : gr (W B X M) 235 29 = some (251) := lay_gr B 257 rfl
theorem gr_W_235_30 {B : LB} {X : XV} {M : MV} : gr (W B X M) 235 30 = some (252) := lay_gr B 258 rfl
theorem gr_W_235_32 {B : LB} {X : XV} {M : MV} : gr (W B X M) 235 32 = some (253) := lay_gr B 259 rfl
theorem gr_W_235_33 {B : LB} {X : XV} {M : MV} : gr (W B X M) 235 33 = some (254) := lay_gr B 260 rfl
theorem gr_W_235_35 {B : LB} {X : XV} {M : MV} : gr (W B X M) 235 35 = some (255) := lay_gr B 261 rfl
theorem gr_W_235_36 {B : LB} {X : XV} {M : MV} : gr (W B X M) 235 36 = some (256) := lay_gr B 262 rfl
theorem gr_W_235_38 {B : LB} {X : XV} {M : MV} : gr (W B X M) 235 38 = some (257) := lay_gr B 263 rfl
theorem gr_W_235_39 {B : LB} {X : XV} {M : MV} : gr (W B X M) 235 39 = some (258) := lay_gr B 264 rfl
theorem gr_W_235_40 {B : LB} {X : XV} {M : MV} : gr (W B X M) 235 40 = some (lr 0) := lay_gr B 265 rfl
theorem gr_W_235_41 {B : LB} {X : XV} {M : MV} : gr (W B X M) 235 41 = some (lr 1) := lay_gr B 266 rfl
theorem gr_W_235_42 {B : LB} {X : XV} {M : MV} : gr (W B X M) 235 42 = some (rr 2) := lay_gr B 267 rfl
theorem gr_W_235_43 {B : LB} {X : XV} {M : MV} : gr (W B X M) 235 43 = some (262) := lay_gr B 268 rfl
theorem gr_W_235_44 {B : LB} {X : XV} {M : MV} : gr (W B X M) 235 44 = some (263) := lay_gr B 269 rfl
theorem gr_W_235_45 {B : LB} {X : XV} {M : MV} : gr (W B X M) 235 45 = some (264) := lay_gr B 270 rfl
theorem ar1 : ∀ k, k < 8 → rT.contains (1, k, orl k) = true := by decide +kernel
theorem ar19 : ∀ k, k < 8 → rT.contains (19, k, orl (8 + k)) = true := by decide +kernel
theorem ar54 : ∀ k, k < 3 → rT.contains (54, k, tr (2 + k)) = true := by decide +kernel
theorem gr_W_1 {B : LB} {X : XV} {M : MV} {k : Nat} (h : k < 8) : gr (W B X M) 1 k = some (orl k) := lay_grc B (ar1 k h)
theorem gr_W_19 {B : LB} {X : XV} {M : MV} {k : Nat} (h : k < 8) : gr (W B X M) 19 k = some (orl (8 + k)) := lay_grc B (ar19 k h)
theorem gr_W_54 {B : LB} {X : XV} {M : MV} {k : Nat} (h : k < 3) : gr (W B X M) 54 k = some (tr (2 + k)) := lay_grc B (ar54 k h)
theorem gr_W_rule {B : LB} {X : XV} {M : MV} : gr (W B X M) 0 15 = X.rule := rfl
theorem gr_W_ah {B : LB} {X : XV} {M : MV} {k : Nat} (h : k < 20) : gr (W B X M) 16 k = some (tr (5 + X.ah k)) := by rw [gr_W, grW, if_neg (by decide), if_pos rfl, if_pos h]
theorem gr_W_kept {B : LB} {X : XV} {M : MV} : gr (W B X M) 78 = X.kept := rfl
theorem gr_W_D {B : LB} {X : XV} {M : MV} {j : Nat} : gr (W B X M) (D j) = X.dr j := by
  rw [gr_W, grW, if_neg (by unfold D; omega), if_neg (by unfold D; omega), if_neg (by unfold D; omega), if_pos (by unfold D; omega)]
  unfold D
  congr 1
  omega
theorem gr_W_tr0 {B : LB} {X : XV} {M : MV} {i : Nat} (h : i < 25) : gr (W B X M) (tr i) 0 = some (tr i + 1) := by
  have h0 := tr_ok i h 0 (by decide)
  have h1 : tr i ≠ 0 ∧ tr i ≠ 16 ∧ tr i ≠ 78 := by
    refine ⟨fun e => ?_, fun e => ?_, fun e => ?_⟩ <;> rw [Nat.add_zero, e] at h0 <;> simp [isTr] at h0
  rw [gr_W, grW, if_neg h1.1, if_neg h1.2.1, if_neg h1.2.2, if_neg (by omega)]
  exact lay_grc B (tr_rf i h 0 (by decide))
theorem gr_W_tr1 {B : LB} {X : XV} {M : MV} {i : Nat} (h : i < 25) : gr (W B X M) (tr i) 1 = some (tr i + 2) := by
  have h0 := tr_ok i h 0 (by decide)
  have h1 : tr i ≠ 0 ∧ tr i ≠ 16 ∧ tr i ≠ 78 := by
    refine ⟨fun e => ?_, fun e => ?_, fun e => ?_⟩ <;> rw [Nat.add_zero, e] at h0 <;> simp [isTr] at h0
  rw [gr_W, grW, if_neg h1.1, if_neg h1.2.1, if_neg h1.2.2, if_neg (by omega)]
  exact lay_grc B (tr_rf i h 1 (by decide))
theorem gr_W_tr2 {B : LB} {X : XV} {M : MV} {i : Nat} (h : i < 25) : gr (W B X M) (tr i) 2 = some (tr i + 3) := by
  have h0 := tr_ok i h 0 (by decide)
  have h1 : tr i ≠ 0 ∧ tr i ≠ 16 ∧ tr i ≠ 78 := by
    refine ⟨fun e => ?_, fun e => ?_, fun e => ?_⟩ <;> rw [Nat.add_zero, e] at h0 <;> simp [isTr] at h0
  rw [gr_W, grW, if_neg h1.1, if_neg h1.2.1, if_neg h1.2.2, if_neg (by omega)]
  exact lay_grc B (tr_rf i h 2 (by decide))
theorem gr_W_tr3 {B : LB} {X : XV} {M : MV} {i : Nat} (h : i < 25) : gr (W B X M) (tr i) 3 = some (tr i + 4) := by
  have h0 := tr_ok i h 0 (by decide)
  have h1 : tr i ≠ 0 ∧ tr i ≠ 16 ∧ tr i ≠ 78 := by
    refine ⟨fun e => ?_, fun e => ?_, fun e => ?_⟩ <;> rw [Nat.add_zero, e] at h0 <;> simp [isTr] at h0
  rw [gr_W, grW, if_neg h1.1, if_neg h1.2.1, if_neg h1.2.2, if_neg (by omega)]
  exact lay_grc B (tr_rf i h 3 (by decide))
theorem gr_W_tr4 {B : LB} {X : XV} {M : MV} {i : Nat} (h : i < 25) : gr (W B X M) (tr i) 4 = some (tr i + 5) := by
  have h0 := tr_ok i h 0 (by decide)
  have h1 : tr i ≠ 0 ∧ tr i ≠ 16 ∧ tr i ≠ 78 := by
    refine ⟨fun e => ?_, fun e => ?_, fun e => ?_⟩ <;> rw [Nat.add_zero, e] at h0 <;> simp [isTr] at h0
  rw [gr_W, grW, if_neg h1.1, if_neg h1.2.1, if_neg h1.2.2, if_neg (by omega)]
  exact lay_grc B (tr_rf i h 4 (by decide))
theorem gr_W_tr5 {B : LB} {X : XV} {M : MV} {i : Nat} (h : i < 25) : gr (W B X M) (tr i) 5 = some (tr i + 6) := by
  have h0 := tr_ok i h 0 (by decide)
  have h1 : tr i ≠ 0 ∧ tr i ≠ 16 ∧ tr i ≠ 78 := by
    refine ⟨fun e => ?_, fun e => ?_, fun e => ?_⟩ <;> rw [Nat.add_zero, e] at h0 <;> simp [isTr] at h0
  rw [gr_W, grW, if_neg h1.1, if_neg h1.2.1, if_neg h1.2.2, if_neg (by omega)]
  exact lay_grc B (tr_rf i h 5 (by decide))
theorem gr_W_or3 {B : LB} {X : XV} {M : MV} {i : Nat} (h : i < 16) : gr (W B X M) (orl i) 3 = some (orl i + 1) := by
  have h0 := or_ok i h 0 (by decide)
  have h1 : orl i ≠ 0 ∧ orl i ≠ 16 ∧ orl i ≠ 78 := by
    refine ⟨fun e => ?_, fun e => ?_, fun e => ?_⟩ <;> rw [Nat.add_zero, e] at h0 <;> simp [isOr] at h0
  rw [gr_W, grW, if_neg h1.1, if_neg h1.2.1, if_neg h1.2.2, if_neg (by omega)]
  exact lay_grc B (or_rf i h)
theorem gi_X_many {B : LB} {X : XV} {M : MV} : gi (W B X M) 0 4 = I X.many := rfl
theorem gi_X_came {B : LB} {X : XV} {M : MV} : gi (W B X M) 0 5 = I X.came := rfl
theorem gi_X_undoM {B : LB} {X : XV} {M : MV} : gi (W B X M) 0 6 = I X.undoM := rfl
theorem gi_X_grain {B : LB} {X : XV} {M : MV} : gi (W B X M) 0 7 = X.grain := rfl
theorem gi_X_off {B : LB} {X : XV} {M : MV} : gi (W B X M) 0 8 = X.off := rfl
theorem gi_X_typed {B : LB} {X : XV} {M : MV} : gi (W B X M) 0 10 = I X.typed := rfl
theorem gi_X_rowM {B : LB} {X : XV} {M : MV} : gi (W B X M) 0 12 = I X.rowM := rfl
theorem gi_X_isOther {B : LB} {X : XV} {M : MV} : gi (W B X M) 0 21 = X.isOther := rfl
theorem gi_X_fallen {B : LB} {X : XV} {M : MV} : gi (W B X M) 0 22 = X.fallen := rfl
theorem gi_X_weighM {B : LB} {X : XV} {M : MV} : gi (W B X M) 0 32 = I X.weighM := rfl
theorem gi_X_toldM {B : LB} {X : XV} {M : MV} : gi (W B X M) 0 35 = I X.toldM := rfl
theorem gi_X_those {B : LB} {X : XV} {M : MV} : gi (W B X M) 38 0 = X.those := rfl
theorem gi_X_pWho {B : LB} {X : XV} {M : MV} : gi (W B X M) 39 0 = X.pWho := rfl
theorem gi_X_pPlan {B : LB} {X : XV} {M : MV} : gi (W B X M) 39 1 = X.pPlan := rfl
theorem gi_X_pFrom {B : LB} {X : XV} {M : MV} : gi (W B X M) 39 2 = X.pFrom := rfl
theorem gi_X_aFrom {B : LB} {X : XV} {M : MV} : gi (W B X M) 40 1 = X.aFrom := rfl
theorem gi_X_tParty {B : LB} {X : XV} {M : MV} : gi (W B X M) 42 0 = X.tParty := rfl
theorem gi_X_tFrom {B : LB} {X : XV} {M : MV} : gi (W B X M) 42 1 = X.tFrom := rfl
theorem gi_X_nWho {B : LB} {X : XV} {M : MV} : gi (W B X M) 45 0 = X.nWho := rfl
theorem gi_X_hN {B : LB} {X : XV} {M : MV} : gi (W B X M) 46 0 = X.hN := rfl
theorem gi_X_sWho {B : LB} {X : XV} {M : MV} : gi (W B X M) 47 0 = X.sWho := rfl
theorem gi_X_sN {B : LB} {X : XV} {M : MV} : gi (W B X M) 47 1 = X.sN := rfl
theorem gi_X_vWho {B : LB} {X : XV} {M : MV} : gi (W B X M) 48 0 = X.vWho := rfl
theorem gi_X_vN {B : LB} {X : XV} {M : MV} : gi (W B X M) 48 1 = X.vN := rfl
theorem gi_X_xWho {B : LB} {X : XV} {M : MV} : gi (W B X M) 49 0 = X.xWho := rfl
theorem gi_M_thrown {B : LB} {X : XV} {M : MV} : gi (W B X M) 235 0 = M.thrown := rfl
theorem gi_M_rows {B : LB} {X : XV} {M : MV} : gi (W B X M) 235 1 = I M.rows := rfl
theorem gi_M_people {B : LB} {X : XV} {M : MV} : gi (W B X M) 235 3 = I M.people := rfl
theorem gi_M_grain {B : LB} {X : XV} {M : MV} : gi (W B X M) 235 8 = M.grain := rfl
theorem gi_M_off {B : LB} {X : XV} {M : MV} : gi (W B X M) 235 9 = M.off := rfl
theorem gi_M_taped {B : LB} {X : XV} {M : MV} : gi (W B X M) 235 13 = I M.taped := rfl
theorem gi_M_at_ {B : LB} {X : XV} {M : MV} : gi (W B X M) 235 14 = I M.at_ := rfl
theorem gi_M_to_ {B : LB} {X : XV} {M : MV} : gi (W B X M) 235 15 = I M.to_ := rfl
theorem gi_M_nest {B : LB} {X : XV} {M : MV} : gi (W B X M) 235 16 = I M.nest := rfl
theorem gi_M_readMany {B : LB} {X : XV} {M : MV} : gi (W B X M) 235 21 = I M.readMany := rfl
theorem gi_M_codeLong {B : LB} {X : XV} {M : MV} : gi (W B X M) 235 24 = I M.codeLong := rfl
theorem gi_M_readLong {B : LB} {X : XV} {M : MV} : gi (W B X M) 235 25 = I M.readLong := rfl
theorem gi_M_fell {B : LB} {X : XV} {M : MV} : gi (W B X M) 235 27 = M.fell := rfl
theorem gi_M_undos {B : LB} {X : XV} {M : MV} : gi (W B X M) 235 28 = I M.undos := rfl
theorem gi_M_readWeeks {B : LB} {X : XV} {M : MV} : gi (W B X M) 235 31 = I M.readWeeks := rfl
theorem gi_M_weighings {B : LB} {X : XV} {M : MV} : gi (W B X M) 235 34 = I M.weighings := rfl
theorem gi_M_dates {B : LB} {X : XV} {M : MV} : gi (W B X M) 235 37 = I M.dates := rfl
theorem gi_X_text {B : LB} {X : XV} {M : MV} : gi (W B X M) 17 = X.text := rfl
theorem gi_X_comeW {B : LB} {X : XV} {M : MV} : gi (W B X M) 36 = X.comeW := rfl
theorem gi_X_plans {B : LB} {X : XV} {M : MV} : gi (W B X M) 41 = X.plans := rfl
theorem gi_X_year {B : LB} {X : XV} {M : MV} : gi (W B X M) 43 = X.year := rfl
theorem gi_X_weeksOf {B : LB} {X : XV} {M : MV} : gi (W B X M) 44 = X.weeksOf := rfl
theorem gi_X_wOne {B : LB} {X : XV} {M : MV} : gi (W B X M) 50 = X.wOne := rfl
theorem gi_X_wAs {B : LB} {X : XV} {M : MV} : gi (W B X M) 51 = X.wAs := rfl
theorem gi_X_tOne {B : LB} {X : XV} {M : MV} : gi (W B X M) 52 = X.tOne := rfl
theorem gi_X_tWeek {B : LB} {X : XV} {M : MV} : gi (W B X M) 53 = X.tWeek := rfl
theorem gi_M_tape {B : LB} {X : XV} {M : MV} : gi (W B X M) 243 = M.tape := rfl
theorem gi_M_readWeight {B : LB} {X : XV} {M : MV} : gi (W B X M) 244 = M.readWeight := rfl
theorem gi_M_readParty {B : LB} {X : XV} {M : MV} : gi (W B X M) 245 = M.readParty := rfl
theorem gi_M_code {B : LB} {X : XV} {M : MV} : gi (W B X M) 248 = M.code := rfl
theorem gi_M_readCode {B : LB} {X : XV} {M : MV} : gi (W B X M) 249 = M.readCode := rfl
theorem gi_M_stack {B : LB} {X : XV} {M : MV} : gi (W B X M) 250 = M.stack := rfl
theorem gi_M_readStand {B : LB} {X : XV} {M : MV} : gi (W B X M) 252 = M.readStand := rfl
theorem gi_M_servedFor {B : LB} {X : XV} {M : MV} : gi (W B X M) 253 = M.servedFor := rfl
theorem gi_M_plan {B : LB} {X : XV} {M : MV} : gi (W B X M) 254 = M.plan := rfl
theorem gi_M_weighedWho {B : LB} {X : XV} {M : MV} : gi (W B X M) 255 = M.weighedWho := rfl
theorem gi_M_weighedShown {B : LB} {X : XV} {M : MV} : gi (W B X M) 256 = M.weighedShown := rfl
theorem gi_M_dateWho {B : LB} {X : XV} {M : MV} : gi (W B X M) 257 = M.dateWho := rfl
theorem gi_M_dateWeek {B : LB} {X : XV} {M : MV} : gi (W B X M) 258 = M.dateWeek := rfl
theorem gi_M_isKept {B : LB} {X : XV} {M : MV} : gi (W B X M) 262 = M.isKept := rfl
theorem gi_M_keptPeople {B : LB} {X : XV} {M : MV} : gi (W B X M) 263 = M.keptPeople := rfl
theorem gi_tr_w {B : LB} {X : XV} {M : MV} {i : Nat} (h : i < 25) : gi (W B X M) (tr i + 1) = (X.tm i).w := by
  have h1 := tr_ok i h 1 (by decide)
  rw [gi_W, giW, if_pos h1.1, h1.2.1, h1.2.2.1]
  rfl
theorem gi_tr_sv {B : LB} {X : XV} {M : MV} {i : Nat} (h : i < 25) : gi (W B X M) (tr i + 2) = (X.tm i).sv := by
  have h1 := tr_ok i h 2 (by decide)
  rw [gi_W, giW, if_pos h1.1, h1.2.1, h1.2.2.1]
  rfl
theorem gi_tr_mb {B : LB} {X : XV} {M : MV} {i : Nat} (h : i < 25) : gi (W B X M) (tr i + 3) = (X.tm i).mb := by
  have h1 := tr_ok i h 3 (by decide)
  rw [gi_W, giW, if_pos h1.1, h1.2.1, h1.2.2.1]
  rfl
theorem gi_tr_mi {B : LB} {X : XV} {M : MV} {i : Nat} (h : i < 25) : gi (W B X M) (tr i + 4) = (X.tm i).mi := by
  have h1 := tr_ok i h 4 (by decide)
  rw [gi_W, giW, if_pos h1.1, h1.2.1, h1.2.2.1]
  rfl
theorem gi_tr_fl {B : LB} {X : XV} {M : MV} {i : Nat} (h : i < 25) : gi (W B X M) (tr i + 5) = (X.tm i).fl := by
  have h1 := tr_ok i h 5 (by decide)
  rw [gi_W, giW, if_pos h1.1, h1.2.1, h1.2.2.1]
  rfl
theorem gi_tr_kn {B : LB} {X : XV} {M : MV} {i : Nat} (h : i < 25) : gi (W B X M) (tr i + 6) = (X.tm i).kn := by
  have h1 := tr_ok i h 6 (by decide)
  rw [gi_W, giW, if_pos h1.1, h1.2.1, h1.2.2.1]
  rfl
theorem gi_tr_al {B : LB} {X : XV} {M : MV} {i : Nat} (h : i < 25) : gi (W B X M) (tr i) 6 = (X.tm i).al := by
  have h1 := tr_ok i h 0 (by decide)
  rw [Nat.add_zero] at h1
  rw [gi_W, giW, if_pos h1.1, h1.2.1, h1.2.2.1]
  rfl
theorem gi_tr_sr {B : LB} {X : XV} {M : MV} {i : Nat} (h : i < 25) : gi (W B X M) (tr i) 7 = Sr (X.tm i).sr := by
  have h1 := tr_ok i h 0 (by decide)
  rw [Nat.add_zero] at h1
  rw [gi_W, giW, if_pos h1.1, h1.2.1, h1.2.2.1]
  rfl
theorem gi_tr_te {B : LB} {X : XV} {M : MV} {i : Nat} (h : i < 25) : gi (W B X M) (tr i) 8 = (X.tm i).te := by
  have h1 := tr_ok i h 0 (by decide)
  rw [Nat.add_zero] at h1
  rw [gi_W, giW, if_pos h1.1, h1.2.1, h1.2.2.1]
  rfl
theorem gi_tr_wk {B : LB} {X : XV} {M : MV} {i : Nat} (h : i < 25) : gi (W B X M) (tr i) 9 = I (X.tm i).wk := by
  have h1 := tr_ok i h 0 (by decide)
  rw [Nat.add_zero] at h1
  rw [gi_W, giW, if_pos h1.1, h1.2.1, h1.2.2.1]
  rfl
theorem gi_tr_lw {B : LB} {X : XV} {M : MV} {i : Nat} (h : i < 25) : gi (W B X M) (tr i) 10 = I (X.tm i).lw := by
  have h1 := tr_ok i h 0 (by decide)
  rw [Nat.add_zero] at h1
  rw [gi_W, giW, if_pos h1.1, h1.2.1, h1.2.2.1]
  rfl
theorem gi_or_pa {B : LB} {X : XV} {M : MV} {i : Nat} (h : i < 16) : gi (W B X M) (orl i) 0 = I (X.on i).pa := by
  have h1 := or_ok i h 0 (by decide)
  rw [Nat.add_zero] at h1
  rw [gi_W, giW, if_neg (by rw [h1.1]; decide), if_pos h1.2.1, h1.2.2.1, h1.2.2.2.1]
  rfl
theorem gi_or_il {B : LB} {X : XV} {M : MV} {i : Nat} (h : i < 16) : gi (W B X M) (orl i) 1 = I (X.on i).il := by
  have h1 := or_ok i h 0 (by decide)
  rw [Nat.add_zero] at h1
  rw [gi_W, giW, if_neg (by rw [h1.1]; decide), if_pos h1.2.1, h1.2.2.1, h1.2.2.2.1]
  rfl
theorem gi_or_ch {B : LB} {X : XV} {M : MV} {i : Nat} (h : i < 16) : gi (W B X M) (orl i) 2 = I (X.on i).ch := by
  have h1 := or_ok i h 0 (by decide)
  rw [Nat.add_zero] at h1
  rw [gi_W, giW, if_neg (by rw [h1.1]; decide), if_pos h1.2.1, h1.2.2.1, h1.2.2.2.1]
  rfl
theorem gi_or_hb {B : LB} {X : XV} {M : MV} {i : Nat} (h : i < 16) : gi (W B X M) (orl i + 1) = (X.on i).hb := by
  have h1 := or_ok i h 1 (by decide)
  rw [gi_W, giW, if_neg (by rw [h1.1]; decide), if_pos h1.2.1, h1.2.2.1, h1.2.2.2.1]
  rfl
theorem giW_rr {B X M} {i : Nat} (h : i < 3) : gi (W B X M) (rr i) = rowF (M.rw i) (gi B.s (rr i)) := by
  match i, h with
  | 0, _ => rfl
  | 1, _ => rfl
  | 2, _ => rfl
theorem gi_rr_w {B : LB} {X : XV} {M : MV} {i k : Nat} (h : i < 3) (hk : k < 8) : gi (W B X M) (rr i) k = (M.rw i).w k := by
  rw [giW_rr h]
  unfold rowF
  repeat (first | rw [if_pos (by omega)] | rw [if_neg (by omega)])
  try (congr 1; omega)
theorem gi_rr_sv {B : LB} {X : XV} {M : MV} {i k : Nat} (h : i < 3) (hk : k < 8) : gi (W B X M) (rr i) (8 + k) = (M.rw i).sv k := by
  rw [giW_rr h]
  unfold rowF
  repeat (first | rw [if_pos (by omega)] | rw [if_neg (by omega)])
  try (congr 1; omega)
theorem gi_rr_mb {B : LB} {X : XV} {M : MV} {i k : Nat} (h : i < 3) (hk : k < 12) : gi (W B X M) (rr i) (21 + k) = (M.rw i).mb k := by
  rw [giW_rr h]
  unfold rowF
  repeat (first | rw [if_pos (by omega)] | rw [if_neg (by omega)])
  try (congr 1; omega)
theorem gi_rr_mi {B : LB} {X : XV} {M : MV} {i k : Nat} (h : i < 3) (hk : k < 12) : gi (W B X M) (rr i) (33 + k) = (M.rw i).mi k := by
  rw [giW_rr h]
  unfold rowF
  repeat (first | rw [if_pos (by omega)] | rw [if_neg (by omega)])
  try (congr 1; omega)
theorem gi_rr_fl {B : LB} {X : XV} {M : MV} {i k : Nat} (h : i < 3) (hk : k < 12) : gi (W B X M) (rr i) (45 + k) = (M.rw i).fl k := by
  rw [giW_rr h]
  unfold rowF
  repeat (first | rw [if_pos (by omega)] | rw [if_neg (by omega)])
  try (congr 1; omega)
theorem gi_rr_kn {B : LB} {X : XV} {M : MV} {i k : Nat} (h : i < 3) (hk : k < 60) : gi (W B X M) (rr i) (57 + k) = (M.rw i).kn k := by
  rw [giW_rr h]
  unfold rowF
  repeat (first | rw [if_pos (by omega)] | rw [if_neg (by omega)])
  try (congr 1; omega)
theorem gi_rr_al {B : LB} {X : XV} {M : MV} {i : Nat} (h : i < 3) : gi (W B X M) (rr i) 16 = (M.rw i).al := by
  rw [giW_rr h]
  rfl
theorem gi_rr_sr {B : LB} {X : XV} {M : MV} {i : Nat} (h : i < 3) : gi (W B X M) (rr i) 17 = Sr (M.rw i).sr := by
  rw [giW_rr h]
  rfl
theorem gi_rr_te {B : LB} {X : XV} {M : MV} {i : Nat} (h : i < 3) : gi (W B X M) (rr i) 18 = (M.rw i).te := by
  rw [giW_rr h]
  rfl
theorem gi_rr_wk {B : LB} {X : XV} {M : MV} {i : Nat} (h : i < 3) : gi (W B X M) (rr i) 19 = I (M.rw i).wk := by
  rw [giW_rr h]
  rfl
theorem gi_rr_lw {B : LB} {X : XV} {M : MV} {i : Nat} (h : i < 3) : gi (W B X M) (rr i) 20 = I (M.rw i).lw := by
  rw [giW_rr h]
  rfl
theorem gi_M_pa {B : LB} {X : XV} {M : MV} {k : Nat} (h : k < 8) : gi (W B X M) 237 k = I (M.on k).pa := by
  show (if k < 8 then _ else _) = _
  rw [if_pos h]
theorem gi_M_il {B : LB} {X : XV} {M : MV} {k : Nat} (h : k < 8) : gi (W B X M) 238 k = I (M.on k).il := by
  show (if k < 8 then _ else _) = _
  rw [if_pos h]
theorem gi_M_ch {B : LB} {X : XV} {M : MV} {k : Nat} (h : k < 8) : gi (W B X M) 240 k = I (M.on k).ch := by
  show (if k < 8 then _ else _) = _
  rw [if_pos h]
theorem gi_M_hb {B : LB} {X : XV} {M : MV} {k j : Nat} (h : k < 8) (hj : j < 6) : gi (W B X M) 239 (6 * k + j) = (M.on k).hb j := by
  show (if 6 * k + j < 48 then _ else _) = _
  rw [if_pos (by omega), show (6 * k + j) / 6 = k by omega, show (6 * k + j) % 6 = j by omega]
theorem gi_M_rhb {B : LB} {X : XV} {M : MV} {k j : Nat} (h : k < 9) (hj : j < 6) : gi (W B X M) 246 (6 * k + j) = M.rhb k j := by
  show (if 6 * k + j < 54 then _ else _) = _
  rw [if_pos (by omega), show (6 * k + j) / 6 = k by omega, show (6 * k + j) % 6 = j by omega]
theorem gi_M_rhM {B : LB} {X : XV} {M : MV} {k : Nat} (h : k < 9) : gi (W B X M) 247 k = I (M.rhM k) := by
  show (if k < 9 then _ else _) = _
  rw [if_pos h]
theorem gl_X_row {B : LB} {X : XV} {M : MV} : gl (W B X M) 18 = X.row := rfl
theorem gl_M_row {B : LB} {X : XV} {M : MV} : gl (W B X M) 236 = M.row := rfl
theorem gl_X_out {B : LB} {X : XV} {M : MV} : gl (W B X M) 265 = X.out := rfl
theorem gl_lr {B : LB} {X : XV} {M : MV} {i : Nat} (h : i < 2) : gl (W B X M) (lr i) = M.lk i := by
  match i, h with
  | 0, _ => rfl
  | 1, _ => rfl
theorem gl_xl {B : LB} {X : XV} {M : MV} {i : Nat} (h : i < 2) : gl (W B X M) (xl i) = X.lk i := by
  match i, h with
  | 0, _ => rfl
  | 1, _ => rfl
theorem isD (j : Nat) : isTr (D j) = false ∧ isOr (D j) = false := by
  constructor
  · cases h : isTr (D j)
    · rfl
    · have := tr_lt _ h; unfold D at this; omega
  · cases h : isOr (D j)
    · rfl
    · have := or_lt _ h; unfold D at this; omega
theorem D_ne {n j : Nat} (h : n < 266) : (D j = n) = False := by unfold D; exact eq_false (by omega)
theorem D_sub {j : Nat} : D j - 266 = j := by unfold D; omega
theorem D_ge {j : Nat} : (266 ≤ D j) = True := by unfold D; exact eq_true (by omega)
theorem gi_D {B : LB} {X : XV} {M : MV} {j : Nat} : gi (W B X M) (D j) = X.dm j := by
  rw [gi_W]
  simp [giW, isD, D_ne, D_sub, D_ge]
theorem pI_X_many {B : LB} {X : XV} {M : MV} {v : Nat} : pI (W B X M) 0 4 (I v) = W B {X with many := v} M := by
  refine pI_W rfl rfl rfl rfl (fun r2 k2 => ?_)
  by_cases e : r2 = 0
  · subst e; by_cases e2 : k2 = 4 <;> simp [giW, isTr, isOr, upd, e2]
  · simp [giW, e]
theorem pI_X_came {B : LB} {X : XV} {M : MV} {v : Nat} : pI (W B X M) 0 5 (I v) = W B {X with came := v} M := by
  refine pI_W rfl rfl rfl rfl (fun r2 k2 => ?_)
  by_cases e : r2 = 0
  · subst e; by_cases e2 : k2 = 5 <;> simp [giW, isTr, isOr, upd, e2]
  · simp [giW, e]
theorem pI_X_undoM {B : LB} {X : XV} {M : MV} {v : Nat} : pI (W B X M) 0 6 (I v) = W B {X with undoM := v} M := by
  refine pI_W rfl rfl rfl rfl (fun r2 k2 => ?_)
  by_cases e : r2 = 0
  · subst e; by_cases e2 : k2 = 6 <;> simp [giW, isTr, isOr, upd, e2]
  · simp [giW, e]
theorem pI_X_grain {B : LB} {X : XV} {M : MV} {v : Int32} : pI (W B X M) 0 7 (v) = W B {X with grain := v} M := by
  refine pI_W rfl rfl rfl rfl (fun r2 k2 => ?_)
  by_cases e : r2 = 0
  · subst e; by_cases e2 : k2 = 7 <;> simp [giW, isTr, isOr, upd, e2]
  · simp [giW, e]
theorem pI_X_off {B : LB} {X : XV} {M : MV} {v : Int32} : pI (W B X M) 0 8 (v) = W B {X with off := v} M := by
  refine pI_W rfl rfl rfl rfl (fun r2 k2 => ?_)
  by_cases e : r2 = 0
  · subst e; by_cases e2 : k2 = 8 <;> simp [giW, isTr, isOr, upd, e2]
  · simp [giW, e]
theorem pI_X_typed {B : LB} {X : XV} {M : MV} {v : Nat} : pI (W B X M) 0 10 (I v) = W B {X with typed := v} M := by
  refine pI_W rfl rfl rfl rfl (fun r2 k2 => ?_)
  by_cases e : r2 = 0
  · subst e; by_cases e2 : k2 = 10 <;> simp [giW, isTr, isOr, upd, e2]
  · simp [giW, e]
theorem pI_X_rowM {B : LB} {X : XV} {M : MV} {v : Nat} : pI (W B X M) 0 12 (I v) = W B {X with rowM := v} M := by
  refine pI_W rfl rfl rfl rfl (fun r2 k2 => ?_)
  by_cases e : r2 = 0
  · subst e; by_cases e2 : k2 = 12 <;> simp [giW, isTr, isOr, upd, e2]
  · simp [giW, e]
theorem pI_X_isOther {B : LB} {X : XV} {M : MV} {v : Int32} : pI (W B X M) 0 21 (v) = W B {X with isOther := v} M := by
  refine pI_W rfl rfl rfl rfl (fun r2 k2 => ?_)
  by_cases e : r2 = 0
  · subst e; by_cases e2 : k2 = 21 <;> simp [giW, isTr, isOr, upd, e2]
  · simp [giW, e]
theorem pI_X_fallen {B : LB} {X : XV} {M : MV} {v : Int32} : pI (W B X M) 0 22 (v) = W B {X with fallen := v} M := by
  refine pI_W rfl rfl rfl rfl (fun r2 k2 => ?_)
  by_cases e : r2 = 0
  · subst e; by_cases e2 : k2 = 22 <;> simp [giW, isTr, isOr, upd, e2]
  · simp [giW, e]
theorem pI_X_weighM {B : LB} {X : XV} {M : MV} {v : Nat} : pI (W B X M) 0 32 (I v) = W B {X with weighM := v} M := by
  refine pI_W rfl rfl rfl rfl (fun r2 k2 => ?_)
  by_cases e : r2 = 0
  · subst e; by_cases e2 : k2 = 32 <;> simp [giW, isTr, isOr, upd, e2]
  · simp [giW, e]
theorem pI_X_toldM {B : LB} {X : XV} {M : MV} {v : Nat} : pI (W B X M) 0 35 (I v) = W B {X with toldM := v} M := by
  refine pI_W rfl rfl rfl rfl (fun r2 k2 => ?_)
  by_cases e : r2 = 0
  · subst e; by_cases e2 : k2 = 35 <;> simp [giW, isTr, isOr, upd, e2]
  · simp [giW, e]
theorem pI_X_those {B : LB} {X : XV} {M : MV} {v : Int32} : pI (W B X M) 38 0 (v) = W B {X with those := v} M := by
  refine pI_W rfl rfl rfl rfl (fun r2 k2 => ?_)
  by_cases e : r2 = 38
  · subst e; by_cases e2 : k2 = 0 <;> simp [giW, isTr, isOr, upd, e2]
  · simp [giW, e]
theorem pI_X_pWho {B : LB} {X : XV} {M : MV} {v : Int32} : pI (W B X M) 39 0 (v) = W B {X with pWho := v} M := by
  refine pI_W rfl rfl rfl rfl (fun r2 k2 => ?_)
  by_cases e : r2 = 39
  · subst e; by_cases e2 : k2 = 0 <;> simp [giW, isTr, isOr, upd, e2]
  · simp [giW, e]
theorem pI_X_pPlan {B : LB} {X : XV} {M : MV} {v : Int32} : pI (W B X M) 39 1 (v) = W B {X with pPlan := v} M := by
  refine pI_W rfl rfl rfl rfl (fun r2 k2 => ?_)
  by_cases e : r2 = 39
  · subst e; by_cases e2 : k2 = 1 <;> simp [giW, isTr, isOr, upd, e2]
  · simp [giW, e]
theorem pI_X_pFrom {B : LB} {X : XV} {M : MV} {v : Int32} : pI (W B X M) 39 2 (v) = W B {X with pFrom := v} M := by
  refine pI_W rfl rfl rfl rfl (fun r2 k2 => ?_)
  by_cases e : r2 = 39
  · subst e; by_cases e2 : k2 = 2 <;> simp [giW, isTr, isOr, upd, e2]
  · simp [giW, e]
theorem pI_X_aFrom {B : LB} {X : XV} {M : MV} {v : Int32} : pI (W B X M) 40 1 (v) = W B {X with aFrom := v} M := by
  refine pI_W rfl rfl rfl rfl (fun r2 k2 => ?_)
  by_cases e : r2 = 40
  · subst e; by_cases e2 : k2 = 1 <;> simp [giW, isTr, isOr, upd, e2]
  · simp [giW, e]
theorem pI_X_tParty {B : LB} {X : XV} {M : MV} {v : Int32} : pI (W B X M) 42 0 (v) = W B {X with tParty := v} M := by
  refine pI_W rfl rfl rfl rfl (fun r2 k2 => ?_)
  by_cases e : r2 = 42
  · subst e; by_cases e2 : k2 = 0 <;> simp [giW, isTr, isOr, upd, e2]
  · simp [giW, e]
theorem pI_X_tFrom {B : LB} {X : XV} {M : MV} {v : Int32} : pI (W B X M) 42 1 (v) = W B {X with tFrom := v} M := by
  refine pI_W rfl rfl rfl rfl (fun r2 k2 => ?_)
  by_cases e : r2 = 42
  · subst e; by_cases e2 : k2 = 1 <;> simp [giW, isTr, isOr, upd, e2]
  · simp [giW, e]
theorem pI_X_nWho {B : LB} {X : XV} {M : MV} {v : Int32} : pI (W B X M) 45 0 (v) = W B {X with nWho := v} M := by
  refine pI_W rfl rfl rfl rfl (fun r2 k2 => ?_)
  by_cases e : r2 = 45
  · subst e; by_cases e2 : k2 = 0 <;> simp [giW, isTr, isOr, upd, e2]
  · simp [giW, e]
theorem pI_X_hN {B : LB} {X : XV} {M : MV} {v : Int32} : pI (W B X M) 46 0 (v) = W B {X with hN := v} M := by
  refine pI_W rfl rfl rfl rfl (fun r2 k2 => ?_)
  by_cases e : r2 = 46
  · subst e; by_cases e2 : k2 = 0 <;> simp [giW, isTr, isOr, upd, e2]
  · simp [giW, e]
theorem pI_X_sWho {B : LB} {X : XV} {M : MV} {v : Int32} : pI (W B X M) 47 0 (v) = W B {X with sWho := v} M := by
  refine pI_W rfl rfl rfl rfl (fun r2 k2 => ?_)
  by_cases e : r2 = 47
  · subst e; by_cases e2 : k2 = 0 <;> simp [giW, isTr, isOr, upd, e2]
  · simp [giW, e]
theorem pI_X_sN {B : LB} {X : XV} {M : MV} {v : Int32} : pI (W B X M) 47 1 (v) = W B {X with sN := v} M := by
  refine pI_W rfl rfl rfl rfl (fun r2 k2 => ?_)
  by_cases e : r2 = 47
  · subst e; by_cases e2 : k2 = 1 <;> simp [giW, isTr, isOr, upd, e2]
  · simp [giW, e]
theorem pI_X_vWho {B : LB} {X : XV} {M : MV} {v : Int32} : pI (W B X M) 48 0 (v) = W B {X with vWho := v} M := by
  refine pI_W rfl rfl rfl rfl (fun r2 k2 => ?_)
  by_cases e : r2 = 48
  · subst e; by_cases e2 : k2 = 0 <;> simp [giW, isTr, isOr, upd, e2]
  · simp [giW, e]
theorem pI_X_vN {B : LB} {X : XV} {M : MV} {v : Int32} : pI (W B X M) 48 1 (v) = W B {X with vN := v} M := by
  refine pI_W rfl rfl rfl rfl (fun r2 k2 => ?_)
  by_cases e : r2 = 48
  · subst e; by_cases e2 : k2 = 1 <;> simp [giW, isTr, isOr, upd, e2]
  · simp [giW, e]
theorem pI_X_xWho {B : LB} {X : XV} {M : MV} {v : Int32} : pI (W B X M) 49 0 (v) = W B {X with xWho := v} M := by
  refine pI_W rfl rfl rfl rfl (fun r2 k2 => ?_)
  by_cases e : r2 = 49
  · subst e; by_cases e2 : k2 = 0 <;> simp [giW, isTr, isOr, upd, e2]
  · simp [giW, e]
theorem pI_M_thrown {B : LB} {X : XV} {M : MV} {v : Int32} : pI (W B X M) 235 0 (v) = W B X {M with thrown := v} := by
  refine pI_W rfl rfl rfl rfl (fun r2 k2 => ?_)
  by_cases e : r2 = 235
  · subst e; by_cases e2 : k2 = 0 <;> simp [giW, isTr, isOr, upd, e2]
  · simp [giW, e]
theorem pI_M_rows {B : LB} {X : XV} {M : MV} {v : Nat} : pI (W B X M) 235 1 (I v) = W B X {M with rows := v} := by
  refine pI_W rfl rfl rfl rfl (fun r2 k2 => ?_)
  by_cases e : r2 = 235
  · subst e; by_cases e2 : k2 = 1 <;> simp [giW, isTr, isOr, upd, e2]
  · simp [giW, e]
theorem pI_M_people {B : LB} {X : XV} {M : MV} {v : Nat} : pI (W B X M) 235 3 (I v) = W B X {M with people := v} := by
  refine pI_W rfl rfl rfl rfl (fun r2 k2 => ?_)
  by_cases e : r2 = 235
  · subst e; by_cases e2 : k2 = 3 <;> simp [giW, isTr, isOr, upd, e2]
  · simp [giW, e]
theorem pI_M_grain {B : LB} {X : XV} {M : MV} {v : Int32} : pI (W B X M) 235 8 (v) = W B X {M with grain := v} := by
  refine pI_W rfl rfl rfl rfl (fun r2 k2 => ?_)
  by_cases e : r2 = 235
  · subst e; by_cases e2 : k2 = 8 <;> simp [giW, isTr, isOr, upd, e2]
  · simp [giW, e]
theorem pI_M_off {B : LB} {X : XV} {M : MV} {v : Int32} : pI (W B X M) 235 9 (v) = W B X {M with off := v} := by
  refine pI_W rfl rfl rfl rfl (fun r2 k2 => ?_)
  by_cases e : r2 = 235
  · subst e; by_cases e2 : k2 = 9 <;> simp [giW, isTr, isOr, upd, e2]
  · simp [giW, e]
theorem pI_M_taped {B : LB} {X : XV} {M : MV} {v : Nat} : pI (W B X M) 235 13 (I v) = W B X {M with taped := v} := by
  refine pI_W rfl rfl rfl rfl (fun r2 k2 => ?_)
  by_cases e : r2 = 235
  · subst e; by_cases e2 : k2 = 13 <;> simp [giW, isTr, isOr, upd, e2]
  · simp [giW, e]
theorem pI_M_at_ {B : LB} {X : XV} {M : MV} {v : Nat} : pI (W B X M) 235 14 (I v) = W B X {M with at_ := v} := by
  refine pI_W rfl rfl rfl rfl (fun r2 k2 => ?_)
  by_cases e : r2 = 235
  · subst e; by_cases e2 : k2 = 14 <;> simp [giW, isTr, isOr, upd, e2]
  · simp [giW, e]
theorem pI_M_to_ {B : LB} {X : XV} {M : MV} {v : Nat} : pI (W B X M) 235 15 (I v) = W B X {M with to_ := v} := by
  refine pI_W rfl rfl rfl rfl (fun r2 k2 => ?_)
  by_cases e : r2 = 235
  · subst e; by_cases e2 : k2 = 15 <;> simp [giW, isTr, isOr, upd, e2]
  · simp [giW, e]
theorem pI_M_nest {B : LB} {X : XV} {M : MV} {v : Nat} : pI (W B X M) 235 16 (I v) = W B X {M with nest := v} := by
  refine pI_W rfl rfl rfl rfl (fun r2 k2 => ?_)
  by_cases e : r2 = 235
  · subst e; by_cases e2 : k2 = 16 <;> simp [giW, isTr, isOr, upd, e2]
  · simp [giW, e]
theorem pI_M_readMany {B : LB} {X : XV} {M : MV} {v : Nat} : pI (W B X M) 235 21 (I v) = W B X {M with readMany := v} := by
  refine pI_W rfl rfl rfl rfl (fun r2 k2 => ?_)
  by_cases e : r2 = 235
  · subst e; by_cases e2 : k2 = 21 <;> simp [giW, isTr, isOr, upd, e2]
  · simp [giW, e]
theorem pI_M_codeLong {B : LB} {X : XV} {M : MV} {v : Nat} : pI (W B X M) 235 24 (I v) = W B X {M with codeLong := v} := by
  refine pI_W rfl rfl rfl rfl (fun r2 k2 => ?_)
  by_cases e : r2 = 235
  · subst e; by_cases e2 : k2 = 24 <;> simp [giW, isTr, isOr, upd, e2]
  · simp [giW, e]
theorem pI_M_readLong {B : LB} {X : XV} {M : MV} {v : Nat} : pI (W B X M) 235 25 (I v) = W B X {M with readLong := v} := by
  refine pI_W rfl rfl rfl rfl (fun r2 k2 => ?_)
  by_cases e : r2 = 235
  · subst e; by_cases e2 : k2 = 25 <;> simp [giW, isTr, isOr, upd, e2]
  · simp [giW, e]
theorem pI_M_fell {B : LB} {X : XV} {M : MV} {v : Int32} : pI (W B X M) 235 27 (v) = W B X {M with fell := v} := by
  refine pI_W rfl rfl rfl rfl (fun r2 k2 => ?_)
  by_cases e : r2 = 235
  · subst e; by_cases e2 : k2 = 27 <;> simp [giW, isTr, isOr, upd, e2]
  · simp [giW, e]
theorem pI_M_undos {B : LB} {X : XV} {M : MV} {v : Nat} : pI (W B X M) 235 28 (I v) = W B X {M with undos := v} := by
  refine pI_W rfl rfl rfl rfl (fun r2 k2 => ?_)
  by_cases e : r2 = 235
  · subst e; by_cases e2 : k2 = 28 <;> simp [giW, isTr, isOr, upd, e2]
  · simp [giW, e]
theorem pI_M_readWeeks {B : LB} {X : XV} {M : MV} {v : Nat} : pI (W B X M) 235 31 (I v) = W B X {M with readWeeks := v} := by
  refine pI_W rfl rfl rfl rfl (fun r2 k2 => ?_)
  by_cases e : r2 = 235
  · subst e; by_cases e2 : k2 = 31 <;> simp [giW, isTr, isOr, upd, e2]
  · simp [giW, e]
theorem pI_M_weighings {B : LB} {X : XV} {M : MV} {v : Nat} : pI (W B X M) 235 34 (I v) = W B X {M with weighings := v} := by
  refine pI_W rfl rfl rfl rfl (fun r2 k2 => ?_)
  by_cases e : r2 = 235
  · subst e; by_cases e2 : k2 = 34 <;> simp [giW, isTr, isOr, upd, e2]
  · simp [giW, e]
theorem pI_M_dates {B : LB} {X : XV} {M : MV} {v : Nat} : pI (W B X M) 235 37 (I v) = W B X {M with dates := v} := by
  refine pI_W rfl rfl rfl rfl (fun r2 k2 => ?_)
  by_cases e : r2 = 235
  · subst e; by_cases e2 : k2 = 37 <;> simp [giW, isTr, isOr, upd, e2]
  · simp [giW, e]
theorem pI_X_text {B : LB} {X : XV} {M : MV} {k : Nat} {v : Int32} : pI (W B X M) 17 k v = W B {X with text := upd X.text k v} M := by
  refine pI_W rfl rfl rfl rfl (fun r2 k2 => ?_)
  by_cases e : r2 = 17
  · subst e; simp [giW, isTr, isOr, upd]
  · simp [giW, e]
theorem pIr_X_text {B : LB} {X : XV} {M : MV} {f : Nat → Int32} : pIr (W B X M) 17 f = W B {X with text := f} M := by
  refine pIr_W rfl rfl rfl rfl (fun r2 => ?_)
  by_cases e : r2 = 17
  · subst e; simp [giW, isTr, isOr]
  · simp [giW, e]
theorem pI_X_comeW {B : LB} {X : XV} {M : MV} {k : Nat} {v : Int32} : pI (W B X M) 36 k v = W B {X with comeW := upd X.comeW k v} M := by
  refine pI_W rfl rfl rfl rfl (fun r2 k2 => ?_)
  by_cases e : r2 = 36
  · subst e; simp [giW, isTr, isOr, upd]
  · simp [giW, e]
theorem pIr_X_comeW {B : LB} {X : XV} {M : MV} {f : Nat → Int32} : pIr (W B X M) 36 f = W B {X with comeW := f} M := by
  refine pIr_W rfl rfl rfl rfl (fun r2 => ?_)
  by_cases e : r2 = 36
  · subst e; simp [giW, isTr, isOr]
  · simp [giW, e]
theorem pI_X_plans {B : LB} {X : XV} {M : MV} {k : Nat} {v : Int32} : pI (W B X M) 41 k v = W B {X with plans := upd X.plans k v} M := by
  refine pI_W rfl rfl rfl rfl (fun r2 k2 => ?_)
  by_cases e : r2 = 41
  · subst e; simp [giW, isTr, isOr, upd]
  · simp [giW, e]
theorem pIr_X_plans {B : LB} {X : XV} {M : MV} {f : Nat → Int32} : pIr (W B X M) 41 f = W B {X with plans := f} M := by
  refine pIr_W rfl rfl rfl rfl (fun r2 => ?_)
  by_cases e : r2 = 41
  · subst e; simp [giW, isTr, isOr]
  · simp [giW, e]
theorem pI_X_year {B : LB} {X : XV} {M : MV} {k : Nat} {v : Int32} : pI (W B X M) 43 k v = W B {X with year := upd X.year k v} M := by
  refine pI_W rfl rfl rfl rfl (fun r2 k2 => ?_)
  by_cases e : r2 = 43
  · subst e; simp [giW, isTr, isOr, upd]
  · simp [giW, e]
theorem pIr_X_year {B : LB} {X : XV} {M : MV} {f : Nat → Int32} : pIr (W B X M) 43 f = W B {X with year := f} M := by
  refine pIr_W rfl rfl rfl rfl (fun r2 => ?_)
  by_cases e : r2 = 43
  · subst e; simp [giW, isTr, isOr]
  · simp [giW, e]
theorem pI_X_weeksOf {B : LB} {X : XV} {M : MV} {k : Nat} {v : Int32} : pI (W B X M) 44 k v = W B {X with weeksOf := upd X.weeksOf k v} M := by
  refine pI_W rfl rfl rfl rfl (fun r2 k2 => ?_)
  by_cases e : r2 = 44
  · subst e; simp [giW, isTr, isOr, upd]
  · simp [giW, e]
theorem pIr_X_weeksOf {B : LB} {X : XV} {M : MV} {f : Nat → Int32} : pIr (W B X M) 44 f = W B {X with weeksOf := f} M := by
  refine pIr_W rfl rfl rfl rfl (fun r2 => ?_)
  by_cases e : r2 = 44
  · subst e; simp [giW, isTr, isOr]
  · simp [giW, e]
theorem pI_X_wOne {B : LB} {X : XV} {M : MV} {k : Nat} {v : Int32} : pI (W B X M) 50 k v = W B {X with wOne := upd X.wOne k v} M := by
  refine pI_W rfl rfl rfl rfl (fun r2 k2 => ?_)
  by_cases e : r2 = 50
  · subst e; simp [giW, isTr, isOr, upd]
  · simp [giW, e]
theorem pIr_X_wOne {B : LB} {X : XV} {M : MV} {f : Nat → Int32} : pIr (W B X M) 50 f = W B {X with wOne := f} M := by
  refine pIr_W rfl rfl rfl rfl (fun r2 => ?_)
  by_cases e : r2 = 50
  · subst e; simp [giW, isTr, isOr]
  · simp [giW, e]
theorem pI_X_wAs {B : LB} {X : XV} {M : MV} {k : Nat} {v : Int32} : pI (W B X M) 51 k v = W B {X with wAs := upd X.wAs k v} M := by
  refine pI_W rfl rfl rfl rfl (fun r2 k2 => ?_)
  by_cases e : r2 = 51
  · subst e; simp [giW, isTr, isOr, upd]
  · simp [giW, e]
theorem pIr_X_wAs {B : LB} {X : XV} {M : MV} {f : Nat → Int32} : pIr (W B X M) 51 f = W B {X with wAs := f} M := by
  refine pIr_W rfl rfl rfl rfl (fun r2 => ?_)
  by_cases e : r2 = 51
  · subst e; simp [giW, isTr, isOr]
  · simp [giW, e]
theorem pI_X_tOne {B : LB} {X : XV} {M : MV} {k : Nat} {v : Int32} : pI (W B X M) 52 k v = W B {X with tOne := upd X.tOne k v} M := by
  refine pI_W rfl rfl rfl rfl (fun r2 k2 => ?_)
  by_cases e : r2 = 52
  · subst e; simp [giW, isTr, isOr, upd]
  · simp [giW, e]
theorem pIr_X_tOne {B : LB} {X : XV} {M : MV} {f : Nat → Int32} : pIr (W B X M) 52 f = W B {X with tOne := f} M := by
  refine pIr_W rfl rfl rfl rfl (fun r2 => ?_)
  by_cases e : r2 = 52
  · subst e; simp [giW, isTr, isOr]
  · simp [giW, e]
theorem pI_X_tWeek {B : LB} {X : XV} {M : MV} {k : Nat} {v : Int32} : pI (W B X M) 53 k v = W B {X with tWeek := upd X.tWeek k v} M := by
  refine pI_W rfl rfl rfl rfl (fun r2 k2 => ?_)
  by_cases e : r2 = 53
  · subst e; simp [giW, isTr, isOr, upd]
  · simp [giW, e]
theorem pIr_X_tWeek {B : LB} {X : XV} {M : MV} {f : Nat → Int32} : pIr (W B X M) 53 f = W B {X with tWeek := f} M := by
  refine pIr_W rfl rfl rfl rfl (fun r2 => ?_)
  by_cases e : r2 = 53
  · subst e; simp [giW, isTr, isOr]
  · simp [giW, e]
theorem pI_M_tape {B : LB} {X : XV} {M : MV} {k : Nat} {v : Int32} : pI (W B X M) 243 k v = W B X {M with tape := upd M.tape k v} := by
  refine pI_W rfl rfl rfl rfl (fun r2 k2 => ?_)
  by_cases e : r2 = 243
  · subst e; simp [giW, isTr, isOr, upd]
  · simp [giW, e]
theorem pIr_M_tape {B : LB} {X : XV} {M : MV} {f : Nat → Int32} : pIr (W B X M) 243 f = W B X {M with tape := f} := by
  refine pIr_W rfl rfl rfl rfl (fun r2 => ?_)
  by_cases e : r2 = 243
  · subst e; simp [giW, isTr, isOr]
  · simp [giW, e]
theorem pI_M_readWeight {B : LB} {X : XV} {M : MV} {k : Nat} {v : Int32} : pI (W B X M) 244 k v = W B X {M with readWeight := upd M.readWeight k v} := by
  refine pI_W rfl rfl rfl rfl (fun r2 k2 => ?_)
  by_cases e : r2 = 244
  · subst e; simp [giW, isTr, isOr, upd]
  · simp [giW, e]
theorem pIr_M_readWeight {B : LB} {X : XV} {M : MV} {f : Nat → Int32} : pIr (W B X M) 244 f = W B X {M with readWeight := f} := by
  refine pIr_W rfl rfl rfl rfl (fun r2 => ?_)
  by_cases e : r2 = 244
  · subst e; simp [giW, isTr, isOr]
  · simp [giW, e]
theorem pI_M_readParty {B : LB} {X : XV} {M : MV} {k : Nat} {v : Int32} : pI (W B X M) 245 k v = W B X {M with readParty := upd M.readParty k v} := by
  refine pI_W rfl rfl rfl rfl (fun r2 k2 => ?_)
  by_cases e : r2 = 245
  · subst e; simp [giW, isTr, isOr, upd]
  · simp [giW, e]
theorem pIr_M_readParty {B : LB} {X : XV} {M : MV} {f : Nat → Int32} : pIr (W B X M) 245 f = W B X {M with readParty := f} := by
  refine pIr_W rfl rfl rfl rfl (fun r2 => ?_)
  by_cases e : r2 = 245
  · subst e; simp [giW, isTr, isOr]
  · simp [giW, e]
theorem pI_M_code {B : LB} {X : XV} {M : MV} {k : Nat} {v : Int32} : pI (W B X M) 248 k v = W B X {M with code := upd M.code k v} := by
  refine pI_W rfl rfl rfl rfl (fun r2 k2 => ?_)
  by_cases e : r2 = 248
  · subst e; simp [giW, isTr, isOr, upd]
  · simp [giW, e]
theorem pIr_M_code {B : LB} {X : XV} {M : MV} {f : Nat → Int32} : pIr (W B X M) 248 f = W B X {M with code := f} := by
  refine pIr_W rfl rfl rfl rfl (fun r2 => ?_)
  by_cases e : r2 = 248
  · subst e; simp [giW, isTr, isOr]
  · simp [giW, e]
theorem pI_M_readCode {B : LB} {X : XV} {M : MV} {k : Nat} {v : Int32} : pI (W B X M) 249 k v = W B X {M with readCode := upd M.readCode k v} := by
  refine pI_W rfl rfl rfl rfl (fun r2 k2 => ?_)
  by_cases e : r2 = 249
  · subst e; simp [giW, isTr, isOr, upd]
  · simp [giW, e]
theorem pIr_M_readCode {B : LB} {X : XV} {M : MV} {f : Nat → Int32} : pIr (W B X M) 249 f = W B X {M with readCode := f} := by
  refine pIr_W rfl rfl rfl rfl (fun r2 => ?_)
  by_cases e : r2 = 249
  · subst e; simp [giW, isTr, isOr]
  · simp [giW, e]
theorem pI_M_stack {B : LB} {X : XV} {M : MV} {k : Nat} {v : Int32} : pI (W B X M) 250 k v = W B X {M with stack := upd M.stack k v} := by
  refine pI_W rfl rfl rfl rfl (fun r2 k2 => ?_)
  by_cases e : r2 = 250
  · subst e; simp [giW, isTr, isOr, upd]
  · simp [giW, e]
theorem pIr_M_stack {B : LB} {X : XV} {M : MV} {f : Nat → Int32} : pIr (W B X M) 250 f = W B X {M with stack := f} := by
  refine pIr_W rfl rfl rfl rfl (fun r2 => ?_)
  by_cases e : r2 = 250
  · subst e; simp [giW, isTr, isOr]
  · simp [giW, e]
theorem pI_M_readStand {B : LB} {X : XV} {M : MV} {k : Nat} {v : Int32} : pI (W B X M) 252 k v = W B X {M with readStand := upd M.readStand k v} := by
  refine pI_W rfl rfl rfl rfl (fun r2 k2 => ?_)
  by_cases e : r2 = 252
  · subst e; simp [giW, isTr, isOr, upd]
  · simp [giW, e]
theorem pIr_M_readStand {B : LB} {X : XV} {M : MV} {f : Nat → Int32} : pIr (W B X M) 252 f = W B X {M with readStand := f} := by
  refine pIr_W rfl rfl rfl rfl (fun r2 => ?_)
  by_cases e : r2 = 252
  · subst e; simp [giW, isTr, isOr]
  · simp [giW, e]
theorem pI_M_servedFor {B : LB} {X : XV} {M : MV} {k : Nat} {v : Int32} : pI (W B X M) 253 k v = W B X {M with servedFor := upd M.servedFor k v} := by
  refine pI_W rfl rfl rfl rfl (fun r2 k2 => ?_)
  by_cases e : r2 = 253
  · subst e; simp [giW, isTr, isOr, upd]
  · simp [giW, e]
theorem pIr_M_servedFor {B : LB} {X : XV} {M : MV} {f : Nat → Int32} : pIr (W B X M) 253 f = W B X {M with servedFor := f} := by
  refine pIr_W rfl rfl rfl rfl (fun r2 => ?_)
  by_cases e : r2 = 253
  · subst e; simp [giW, isTr, isOr]
  · simp [giW, e]
theorem pI_M_plan {B : LB} {X : XV} {M : MV} {k : Nat} {v : Int32} : pI (W B X M) 254 k v = W B X {M with plan := upd M.plan k v} := by
  refine pI_W rfl rfl rfl rfl (fun r2 k2 => ?_)
  by_cases e : r2 = 254
  · subst e; simp [giW, isTr, isOr, upd]
  · simp [giW, e]
theorem pIr_M_plan {B : LB} {X : XV} {M : MV} {f : Nat → Int32} : pIr (W B X M) 254 f = W B X {M with plan := f} := by
  refine pIr_W rfl rfl rfl rfl (fun r2 => ?_)
  by_cases e : r2 = 254
  · subst e; simp [giW, isTr, isOr]
  · simp [giW, e]
theorem pI_M_weighedWho {B : LB} {X : XV} {M : MV} {k : Nat} {v : Int32} : pI (W B X M) 255 k v = W B X {M with weighedWho := upd M.weighedWho k v} := by
  refine pI_W rfl rfl rfl rfl (fun r2 k2 => ?_)
  by_cases e : r2 = 255
  · subst e; simp [giW, isTr, isOr, upd]
  · simp [giW, e]
theorem pIr_M_weighedWho {B : LB} {X : XV} {M : MV} {f : Nat → Int32} : pIr (W B X M) 255 f = W B X {M with weighedWho := f} := by
  refine pIr_W rfl rfl rfl rfl (fun r2 => ?_)
  by_cases e : r2 = 255
  · subst e; simp [giW, isTr, isOr]
  · simp [giW, e]
theorem pI_M_weighedShown {B : LB} {X : XV} {M : MV} {k : Nat} {v : Int32} : pI (W B X M) 256 k v = W B X {M with weighedShown := upd M.weighedShown k v} := by
  refine pI_W rfl rfl rfl rfl (fun r2 k2 => ?_)
  by_cases e : r2 = 256
  · subst e; simp [giW, isTr, isOr, upd]
  · simp [giW, e]
theorem pIr_M_weighedShown {B : LB} {X : XV} {M : MV} {f : Nat → Int32} : pIr (W B X M) 256 f = W B X {M with weighedShown := f} := by
  refine pIr_W rfl rfl rfl rfl (fun r2 => ?_)
  by_cases e : r2 = 256
  · subst e; simp [giW, isTr, isOr]
  · simp [giW, e]
theorem pI_M_dateWho {B : LB} {X : XV} {M : MV} {k : Nat} {v : Int32} : pI (W B X M) 257 k v = W B X {M with dateWho := upd M.dateWho k v} := by
  refine pI_W rfl rfl rfl rfl (fun r2 k2 => ?_)
  by_cases e : r2 = 257
  · subst e; simp [giW, isTr, isOr, upd]
  · simp [giW, e]
theorem pIr_M_dateWho {B : LB} {X : XV} {M : MV} {f : Nat → Int32} : pIr (W B X M) 257 f = W B X {M with dateWho := f} := by
  refine pIr_W rfl rfl rfl rfl (fun r2 => ?_)
  by_cases e : r2 = 257
  · subst e; simp [giW, isTr, isOr]
  · simp [giW, e]
theorem pI_M_dateWeek {B : LB} {X : XV} {M : MV} {k : Nat} {v : Int32} : pI (W B X M) 258 k v = W B X {M with dateWeek := upd M.dateWeek k v} := by
  refine pI_W rfl rfl rfl rfl (fun r2 k2 => ?_)
  by_cases e : r2 = 258
  · subst e; simp [giW, isTr, isOr, upd]
  · simp [giW, e]
theorem pIr_M_dateWeek {B : LB} {X : XV} {M : MV} {f : Nat → Int32} : pIr (W B X M) 258 f = W B X {M with dateWeek := f} := by
  refine pIr_W rfl rfl rfl rfl (fun r2 => ?_)
  by_cases e : r2 = 258
  · subst e; simp [giW, isTr, isOr]
  · simp [giW, e]
theorem pI_M_isKept {B : LB} {X : XV} {M : MV} {k : Nat} {v : Int32} : pI (W B X M) 262 k v = W B X {M with isKept := upd M.isKept k v} := by
  refine pI_W rfl rfl rfl rfl (fun r2 k2 => ?_)
  by_cases e : r2 = 262
  · subst e; simp [giW, isTr, isOr, upd]
  · simp [giW, e]
theorem pIr_M_isKept {B : LB} {X : XV} {M : MV} {f : Nat → Int32} : pIr (W B X M) 262 f = W B X {M with isKept := f} := by
  refine pIr_W rfl rfl rfl rfl (fun r2 => ?_)
  by_cases e : r2 = 262
  · subst e; simp [giW, isTr, isOr]
  · simp [giW, e]
theorem pI_M_keptPeople {B : LB} {X : XV} {M : MV} {k : Nat} {v : Int32} : pI (W B X M) 263 k v = W B X {M with keptPeople := upd M.keptPeople k v} := by
  refine pI_W rfl rfl rfl rfl (fun r2 k2 => ?_)
  by_cases e : r2 = 263
  · subst e; simp [giW, isTr, isOr, upd]
  · simp [giW, e]
theorem pIr_M_keptPeople {B : LB} {X : XV} {M : MV} {f : Nat → Int32} : pIr (W B X M) 263 f = W B X {M with keptPeople := f} := by
  refine pIr_W rfl rfl rfl rfl (fun r2 => ?_)
  by_cases e : r2 = 263
  · subst e; simp [giW, isTr, isOr]
  · simp [giW, e]
theorem isTr_ne {r i j : Nat} (h : i < 25) (hj : j < 7) (e : r ≠ tr i + j) (ht : isTr r = true) : ¬ (tid r = i ∧ tof r = j) := fun q => e (by have := tr_in r (tr_lt r ht) ht; rw [this.1, q.1, q.2])
theorem isOr_ne {r i j : Nat} (h : i < 16) (hj : j < 2) (e : r ≠ orl i + j) (ht : isOr r = true) : ¬ (oid r = i ∧ oof r = j) := fun q => e (by have := or_in r (or_lt r ht) ht; rw [this.1, q.1, q.2])
theorem giW_tm {B X M i j T} (h : i < 25) (hj : j < 7) {r : Nat} {g : Nat → Int32} (hT : ∀ b j2, j2 < 7 → j2 ≠ j → tmRow T b j2 = tmRow (X.tm i) b j2) (e : g = tmRow T (gi B.s (tr i + j)) j) : (if r = tr i + j then g else giW B X M r) = giW B {X with tm := upd X.tm i T} M r := by
  by_cases er : r = tr i + j
  · subst er
    have h1 := tr_ok i h j hj
    rw [if_pos rfl, giW, if_pos h1.1, h1.2.1, h1.2.2.1, e]
    simp [upd]
  · rw [if_neg er]
    by_cases ht : isTr r = true
    · have hn := isTr_ne h hj er ht
      rw [giW, giW, if_pos ht, if_pos ht]
      by_cases e1 : tid r = i
      · have e2 : tof r ≠ j := fun q => hn ⟨e1, q⟩
        have : upd X.tm i T (tid r) = T := by simp [upd, e1]
        show tmRow (X.tm (tid r)) _ _ = tmRow (upd X.tm i T (tid r)) _ _
        rw [this, e1, hT _ _ (tr_in r (tr_lt r ht) ht).2.2 e2]
      · have : upd X.tm i T (tid r) = X.tm (tid r) := by simp [upd, e1]
        show tmRow (X.tm (tid r)) _ _ = tmRow (upd X.tm i T (tid r)) _ _
        rw [this]
    · rw [giW, giW, if_neg ht, if_neg ht]
theorem giW_on {B X M i j T} (h : i < 16) (hj : j < 2) {r : Nat} {g : Nat → Int32} (hT : ∀ b j2, j2 < 2 → j2 ≠ j → onRow T b j2 = onRow (X.on i) b j2) (e : g = onRow T (gi B.s (orl i + j)) j) : (if r = orl i + j then g else giW B X M r) = giW B {X with on := upd X.on i T} M r := by
  by_cases er : r = orl i + j
  · subst er
    have h1 := or_ok i h j hj
    rw [if_pos rfl, giW, if_neg (by rw [h1.1]; decide), if_pos h1.2.1, h1.2.2.1, h1.2.2.2.1, e]
    simp [upd]
  · rw [if_neg er]
    by_cases ht : isTr r = true
    · rw [giW, giW, if_pos ht, if_pos ht]
    · rw [giW, giW, if_neg ht, if_neg ht]
      by_cases ho : isOr r = true
      · have hn := isOr_ne h hj er ho
        have hl := or_in r (or_lt r ho) ho
        rw [if_pos ho, if_pos ho]
        by_cases e1 : oid r = i
        · have e2 : oof r ≠ j := fun q => hn ⟨e1, q⟩
          have : upd X.on i T (oid r) = T := by simp [upd, e1]
          show onRow (X.on (oid r)) _ _ = onRow (upd X.on i T (oid r)) _ _
          rw [this, e1, hT _ _ hl.2.2 e2]
        · have : upd X.on i T (oid r) = X.on (oid r) := by simp [upd, e1]
          show onRow (X.on (oid r)) _ _ = onRow (upd X.on i T (oid r)) _ _
          rw [this]
      · rw [if_neg ho, if_neg ho]
theorem upd_ite {α : Type} {f : Nat → α} {k q : Nat} {v : α} : upd f k v q = if q = k then v else f q := rfl
theorem pk_of {r2 r k2 k : Nat} {v : Int32} {g : Nat → Nat → Int32} : (if r2 = r ∧ k2 = k then v else g r2 k2) = (if r2 = r then upd (g r) k v else g r2) k2 := by
  by_cases e : r2 = r
  · subst e; by_cases e2 : k2 = k <;> simp [upd, e2]
  · simp [e]
theorem pI_tr_w {B : LB} {X : XV} {M : MV} {i k : Nat} {v : Int32} (h : i < 25) : pI (W B X M) (tr i + 1) k v = W B {X with tm := upd X.tm i {X.tm i with w := upd (X.tm i).w k v}} M := by
  refine pI_W rfl rfl rfl rfl (fun r2 k2 => ?_)
  rw [pk_of]
  refine congrFun (giW_tm h (by decide) (fun b j2 hl hj => ?_) ?_) k2
  · unfold tmRow; simp only [hj, if_false]; (try (repeat' (first | rfl | (exfalso; omega) | split)))
  · have := gi_tr_w (B := B) (X := X) (M := M) h; rw [gi_W] at this; rw [this]; rfl
theorem pIr_tr_w {B : LB} {X : XV} {M : MV} {i : Nat} {f : Nat → Int32} (h : i < 25) : pIr (W B X M) (tr i + 1) f = W B {X with tm := upd X.tm i {X.tm i with w := f}} M := by
  refine pIr_W rfl rfl rfl rfl (fun r2 => ?_)
  refine giW_tm h (by decide) (fun b j2 hl hj => ?_) rfl
  unfold tmRow; simp only [hj, if_false]; (try (repeat' (first | rfl | (exfalso; omega) | split)))
theorem pI_tr_sv {B : LB} {X : XV} {M : MV} {i k : Nat} {v : Int32} (h : i < 25) : pI (W B X M) (tr i + 2) k v = W B {X with tm := upd X.tm i {X.tm i with sv := upd (X.tm i).sv k v}} M := by
  refine pI_W rfl rfl rfl rfl (fun r2 k2 => ?_)
  rw [pk_of]
  refine congrFun (giW_tm h (by decide) (fun b j2 hl hj => ?_) ?_) k2
  · unfold tmRow; simp only [hj, if_false]; (try (repeat' (first | rfl | (exfalso; omega) | split)))
  · have := gi_tr_sv (B := B) (X := X) (M := M) h; rw [gi_W] at this; rw [this]; rfl
theorem pIr_tr_sv {B : LB} {X : XV} {M : MV} {i : Nat} {f : Nat → Int32} (h : i < 25) : pIr (W B X M) (tr i + 2) f = W B {X with tm := upd X.tm i {X.tm i with sv := f}} M := by
  refine pIr_W rfl rfl rfl rfl (fun r2 => ?_)
  refine giW_tm h (by decide) (fun b j2 hl hj => ?_) rfl
  unfold tmRow; simp only [hj, if_false]; (try (repeat' (first | rfl | (exfalso; omega) | split)))
theorem pI_tr_mb {B : LB} {X : XV} {M : MV} {i k : Nat} {v : Int32} (h : i < 25) : pI (W B X M) (tr i + 3) k v = W B {X with tm := upd X.tm i {X.tm i with mb := upd (X.tm i).mb k v}} M := by
  refine pI_W rfl rfl rfl rfl (fun r2 k2 => ?_)
  rw [pk_of]
  refine congrFun (giW_tm h (by decide) (fun b j2 hl hj => ?_) ?_) k2
  · unfold tmRow; simp only [hj, if_false]; (try (repeat' (first | rfl | (exfalso; omega) | split)))
  · have := gi_tr_mb (B := B) (X := X) (M := M) h; rw [gi_W] at this; rw [this]; rfl
theorem pIr_tr_mb {B : LB} {X : XV} {M : MV} {i : Nat} {f : Nat → Int32} (h : i < 25) : pIr (W B X M) (tr i + 3) f = W B {X with tm := upd X.tm i {X.tm i with mb := f}} M := by
  refine pIr_W rfl rfl rfl rfl (fun r2 => ?_)
  refine giW_tm h (by decide) (fun b j2 hl hj => ?_) rfl
  unfold tmRow; simp only [hj, if_false]; (try (repeat' (first | rfl | (exfalso; omega) | split)))
theorem pI_tr_mi {B : LB} {X : XV} {M : MV} {i k : Nat} {v : Int32} (h : i < 25) : pI (W B X M) (tr i + 4) k v = W B {X with tm := upd X.tm i {X.tm i with mi := upd (X.tm i).mi k v}} M := by
  refine pI_W rfl rfl rfl rfl (fun r2 k2 => ?_)
  rw [pk_of]
  refine congrFun (giW_tm h (by decide) (fun b j2 hl hj => ?_) ?_) k2
  · unfold tmRow; simp only [hj, if_false]; (try (repeat' (first | rfl | (exfalso; omega) | split)))
  · have := gi_tr_mi (B := B) (X := X) (M := M) h; rw [gi_W] at this; rw [this]; rfl
theorem pIr_tr_mi {B : LB} {X : XV} {M : MV} {i : Nat} {f : Nat → Int32} (h : i < 25) : pIr (W B X M) (tr i + 4) f = W B {X with tm := upd X.tm i {X.tm i with mi := f}} M := by
  refine pIr_W rfl rfl rfl rfl (fun r2 => ?_)
  refine giW_tm h (by decide) (fun b j2 hl hj => ?_) rfl
  unfold tmRow; simp only [hj, if_false]; (try (repeat' (first | rfl | (exfalso; omega) | split)))
theorem pI_tr_fl {B : LB} {X : XV} {M : MV} {i k : Nat} {v : Int32} (h : i < 25) : pI (W B X M) (tr i + 5) k v = W B {X with tm := upd X.tm i {X.tm i with fl := upd (X.tm i).fl k v}} M := by
  refine pI_W rfl rfl rfl rfl (fun r2 k2 => ?_)
  rw [pk_of]
  refine congrFun (giW_tm h (by decide) (fun b j2 hl hj => ?_) ?_) k2
  · unfold tmRow; simp only [hj, if_false]; (try (repeat' (first | rfl | (exfalso; omega) | split)))
  · have := gi_tr_fl (B := B) (X := X) (M := M) h; rw [gi_W] at this; rw [this]; rfl
theorem pIr_tr_fl {B : LB} {X : XV} {M : MV} {i : Nat} {f : Nat → Int32} (h : i < 25) : pIr (W B X M) (tr i + 5) f = W B {X with tm := upd X.tm i {X.tm i with fl := f}} M := by
  refine pIr_W rfl rfl rfl rfl (fun r2 => ?_)
  refine giW_tm h (by decide) (fun b j2 hl hj => ?_) rfl
  unfold tmRow; simp only [hj, if_false]; (try (repeat' (first | rfl | (exfalso; omega) | split)))
theorem pI_tr_kn {B : LB} {X : XV} {M : MV} {i k : Nat} {v : Int32} (h : i < 25) : pI (W B X M) (tr i + 6) k v = W B {X with tm := upd X.tm i {X.tm i with kn := upd (X.tm i).kn k v}} M := by
  refine pI_W rfl rfl rfl rfl (fun r2 k2 => ?_)
  rw [pk_of]
  refine congrFun (giW_tm h (by decide) (fun b j2 hl hj => ?_) ?_) k2
  · unfold tmRow; simp only [hj, if_false]; (try (repeat' (first | rfl | (exfalso; omega) | split)))
  · have := gi_tr_kn (B := B) (X := X) (M := M) h; rw [gi_W] at this; rw [this]; rfl
theorem pIr_tr_kn {B : LB} {X : XV} {M : MV} {i : Nat} {f : Nat → Int32} (h : i < 25) : pIr (W B X M) (tr i + 6) f = W B {X with tm := upd X.tm i {X.tm i with kn := f}} M := by
  refine pIr_W rfl rfl rfl rfl (fun r2 => ?_)
  refine giW_tm h (by decide) (fun b j2 hl hj => ?_) rfl
  unfold tmRow; simp only [hj, if_false]; (try (repeat' (first | rfl | (exfalso; omega) | split)))
theorem giW_tr0 {B X M i} (h : i < 25) : giW B X M (tr i) = tmRow (X.tm i) (gi B.s (tr i)) 0 := by have h1 := tr_ok i h 0 (by decide); rw [Nat.add_zero] at h1; rw [giW, if_pos h1.1, h1.2.1, h1.2.2.1]
theorem pI_tr_al {B : LB} {X : XV} {M : MV} {i : Nat} {v : Int32} (h : i < 25) : pI (W B X M) (tr i) 6 v = W B {X with tm := upd X.tm i {X.tm i with al := v}} M := by
  refine pI_W rfl rfl rfl rfl (fun r2 k2 => ?_)
  rw [pk_of]
  refine congrFun (giW_tm (j := 0) h (by decide) (fun b j2 hl hj => ?_) ?_) k2
  · unfold tmRow; simp [hj]
  · rw [giW_tr0 h]; funext q; simp only [tmRow, upd, if_true, Nat.add_zero]; repeat (split <;> first | rfl | (try omega))
theorem pI_tr_sr {B : LB} {X : XV} {M : MV} {i : Nat} {v : Option Nat} (h : i < 25) : pI (W B X M) (tr i) 7 (Sr v) = W B {X with tm := upd X.tm i {X.tm i with sr := v}} M := by
  refine pI_W rfl rfl rfl rfl (fun r2 k2 => ?_)
  rw [pk_of]
  refine congrFun (giW_tm (j := 0) h (by decide) (fun b j2 hl hj => ?_) ?_) k2
  · unfold tmRow; simp [hj]
  · rw [giW_tr0 h]; funext q; simp only [tmRow, upd, if_true, Nat.add_zero]; repeat (split <;> first | rfl | (try omega))
theorem pI_tr_te {B : LB} {X : XV} {M : MV} {i : Nat} {v : Int32} (h : i < 25) : pI (W B X M) (tr i) 8 v = W B {X with tm := upd X.tm i {X.tm i with te := v}} M := by
  refine pI_W rfl rfl rfl rfl (fun r2 k2 => ?_)
  rw [pk_of]
  refine congrFun (giW_tm (j := 0) h (by decide) (fun b j2 hl hj => ?_) ?_) k2
  · unfold tmRow; simp [hj]
  · rw [giW_tr0 h]; funext q; simp only [tmRow, upd, if_true, Nat.add_zero]; repeat (split <;> first | rfl | (try omega))
theorem pI_tr_wk {B : LB} {X : XV} {M : MV} {i : Nat} {v : Nat} (h : i < 25) : pI (W B X M) (tr i) 9 (I v) = W B {X with tm := upd X.tm i {X.tm i with wk := v}} M := by
  refine pI_W rfl rfl rfl rfl (fun r2 k2 => ?_)
  rw [pk_of]
  refine congrFun (giW_tm (j := 0) h (by decide) (fun b j2 hl hj => ?_) ?_) k2
  · unfold tmRow; simp [hj]
  · rw [giW_tr0 h]; funext q; simp only [tmRow, upd, if_true, Nat.add_zero]; repeat (split <;> first | rfl | (try omega))
theorem pI_tr_lw {B : LB} {X : XV} {M : MV} {i : Nat} {v : Nat} (h : i < 25) : pI (W B X M) (tr i) 10 (I v) = W B {X with tm := upd X.tm i {X.tm i with lw := v}} M := by
  refine pI_W rfl rfl rfl rfl (fun r2 k2 => ?_)
  rw [pk_of]
  refine congrFun (giW_tm (j := 0) h (by decide) (fun b j2 hl hj => ?_) ?_) k2
  · unfold tmRow; simp [hj]
  · rw [giW_tr0 h]; funext q; simp only [tmRow, upd, if_true, Nat.add_zero]; repeat (split <;> first | rfl | (try omega))
theorem pI_or_pa {B : LB} {X : XV} {M : MV} {i : Nat} {v : Nat} (h : i < 16) : pI (W B X M) (orl i) 0 (I v) = W B {X with on := upd X.on i {X.on i with pa := v}} M := by
  refine pI_W rfl rfl rfl rfl (fun r2 k2 => ?_)
  rw [pk_of]
  refine congrFun (giW_on (j := 0) h (by decide) (fun b j2 hl hj => ?_) ?_) k2
  · unfold onRow; simp [hj]
  · have h1 := or_ok i h 0 (by decide)
    rw [Nat.add_zero] at h1 ⊢
    rw [giW, if_neg (by rw [h1.1]; decide), if_pos h1.2.1, h1.2.2.1, h1.2.2.2.1]; funext q; simp only [onRow, upd, if_true]; repeat (split <;> first | rfl | (try omega))
theorem pI_or_il {B : LB} {X : XV} {M : MV} {i : Nat} {v : Nat} (h : i < 16) : pI (W B X M) (orl i) 1 (I v) = W B {X with on := upd X.on i {X.on i with il := v}} M := by
  refine pI_W rfl rfl rfl rfl (fun r2 k2 => ?_)
  rw [pk_of]
  refine congrFun (giW_on (j := 0) h (by decide) (fun b j2 hl hj => ?_) ?_) k2
  · unfold onRow; simp [hj]
  · have h1 := or_ok i h 0 (by decide)
    rw [Nat.add_zero] at h1 ⊢
    rw [giW, if_neg (by rw [h1.1]; decide), if_pos h1.2.1, h1.2.2.1, h1.2.2.2.1]; funext q; simp only [onRow, upd, if_true]; repeat (split <;> first | rfl | (try omega))
theorem pI_or_ch {B : LB} {X : XV} {M : MV} {i : Nat} {v : Nat} (h : i < 16) : pI (W B X M) (orl i) 2 (I v) = W B {X with on := upd X.on i {X.on i with ch := v}} M := by
  refine pI_W rfl rfl rfl rfl (fun r2 k2 => ?_)
  rw [pk_of]
  refine congrFun (giW_on (j := 0) h (by decide) (fun b j2 hl hj => ?_) ?_) k2
  · unfold onRow; simp [hj]
  · have h1 := or_ok i h 0 (by decide)
    rw [Nat.add_zero] at h1 ⊢
    rw [giW, if_neg (by rw [h1.1]; decide), if_pos h1.2.1, h1.2.2.1, h1.2.2.2.1]; funext q; simp only [onRow, upd, if_true]; repeat (split <;> first | rfl | (try omega))
theorem pI_or_hb {B : LB} {X : XV} {M : MV} {i k : Nat} {v : Int32} (h : i < 16) : pI (W B X M) (orl i + 1) k v = W B {X with on := upd X.on i {X.on i with hb := upd (X.on i).hb k v}} M := by
  refine pI_W rfl rfl rfl rfl (fun r2 k2 => ?_)
  rw [pk_of]
  refine congrFun (giW_on h (by decide) (fun b j2 hl hj => ?_) ?_) k2
  · unfold onRow; rw [if_pos (by omega), if_pos (by omega)]
  · have := gi_or_hb (B := B) (X := X) (M := M) h; rw [gi_W] at this; rw [this]; rfl
theorem pIr_or_hb {B : LB} {X : XV} {M : MV} {i : Nat} {f : Nat → Int32} (h : i < 16) : pIr (W B X M) (orl i + 1) f = W B {X with on := upd X.on i {X.on i with hb := f}} M := by
  refine pIr_W rfl rfl rfl rfl (fun r2 => ?_)
  refine giW_on h (by decide) (fun b j2 hl hj => ?_) rfl
  unfold onRow; rw [if_pos (by omega), if_pos (by omega)]
theorem giW_upr {B X M i g T} (h : i < 3) {r : Nat} (e : g = rowF T (gi B.s (rr i))) : (if r = rr i then g else giW B X M r) = giW B X {M with rw := upd M.rw i T} r := by
  subst e
  match i, h with
  | 0, _ =>
    by_cases er : r = 241
    · subst er; simp [giW, isTr, isOr, upd, rr]
    · simp [giW, er, rr, upd]
  | 1, _ =>
    by_cases er : r = 242
    · subst er; simp [giW, isTr, isOr, upd, rr]
    · simp [giW, er, rr, upd]
  | 2, _ =>
    by_cases er : r = 261
    · subst er; simp [giW, isTr, isOr, upd, rr]
    · simp [giW, er, rr, upd]
theorem rowF_w {T : Tm} {b : Nat → Int32} {k : Nat} {v : Int32} (hk : k < 8) : upd (rowF T b) k v = rowF {T with w := upd T.w k v} b := by
  funext q
  unfold rowF upd
  by_cases e : q = k
  · subst e
    repeat (first | rw [if_pos (by omega)] | rw [if_neg (by omega)])
    try (first | rfl | (dsimp only; rw [if_pos (by omega)]))
  · dsimp only
    rw [if_neg e]
    repeat' (first | (refine ite_congr rfl (fun _ => ?_) (fun _ => ?_)) | rfl | (rw [if_neg (by omega)]) | (exfalso; omega))
theorem pI_rr_w {B : LB} {X : XV} {M : MV} {i k : Nat} {v : Int32} (h : i < 3) (hk : k < 8) : pI (W B X M) (rr i) k v = W B X {M with rw := upd M.rw i {M.rw i with w := upd (M.rw i).w k v}} := by
  refine pI_W rfl rfl rfl rfl (fun r2 k2 => ?_)
  rw [pk_of]
  refine congrFun (giW_upr h ?_) k2
  rw [← gi_W (B := B) (X := X) (M := M), giW_rr h]
  exact rowF_w hk
theorem rowF_sv {T : Tm} {b : Nat → Int32} {k : Nat} {v : Int32} (hk : k < 8) : upd (rowF T b) (8 + k) v = rowF {T with sv := upd T.sv k v} b := by
  funext q
  unfold rowF upd
  by_cases e : q = (8 + k)
  · subst e
    repeat (first | rw [if_pos (by omega)] | rw [if_neg (by omega)])
    try (first | rfl | (dsimp only; rw [if_pos (by omega)]))
  · dsimp only
    rw [if_neg e]
    repeat' (first | (refine ite_congr rfl (fun _ => ?_) (fun _ => ?_)) | rfl | (rw [if_neg (by omega)]) | (exfalso; omega))
theorem pI_rr_sv {B : LB} {X : XV} {M : MV} {i k : Nat} {v : Int32} (h : i < 3) (hk : k < 8) : pI (W B X M) (rr i) (8 + k) v = W B X {M with rw := upd M.rw i {M.rw i with sv := upd (M.rw i).sv k v}} := by
  refine pI_W rfl rfl rfl rfl (fun r2 k2 => ?_)
  rw [pk_of]
  refine congrFun (giW_upr h ?_) k2
  rw [← gi_W (B := B) (X := X) (M := M), giW_rr h]
  exact rowF_sv hk
theorem rowF_mb {T : Tm} {b : Nat → Int32} {k : Nat} {v : Int32} (hk : k < 12) : upd (rowF T b) (21 + k) v = rowF {T with mb := upd T.mb k v} b := by
  funext q
  unfold rowF upd
  by_cases e : q = (21 + k)
  · subst e
    repeat (first | rw [if_pos (by omega)] | rw [if_neg (by omega)])
    try (first | rfl | (dsimp only; rw [if_pos (by omega)]))
  · dsimp only
    rw [if_neg e]
    repeat' (first | (refine ite_congr rfl (fun _ => ?_) (fun _ => ?_)) | rfl | (rw [if_neg (by omega)]) | (exfalso; omega))
theorem pI_rr_mb {B : LB} {X : XV} {M : MV} {i k : Nat} {v : Int32} (h : i < 3) (hk : k < 12) : pI (W B X M) (rr i) (21 + k) v = W B X {M with rw := upd M.rw i {M.rw i with mb := upd (M.rw i).mb k v}} := by
  refine pI_W rfl rfl rfl rfl (fun r2 k2 => ?_)
  rw [pk_of]
  refine congrFun (giW_upr h ?_) k2
  rw [← gi_W (B := B) (X := X) (M := M), giW_rr h]
  exact rowF_mb hk
theorem rowF_mi {T : Tm} {b : Nat → Int32} {k : Nat} {v : Int32} (hk : k < 12) : upd (rowF T b) (33 + k) v = rowF {T with mi := upd T.mi k v} b := by
  funext q
  unfold rowF upd
  by_cases e : q = (33 + k)
  · subst e
    repeat (first | rw [if_pos (by omega)] | rw [if_neg (by omega)])
    try (first | rfl | (dsimp only; rw [if_pos (by omega)]))
  · dsimp only
    rw [if_neg e]
    repeat' (first | (refine ite_congr rfl (fun _ => ?_) (fun _ => ?_)) | rfl | (rw [if_neg (by omega)]) | (exfalso; omega))
theorem pI_rr_mi {B : LB} {X : XV} {M : MV} {i k : Nat} {v : Int32} (h : i < 3) (hk : k < 12) : pI (W B X M) (rr i) (33 + k) v = W B X {M with rw := upd M.rw i {M.rw i with mi := upd (M.rw i).mi k v}} := by
  refine pI_W rfl rfl rfl rfl (fun r2 k2 => ?_)
  rw [pk_of]
  refine congrFun (giW_upr h ?_) k2
  rw [← gi_W (B := B) (X := X) (M := M), giW_rr h]
  exact rowF_mi hk
theorem rowF_fl {T : Tm} {b : Nat → Int32} {k : Nat} {v : Int32} (hk : k < 12) : upd (rowF T b) (45 + k) v = rowF {T with fl := upd T.fl k v} b := by
  funext q
  unfold rowF upd
  by_cases e : q = (45 + k)
  · subst e
    repeat (first | rw [if_pos (by omega)] | rw [if_neg (by omega)])
    try (first | rfl | (dsimp only; rw [if_pos (by omega)]))
  · dsimp only
    rw [if_neg e]
    repeat' (first | (refine ite_congr rfl (fun _ => ?_) (fun _ => ?_)) | rfl | (rw [if_neg (by omega)]) | (exfalso; omega))
theorem pI_rr_fl {B : LB} {X : XV} {M : MV} {i k : Nat} {v : Int32} (h : i < 3) (hk : k < 12) : pI (W B X M) (rr i) (45 + k) v = W B X {M with rw := upd M.rw i {M.rw i with fl := upd (M.rw i).fl k v}} := by
  refine pI_W rfl rfl rfl rfl (fun r2 k2 => ?_)
  rw [pk_of]
  refine congrFun (giW_upr h ?_) k2
  rw [← gi_W (B := B) (X := X) (M := M), giW_rr h]
  exact rowF_fl hk
theorem rowF_kn {T : Tm} {b : Nat → Int32} {k : Nat} {v : Int32} (hk : k < 60) : upd (rowF T b) (57 + k) v = rowF {T with kn := upd T.kn k v} b := by
  funext q
  unfold rowF upd
  by_cases e : q = (57 + k)
  · subst e
    repeat (first | rw [if_pos (by omega)] | rw [if_neg (by omega)])
    try (first | rfl | (dsimp only; rw [if_pos (by omega)]))
  · dsimp only
    rw [if_neg e]
    repeat' (first | (refine ite_congr rfl (fun _ => ?_) (fun _ => ?_)) | rfl | (rw [if_neg (by omega)]) | (exfalso; omega))
theorem pI_rr_kn {B : LB} {X : XV} {M : MV} {i k : Nat} {v : Int32} (h : i < 3) (hk : k < 60) : pI (W B X M) (rr i) (57 + k) v = W B X {M with rw := upd M.rw i {M.rw i with kn := upd (M.rw i).kn k v}} := by
  refine pI_W rfl rfl rfl rfl (fun r2 k2 => ?_)
  rw [pk_of]
  refine congrFun (giW_upr h ?_) k2
  rw [← gi_W (B := B) (X := X) (M := M), giW_rr h]
  exact rowF_kn hk
theorem rowF_al {T : Tm} {b : Nat → Int32} {v : Int32} : upd (rowF T b) 16 v = rowF {T with al := v} b := by
  funext q
  unfold rowF upd
  by_cases e : q = 16
  · subst e
    repeat (first | rw [if_pos (by omega)] | rw [if_neg (by omega)])
    try (first | rfl | (dsimp only; rw [if_pos (by omega)]))
  · dsimp only
    rw [if_neg e]
    repeat' (first | (refine ite_congr rfl (fun _ => ?_) (fun _ => ?_)) | rfl | (rw [if_neg (by omega)]) | (exfalso; omega))
theorem pI_rr_al {B : LB} {X : XV} {M : MV} {i : Nat} {v : Int32} (h : i < 3) : pI (W B X M) (rr i) 16 v = W B X {M with rw := upd M.rw i {M.rw i with al := v}} := by
  refine pI_W rfl rfl rfl rfl (fun r2 k2 => ?_)
  rw [pk_of]
  refine congrFun (giW_upr h ?_) k2
  rw [← gi_W (B := B) (X := X) (M := M), giW_rr h]
  exact rowF_al
theorem rowF_sr {T : Tm} {b : Nat → Int32} {v : Option Nat} : upd (rowF T b) 17 (Sr v) = rowF {T with sr := v} b := by
  funext q
  unfold rowF upd
  by_cases e : q = 17
  · subst e
    repeat (first | rw [if_pos (by omega)] | rw [if_neg (by omega)])
    try (first | rfl | (dsimp only; rw [if_pos (by omega)]))
  · dsimp only
    rw [if_neg e]
    repeat' (first | (refine ite_congr rfl (fun _ => ?_) (fun _ => ?_)) | rfl | (rw [if_neg (by omega)]) | (exfalso; omega))
theorem pI_rr_sr {B : LB} {X : XV} {M : MV} {i : Nat} {v : Option Nat} (h : i < 3) : pI (W B X M) (rr i) 17 (Sr v) = W B X {M with rw := upd M.rw i {M.rw i with sr := v}} := by
  refine pI_W rfl rfl rfl rfl (fun r2 k2 => ?_)
  rw [pk_of]
  refine congrFun (giW_upr h ?_) k2
  rw [← gi_W (B := B) (X := X) (M := M), giW_rr h]
  exact rowF_sr
theorem rowF_te {T : Tm} {b : Nat → Int32} {v : Int32} : upd (rowF T b) 18 v = rowF {T with te := v} b := by
  funext q
  unfold rowF upd
  by_cases e : q = 18
  · subst e
    repeat (first | rw [if_pos (by omega)] | rw [if_neg (by omega)])
    try (first | rfl | (dsimp only; rw [if_pos (by omega)]))
  · dsimp only
    rw [if_neg e]
    repeat' (first | (refine ite_congr rfl (fun _ => ?_) (fun _ => ?_)) | rfl | (rw [if_neg (by omega)]) | (exfalso; omega))
theorem pI_rr_te {B : LB} {X : XV} {M : MV} {i : Nat} {v : Int32} (h : i < 3) : pI (W B X M) (rr i) 18 v = W B X {M with rw := upd M.rw i {M.rw i with te := v}} := by
  refine pI_W rfl rfl rfl rfl (fun r2 k2 => ?_)
  rw [pk_of]
  refine congrFun (giW_upr h ?_) k2
  rw [← gi_W (B := B) (X := X) (M := M), giW_rr h]
  exact rowF_te
theorem rowF_wk {T : Tm} {b : Nat → Int32} {v : Nat} : upd (rowF T b) 19 (I v) = rowF {T with wk := v} b := by
  funext q
  unfold rowF upd
  by_cases e : q = 19
  · subst e
    repeat (first | rw [if_pos (by omega)] | rw [if_neg (by omega)])
    try (first | rfl | (dsimp only; rw [if_pos (by omega)]))
  · dsimp only
    rw [if_neg e]
    repeat' (first | (refine ite_congr rfl (fun _ => ?_) (fun _ => ?_)) | rfl | (rw [if_neg (by omega)]) | (exfalso; omega))
theorem pI_rr_wk {B : LB} {X : XV} {M : MV} {i : Nat} {v : Nat} (h : i < 3) : pI (W B X M) (rr i) 19 (I v) = W B X {M with rw := upd M.rw i {M.rw i with wk := v}} := by
  refine pI_W rfl rfl rfl rfl (fun r2 k2 => ?_)
  rw [pk_of]
  refine congrFun (giW_upr h ?_) k2
  rw [← gi_W (B := B) (X := X) (M := M), giW_rr h]
  exact rowF_wk
theorem rowF_lw {T : Tm} {b : Nat → Int32} {v : Nat} : upd (rowF T b) 20 (I v) = rowF {T with lw := v} b := by
  funext q
  unfold rowF upd
  by_cases e : q = 20
  · subst e
    repeat (first | rw [if_pos (by omega)] | rw [if_neg (by omega)])
    try (first | rfl | (dsimp only; rw [if_pos (by omega)]))
  · dsimp only
    rw [if_neg e]
    repeat' (first | (refine ite_congr rfl (fun _ => ?_) (fun _ => ?_)) | rfl | (rw [if_neg (by omega)]) | (exfalso; omega))
theorem pI_rr_lw {B : LB} {X : XV} {M : MV} {i : Nat} {v : Nat} (h : i < 3) : pI (W B X M) (rr i) 20 (I v) = W B X {M with rw := upd M.rw i {M.rw i with lw := v}} := by
  refine pI_W rfl rfl rfl rfl (fun r2 k2 => ?_)
  rw [pk_of]
  refine congrFun (giW_upr h ?_) k2
  rw [← gi_W (B := B) (X := X) (M := M), giW_rr h]
  exact rowF_lw
theorem pIr_rr {B : LB} {X : XV} {M : MV} {i : Nat} {T : Tm} (h : i < 3) : pIr (W B X M) (rr i) (rowF T (gi B.s (rr i))) = W B X {M with rw := upd M.rw i T} := pIr_W rfl rfl rfl rfl (fun r2 => giW_upr h rfl)
theorem giW_on4 {B X M on2} (r : Nat) : giW B X {M with on := on2} r = if r = 237 then (fun k => if k < 8 then I (on2 k).pa else gi B.s 237 k) else if r = 238 then (fun k => if k < 8 then I (on2 k).il else gi B.s 238 k) else if r = 240 then (fun k => if k < 8 then I (on2 k).ch else gi B.s 240 k) else if r = 239 then (fun k => if k < 48 then (on2 (k / 6)).hb (k % 6) else gi B.s 239 k) else giW B X M r := by
  by_cases e : r = 237
  · subst e; rfl
  by_cases e : r = 238
  · subst e; rfl
  by_cases e : r = 239
  · subst e; rfl
  by_cases e : r = 240
  · subst e; rfl
  simp [giW, *]
theorem onu {α : Type} {on : Nat → On} {k q : Nat} {T : On} (f : On → α) (h : f T = f (on k)) : f (upd on k T q) = f (on q) := by
  unfold upd; split
  · rename_i e; subst e; exact h
  · rfl
theorem pI_M_pa {B : LB} {X : XV} {M : MV} {k v : Nat} (h : k < 8) : pI (W B X M) 237 k (I v) = W B X {M with on := upd M.on k {M.on k with pa := v}} := by
  refine pI_W rfl rfl rfl rfl (fun r2 k2 => ?_)
  by_cases e : r2 = 237
  · subst e
    show (if 237 = 237 ∧ k2 = k then I v else (if k2 < 8 then I (M.on k2).pa else gi B.s 237 k2)) = (if k2 < 8 then I (upd M.on k _ k2).pa else gi B.s 237 k2)
    by_cases e2 : k2 = k
    · subst e2; simp [h, upd]
    · simp [e2, upd]
  by_cases e : r2 = 238
  · subst e
    show (if k2 < 8 then I (M.on k2).il else gi B.s 238 k2) = (if k2 < 8 then I (upd M.on k _ k2).il else gi B.s 238 k2)
    rw [onu (on := M.on) (k := k) (q := k2) (T := {M.on k with pa := v}) On.il rfl]
  by_cases e : r2 = 240
  · subst e
    show (if k2 < 8 then I (M.on k2).ch else gi B.s 240 k2) = (if k2 < 8 then I (upd M.on k _ k2).ch else gi B.s 240 k2)
    rw [onu (on := M.on) (k := k) (q := k2) (T := {M.on k with pa := v}) On.ch rfl]
  by_cases e : r2 = 239
  · subst e
    show (if k2 < 48 then (M.on (k2 / 6)).hb (k2 % 6) else gi B.s 239 k2) = (if k2 < 48 then (upd M.on k _ (k2 / 6)).hb (k2 % 6) else gi B.s 239 k2)
    rw [onu (on := M.on) (k := k) (q := k2 / 6) (T := {M.on k with pa := v}) On.hb rfl]
  simp [giW, *]
theorem pI_M_il {B : LB} {X : XV} {M : MV} {k v : Nat} (h : k < 8) : pI (W B X M) 238 k (I v) = W B X {M with on := upd M.on k {M.on k with il := v}} := by
  refine pI_W rfl rfl rfl rfl (fun r2 k2 => ?_)
  by_cases e : r2 = 237
  · subst e
    show (if k2 < 8 then I (M.on k2).pa else gi B.s 237 k2) = (if k2 < 8 then I (upd M.on k _ k2).pa else gi B.s 237 k2)
    rw [onu (on := M.on) (k := k) (q := k2) (T := {M.on k with il := v}) On.pa rfl]
  by_cases e : r2 = 238
  · subst e
    show (if 238 = 238 ∧ k2 = k then I v else (if k2 < 8 then I (M.on k2).il else gi B.s 238 k2)) = (if k2 < 8 then I (upd M.on k _ k2).il else gi B.s 238 k2)
    by_cases e2 : k2 = k
    · subst e2; simp [h, upd]
    · simp [e2, upd]
  by_cases e : r2 = 240
  · subst e
    show (if k2 < 8 then I (M.on k2).ch else gi B.s 240 k2) = (if k2 < 8 then I (upd M.on k _ k2).ch else gi B.s 240 k2)
    rw [onu (on := M.on) (k := k) (q := k2) (T := {M.on k with il := v}) On.ch rfl]
  by_cases e : r2 = 239
  · subst e
    show (if k2 < 48 then (M.on (k2 / 6)).hb (k2 % 6) else gi B.s 239 k2) = (if k2 < 48 then (upd M.on k _ (k2 / 6)).hb (k2 % 6) else gi B.s 239 k2)
    rw [onu (on := M.on) (k := k) (q := k2 / 6) (T := {M.on k with il := v}) On.hb rfl]
  simp [giW, *]
theorem pI_M_ch {B : LB} {X : XV} {M : MV} {k v : Nat} (h : k < 8) : pI (W B X M) 240 k (I v) = W B X {M with on := upd M.on k {M.on k with ch := v}} := by
  refine pI_W rfl rfl rfl rfl (fun r2 k2 => ?_)
  by_cases e : r2 = 237
  · subst e
    show (if k2 < 8 then I (M.on k2).pa else gi B.s 237 k2) = (if k2 < 8 then I (upd M.on k _ k2).pa else gi B.s 237 k2)
    rw [onu (on := M.on) (k := k) (q := k2) (T := {M.on k with ch := v}) On.pa rfl]
  by_cases e : r2 = 238
  · subst e
    show (if k2 < 8 then I (M.on k2).il else gi B.s 238 k2) = (if k2 < 8 then I (upd M.on k _ k2).il else gi B.s 238 k2)
    rw [onu (on := M.on) (k := k) (q := k2) (T := {M.on k with ch := v}) On.il rfl]
  by_cases e : r2 = 240
  · subst e
    show (if 240 = 240 ∧ k2 = k then I v else (if k2 < 8 then I (M.on k2).ch else gi B.s 240 k2)) = (if k2 < 8 then I (upd M.on k _ k2).ch else gi B.s 240 k2)
    by_cases e2 : k2 = k
    · subst e2; simp [h, upd]
    · simp [e2, upd]
  by_cases e : r2 = 239
  · subst e
    show (if k2 < 48 then (M.on (k2 / 6)).hb (k2 % 6) else gi B.s 239 k2) = (if k2 < 48 then (upd M.on k _ (k2 / 6)).hb (k2 % 6) else gi B.s 239 k2)
    rw [onu (on := M.on) (k := k) (q := k2 / 6) (T := {M.on k with ch := v}) On.hb rfl]
  simp [giW, *]
theorem pI_M_hb {B : LB} {X : XV} {M : MV} {k j : Nat} {v : Int32} (h : k < 8) (hj : j < 6) : pI (W B X M) 239 (6 * k + j) v = W B X {M with on := upd M.on k {M.on k with hb := upd (M.on k).hb j v}} := by
  refine pI_W rfl rfl rfl rfl (fun r2 k2 => ?_)
  by_cases e : r2 = 237
  · subst e
    show (if k2 < 8 then I (M.on k2).pa else gi B.s 237 k2) = (if k2 < 8 then I (upd M.on k _ k2).pa else gi B.s 237 k2)
    rw [onu (on := M.on) (k := k) (q := k2) (T := {M.on k with hb := upd (M.on k).hb j v}) On.pa rfl]
  by_cases e : r2 = 238
  · subst e
    show (if k2 < 8 then I (M.on k2).il else gi B.s 238 k2) = (if k2 < 8 then I (upd M.on k _ k2).il else gi B.s 238 k2)
    rw [onu (on := M.on) (k := k) (q := k2) (T := {M.on k with hb := upd (M.on k).hb j v}) On.il rfl]
  by_cases e : r2 = 240
  · subst e
    show (if k2 < 8 then I (M.on k2).ch else gi B.s 240 k2) = (if k2 < 8 then I (upd M.on k _ k2).ch else gi B.s 240 k2)
    rw [onu (on := M.on) (k := k) (q := k2) (T := {M.on k with hb := upd (M.on k).hb j v}) On.ch rfl]
  by_cases e : r2 = 239
  · subst e
    show (if 239 = 239 ∧ k2 = 6 * k + j then v else (if k2 < 48 then (M.on (k2 / 6)).hb (k2 % 6) else gi B.s 239 k2)) = (if k2 < 48 then (upd M.on k _ (k2 / 6)).hb (k2 % 6) else gi B.s 239 k2)
    by_cases e2 : k2 = 6 * k + j
    · subst e2
      rw [if_pos ⟨rfl, rfl⟩, if_pos (by omega), show (6 * k + j) / 6 = k by omega, show (6 * k + j) % 6 = j by omega]; simp [upd]
    · rw [if_neg (fun q => e2 q.2)]
      by_cases e3 : k2 < 48
      · rw [if_pos e3, if_pos e3]; simp only [upd]
        by_cases e4 : k2 / 6 = k
        · have e5 : ¬ k2 % 6 = j := by omega
          simp [e4, e5, upd]
        · simp [e4]
      · rw [if_neg e3, if_neg e3]
  simp [giW, *]
theorem pI_M_rhb {B : LB} {X : XV} {M : MV} {k j : Nat} {v : Int32} (h : k < 9) (hj : j < 6) : pI (W B X M) 246 (6 * k + j) v = W B X {M with rhb := upd M.rhb k (upd (M.rhb k) j v)} := by
  refine pI_W rfl rfl rfl rfl (fun r2 k2 => ?_)
  by_cases e : r2 = 246
  · subst e
    show (if 246 = 246 ∧ k2 = 6 * k + j then v else (if k2 < 54 then M.rhb (k2 / 6) (k2 % 6) else gi B.s 246 k2)) = (if k2 < 54 then (upd M.rhb k _ (k2 / 6)) (k2 % 6) else gi B.s 246 k2)
    by_cases e2 : k2 = 6 * k + j
    · subst e2
      rw [if_pos ⟨rfl, rfl⟩, if_pos (by omega), show (6 * k + j) / 6 = k by omega, show (6 * k + j) % 6 = j by omega]; simp [upd]
    · rw [if_neg (fun q => e2 q.2)]
      by_cases e3 : k2 < 54
      · rw [if_pos e3, if_pos e3]; simp only [upd]
        by_cases e4 : k2 / 6 = k
        · have e5 : ¬ k2 % 6 = j := by omega
          simp [e4, e5, upd]
        · simp [e4]
      · rw [if_neg e3, if_neg e3]
  · simp [giW, e]
theorem pI_M_rhM {B : LB} {X : XV} {M : MV} {k v : Nat} (h : k < 9) : pI (W B X M) 247 k (I v) = W B X {M with rhM := upd M.rhM k v} := by
  refine pI_W rfl rfl rfl rfl (fun r2 k2 => ?_)
  by_cases e : r2 = 247
  · subst e
    simp only [giW, isTr, isOr, upd]
    by_cases e2 : k2 = k
    · subst e2; simp [h]
    · simp [e2]; done
  · simp [giW, e]
theorem pL_X_row {B : LB} {X : XV} {M : MV} {k : Nat} {v : Int64} : pL (W B X M) 18 k v = W B {X with row := upd X.row k v} M := by
  refine pL_W rfl rfl rfl rfl (fun r2 k2 => ?_)
  by_cases e : r2 = 18
  · subst e; simp [glW, upd]
  · simp [glW, e]
theorem pL_M_row {B : LB} {X : XV} {M : MV} {k : Nat} {v : Int64} : pL (W B X M) 236 k v = W B X {M with row := upd M.row k v} := by
  refine pL_W rfl rfl rfl rfl (fun r2 k2 => ?_)
  by_cases e : r2 = 236
  · subst e; simp [glW, upd]
  · simp [glW, e]
theorem pL_X_out {B : LB} {X : XV} {M : MV} {k : Nat} {v : Int64} : pL (W B X M) 265 k v = W B {X with out := upd X.out k v} M := by
  refine pL_W rfl rfl rfl rfl (fun r2 k2 => ?_)
  by_cases e : r2 = 265
  · subst e; simp [glW, upd]
  · simp [glW, e]
theorem pL_lr {B : LB} {X : XV} {M : MV} {i k : Nat} {v : Int64} (h : i < 2) : pL (W B X M) (lr i) k v = W B X {M with lk := upd M.lk i (upd (M.lk i) k v)} := by
  match i, h with
  | 0, _ =>
    refine pL_W rfl rfl rfl rfl (fun r2 k2 => ?_)
    by_cases e : r2 = 259
    · subst e; simp [glW, upd, lr]
    · simp [glW, e, upd, lr]
  | 1, _ =>
    refine pL_W rfl rfl rfl rfl (fun r2 k2 => ?_)
    by_cases e : r2 = 260
    · subst e; simp [glW, upd, lr]
    · simp [glW, e, upd, lr]
theorem pL_xl {B : LB} {X : XV} {M : MV} {i k : Nat} {v : Int64} (h : i < 2) : pL (W B X M) (xl i) k v = W B {X with lk := upd X.lk i (upd (X.lk i) k v)} M := by
  match i, h with
  | 0, _ =>
    refine pL_W rfl rfl rfl rfl (fun r2 k2 => ?_)
    by_cases e : r2 = 76
    · subst e; simp [glW, upd, xl]
    · simp [glW, e, upd, xl]
  | 1, _ =>
    refine pL_W rfl rfl rfl rfl (fun r2 k2 => ?_)
    by_cases e : r2 = 77
    · subst e; simp [glW, upd, xl]
    · simp [glW, e, upd, xl]
theorem giW_D {B X M j f} {r : Nat} : (if r = D j then f else giW B X M r) = giW B {X with dm := upd X.dm j f} M r := by
  by_cases e : r = D j
  · subst e; simp [giW, isD, D_ne, D_sub, D_ge, upd]
  · rw [if_neg e]
    have : upd X.dm j f (r - 266) = X.dm (r - 266) ∨ ¬ 266 ≤ r := by
      by_cases h : 266 ≤ r
      · left; unfold upd; rw [if_neg (by intro q; apply e; unfold D; omega)]
      · exact Or.inr h
    rcases this with h | h
    · simp only [giW, h]
    · simp only [giW, if_neg h]
theorem pI_D {B : LB} {X : XV} {M : MV} {j k : Nat} {v : Int32} : pI (W B X M) (D j) k v = W B {X with dm := upd X.dm j (upd (X.dm j) k v)} M := by
  refine pI_W rfl rfl rfl rfl (fun r2 k2 => ?_)
  rw [pk_of]
  have := gi_D (B := B) (X := X) (M := M) (j := j); rw [gi_W] at this; rw [this]
  exact congrFun giW_D k2
theorem pIr_D {B : LB} {X : XV} {M : MV} {j : Nat} {f : Nat → Int32} : pIr (W B X M) (D j) f = W B {X with dm := upd X.dm j f} M := by
  exact pIr_W rfl rfl rfl rfl (fun r2 => giW_D)
theorem pR_W {B X M r k v X2} (he : X2.e = X.e) (hk : X2.dk = X.dk) (hg : glW B X2 M = glW B X M) (hr : giW B X2 M = giW B X M) (h : ∀ r2 k2, (if r2 = r ∧ k2 = k then v else grW B X r2 k2) = grW B X2 r2 k2) : pR (W B X M) r k v = W B X2 M := by
  refine W_ext (by rw [he]; rfl) (fun r => ?_) (fun r k => ?_) (fun r k => ?_) h
  · unfold kdW; rw [hk]; rfl
  · rw [hr]; rfl
  · rw [hg]; rfl
theorem pR_rule {B : LB} {X : XV} {M : MV} {v : Option Nat} : pR (W B X M) 0 15 v = W B {X with rule := v} M := by
  refine pR_W rfl rfl rfl rfl (fun r2 k2 => ?_)
  by_cases e : r2 = 0
  · subst e; by_cases e2 : k2 = 15 <;> simp [grW, upd, e2]
  · simp [grW, e]
theorem pR_kept {B : LB} {X : XV} {M : MV} {k : Nat} {v : Option Nat} : pR (W B X M) 78 k v = W B {X with kept := upd X.kept k v} M := by
  refine pR_W rfl rfl rfl rfl (fun r2 k2 => ?_)
  by_cases e : r2 = 78
  · subst e; simp [grW, upd]
  · simp [grW, e]
theorem pR_D {B : LB} {X : XV} {M : MV} {j k : Nat} {v : Option Nat} : pR (W B X M) (D j) k v = W B {X with dr := upd X.dr j (upd (X.dr j) k v)} M := by
  refine pR_W rfl rfl rfl rfl (fun r2 k2 => ?_)
  by_cases e : r2 = D j
  · subst e; simp [grW, D_ne, D_sub, D_ge, upd]
  · simp only [e, false_and, if_false, grW]
    split <;> try rfl
    split <;> try rfl
    split <;> try rfl
    split
    · unfold upd; rw [if_neg (by intro q; apply e; unfold D; omega)]
    · rfl
theorem pR_ah {B : LB} {X : XV} {M : MV} {a : Nat} (h : a < 20) : pR (W B X M) 16 19 (some (tr (5 + a))) = W B {X with ah := upd X.ah 19 a} M := by
  refine pR_W rfl rfl rfl rfl (fun r2 k2 => ?_)
  by_cases e : r2 = 16
  · subst e
    by_cases e2 : k2 = 19
    · subst e2; simp [grW, upd]
    · simp [grW, upd, e2]
  · simp [grW, e]
theorem nw_W {B : LB} {X : XV} {M : MV} {c n : Nat} {f : Nat → Int32} : nw (W B X M) c n f = W B {X with e := X.e + 1, dk := upd X.dk X.e (c, n), dm := upd X.dm X.e f, dl := upd X.dl X.e (fun _ => 0), dr := upd X.dr X.e (fun _ => none)} M := by
  refine W_ext rfl (fun r => ?_) (fun r k => ?_) (fun r k => ?_) (fun r k => ?_)
  · show (if r = D X.e then _ else _) = _
    by_cases e : r = D X.e
    · subst e; simp [kdW, D_ge, D_sub, upd]
    · rw [if_neg e]
      show kdW B X r = _
      unfold kdW
      split
      · simp only [upd]; rw [if_neg (by intro q; apply e; unfold D; omega)]
      · rfl
  · show (if r = D X.e then f else giW B X M r) k = _
    rw [giW_D]
    rfl
  · show (if r = D X.e then (fun _ => 0) else glW B X M r) k = _
    by_cases e : r = D X.e
    · subst e; simp [glW, D_ne, D_ge, D_sub, upd]
    · rw [if_neg e]
      unfold glW
      simp only [upd]
      repeat (split <;> try rfl)
      rename_i h _
      exact absurd h (by intro q; apply e; unfold D; omega)
  · show (if r = D X.e then (fun _ => none) else grW B X r) k = _
    by_cases e : r = D X.e
    · subst e; simp [grW, D_ne, D_ge, D_sub, upd]
    · rw [if_neg e]
      unfold grW
      simp only [upd]
      repeat (split <;> try rfl)
      rename_i h _
      exact absurd h (by intro q; apply e; unfold D; omega)
attribute [simp] fst_W kd_W_0 kd_W_1 kd_W_16 kd_W_17 kd_W_18 kd_W_19 kd_W_36 kd_W_37 kd_W_38 kd_W_39 kd_W_40 kd_W_41 kd_W_42 kd_W_43 kd_W_44 kd_W_45 kd_W_46 kd_W_47 kd_W_48 kd_W_49 kd_W_50 kd_W_51 kd_W_52 kd_W_53 kd_W_54 kd_W_76 kd_W_77 kd_W_78 kd_W_235 kd_W_236 kd_W_237 kd_W_238 kd_W_239 kd_W_240 kd_W_243 kd_W_244 kd_W_245 kd_W_246 kd_W_247 kd_W_248 kd_W_249 kd_W_250 kd_W_251 kd_W_252 kd_W_253 kd_W_254 kd_W_255 kd_W_256 kd_W_257 kd_W_258 kd_W_262 kd_W_263 kd_W_264 kd_W_265 kd_W_tr0 kd_W_tr1 kd_W_tr2 kd_W_tr3 kd_W_tr4 kd_W_tr5 kd_W_tr6 kd_W_or0 kd_W_or1 kd_W_rr kd_W_lr kd_W_xl kd_W_D lt_D D_lt_D D_le_D tr_lt0 tr_lt1 tr_lt2 tr_lt3 tr_lt4 tr_lt5 tr_lt6 or_lt0 or_lt1 rr_lt lr_lt xl_lt gr_W_0_0 gr_W_0_1 gr_W_0_2 gr_W_0_3 gr_W_0_9 gr_W_0_11 gr_W_0_13 gr_W_0_14 gr_W_0_16 gr_W_0_17 gr_W_0_18 gr_W_0_19 gr_W_0_20 gr_W_0_23 gr_W_0_24 gr_W_0_25 gr_W_0_26 gr_W_0_27 gr_W_0_28 gr_W_0_29 gr_W_0_30 gr_W_0_31 gr_W_0_33 gr_W_0_34 gr_W_0_36 gr_W_0_37 gr_W_0_38 gr_W_0_39 gr_W_37_0 gr_W_39_3 gr_W_40_0 gr_W_42_2 gr_W_45_1 gr_W_46_1 gr_W_47_2 gr_W_48_2 gr_W_49_1 gr_W_235_2 gr_W_235_4 gr_W_235_5 gr_W_235_6 gr_W_235_7 gr_W_235_10 gr_W_235_11 gr_W_235_12 gr_W_235_17 gr_W_235_18 gr_W_235_19 gr_W_235_20 gr_W_235_22 gr_W_235_23 gr_W_235_26 gr_W_235_29 gr_W_235_30 gr_W_235_32 gr_W_235_33 gr_W_235_35 gr_W_235_36 gr_W_235_38 gr_W_235_39 gr_W_235_40 gr_W_235_41 gr_W_235_42 gr_W_235_43 gr_W_235_44 gr_W_235_45 gr_W_1 gr_W_19 gr_W_54 gr_W_rule gr_W_ah gr_W_kept gr_W_D gr_W_tr0 gr_W_tr1 gr_W_tr2 gr_W_tr3 gr_W_tr4 gr_W_tr5 gr_W_or3 gi_X_many gi_X_came gi_X_undoM gi_X_grain gi_X_off gi_X_typed gi_X_rowM gi_X_isOther gi_X_fallen gi_X_weighM gi_X_toldM gi_X_those gi_X_pWho gi_X_pPlan gi_X_pFrom gi_X_aFrom gi_X_tParty gi_X_tFrom gi_X_nWho gi_X_hN gi_X_sWho gi_X_sN gi_X_vWho gi_X_vN gi_X_xWho gi_M_thrown gi_M_rows gi_M_people gi_M_grain gi_M_off gi_M_taped gi_M_at_ gi_M_to_ gi_M_nest gi_M_readMany gi_M_codeLong gi_M_readLong gi_M_fell gi_M_undos gi_M_readWeeks gi_M_weighings gi_M_dates gi_X_text gi_X_comeW gi_X_plans gi_X_year gi_X_weeksOf gi_X_wOne gi_X_wAs gi_X_tOne gi_X_tWeek gi_M_tape gi_M_readWeight gi_M_readParty gi_M_code gi_M_readCode gi_M_stack gi_M_readStand gi_M_servedFor gi_M_plan gi_M_weighedWho gi_M_weighedShown gi_M_dateWho gi_M_dateWeek gi_M_isKept gi_M_keptPeople gi_tr_w gi_tr_sv gi_tr_mb gi_tr_mi gi_tr_fl gi_tr_kn gi_tr_al gi_tr_sr gi_tr_te gi_tr_wk gi_tr_lw gi_or_pa gi_or_il gi_or_ch gi_or_hb gi_rr_w gi_rr_sv gi_rr_mb gi_rr_mi gi_rr_fl gi_rr_kn gi_rr_al gi_rr_sr gi_rr_te gi_rr_wk gi_rr_lw gi_M_pa gi_M_il gi_M_ch gi_M_hb gi_M_rhb gi_M_rhM gl_X_row gl_M_row gl_X_out gl_lr gl_xl gi_D pI_X_many pI_X_came pI_X_undoM pI_X_grain pI_X_off pI_X_typed pI_X_rowM pI_X_isOther pI_X_fallen pI_X_weighM pI_X_toldM pI_X_those pI_X_pWho pI_X_pPlan pI_X_pFrom pI_X_aFrom pI_X_tParty pI_X_tFrom pI_X_nWho pI_X_hN pI_X_sWho pI_X_sN pI_X_vWho pI_X_vN pI_X_xWho pI_M_thrown pI_M_rows pI_M_people pI_M_grain pI_M_off pI_M_taped pI_M_at_ pI_M_to_ pI_M_nest pI_M_readMany pI_M_codeLong pI_M_readLong pI_M_fell pI_M_undos pI_M_readWeeks pI_M_weighings pI_M_dates pI_X_text pIr_X_text pI_X_comeW pIr_X_comeW pI_X_plans pIr_X_plans pI_X_year pIr_X_year pI_X_weeksOf pIr_X_weeksOf pI_X_wOne pIr_X_wOne pI_X_wAs pIr_X_wAs pI_X_tOne pIr_X_tOne pI_X_tWeek pIr_X_tWeek pI_M_tape pIr_M_tape pI_M_readWeight pIr_M_readWeight pI_M_readParty pIr_M_readParty pI_M_code pIr_M_code pI_M_readCode pIr_M_readCode pI_M_stack pIr_M_stack pI_M_readStand pIr_M_readStand pI_M_servedFor pIr_M_servedFor pI_M_plan pIr_M_plan pI_M_weighedWho pIr_M_weighedWho pI_M_weighedShown pIr_M_weighedShown pI_M_dateWho pIr_M_dateWho pI_M_dateWeek pIr_M_dateWeek pI_M_isKept pIr_M_isKept pI_M_keptPeople pIr_M_keptPeople pI_tr_w pIr_tr_w pI_tr_sv pIr_tr_sv pI_tr_mb pIr_tr_mb pI_tr_mi pIr_tr_mi pI_tr_fl pIr_tr_fl pI_tr_kn pIr_tr_kn pI_tr_al pI_tr_sr pI_tr_te pI_tr_wk pI_tr_lw pI_or_pa pI_or_il pI_or_ch pI_or_hb pIr_or_hb pI_rr_w pI_rr_sv pI_rr_mb pI_rr_mi pI_rr_fl pI_rr_kn pI_rr_al pI_rr_sr pI_rr_te pI_rr_wk pI_rr_lw pIr_rr pI_M_pa pI_M_il pI_M_ch pI_M_hb pI_M_rhb pI_M_rhM pL_X_row pL_M_row pL_X_out pL_lr pL_xl pI_D pIr_D pR_rule pR_kept pR_D pR_ah nw_W
