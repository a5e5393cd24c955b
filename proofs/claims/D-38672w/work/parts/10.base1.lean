/-! MY BASE 1: ints as integers, the run's fixed names, the judgement over a list of owned cells -/
set_option maxRecDepth 100000
def jI (z : Int) : Int32 := Int32.ofInt z
def lI (z : Int) : Int64 := Int64.ofInt z
theorem jI_add (a b : Int) : jI a + jI b = jI (a + b) := (Int32.ofInt_add a b).symm
theorem jI_sub (a b : Int) : jI a - jI b = jI (a - b) := (Int32.ofInt_sub a b).symm
theorem jI_mul (a b : Int) : jI a * jI b = jI (a * b) := (Int32.ofInt_mul a b).symm
theorem jI_neg (a : Int) : -jI a = jI (-a) := (Int32.ofInt_neg a).symm
theorem jI_toInt {a : Int} (h1 : -2147483648 ≤ a) (h2 : a < 2147483648) : (jI a).toInt = a := Int32.toInt_ofInt_of_le (by omega) (by omega)
theorem jI_inj {a b : Int} (h : (-2147483648 ≤ a ∧ a < 2147483648) ∧ -2147483648 ≤ b ∧ b < 2147483648) : jI a = jI b ↔ a = b := by
  constructor
  · intro e
    have e2 := congrArg Int32.toInt e
    rwa [jI_toInt h.1.1 h.1.2, jI_toInt h.2.1 h.2.2] at e2
  · intro e; rw [e]
theorem jI_lt {a b : Int} (h : (-2147483648 ≤ a ∧ a < 2147483648) ∧ -2147483648 ≤ b ∧ b < 2147483648) : jI a < jI b ↔ a < b := by
  rw [Int32.lt_iff_toInt_lt, jI_toInt h.1.1 h.1.2, jI_toInt h.2.1 h.2.2]
theorem jI_le {a b : Int} (h : (-2147483648 ≤ a ∧ a < 2147483648) ∧ -2147483648 ≤ b ∧ b < 2147483648) : jI a ≤ jI b ↔ a ≤ b := by
  rw [Int32.le_iff_toInt_le, jI_toInt h.1.1 h.1.2, jI_toInt h.2.1 h.2.2]
theorem jI_clamp {a : Int} (h1 : -2147483648 ≤ a) (h2 : a < 2147483648) : (jI a).toNatClampNeg = a.toNat := Int32.toNatClampNeg_ofInt_of_le (by omega) (by omega)
theorem jI_nat (n : Nat) : jI (n : Int) = Int32.ofNat n := Int32.ofInt_eq_ofNat
theorem jI_of (x : Int32) : x = jI x.toInt := (Int32.ofInt_toInt x).symm
theorem jI_0 : (0 : Int32) = jI 0 := rfl
theorem jI_in {i n : Nat} (h : i < n) (hn : n < 2147483648) : vp_in (jI (i : Int)) n := by
  intro q
  rcases q with q | q
  · rw [jI_0, jI_lt (by omega)] at q
    omega
  · rw [jI_clamp (by omega) (by omega)] at q
    omega
theorem jI_cl {i : Nat} (hn : i < 2147483648) : (jI (i : Int)).toNatClampNeg = i := by
  rw [jI_clamp (by omega) (by omega)]
  omega
theorem jI_tdiv {a b : Int} (h : (-2147483648 < a ∧ a < 2147483648) ∧ 0 < b ∧ b < 2147483648) : jI a / jI b = jI (a.tdiv b) :=
  (Int32.ofInt_tdiv (by show (-2147483648 : Int) ≤ a; omega) (by show a ≤ (2147483647 : Int); omega) (by show (-2147483648 : Int) ≤ b; omega) (by show b ≤ (2147483647 : Int); omega)).symm
theorem jI_l {a : Int} (h1 : -2147483648 ≤ a) (h2 : a < 2147483648) : (jI a).toInt64 = lI a :=
  Int32.toInt64_ofInt (by show (-2147483648 : Int) ≤ a; omega) (by show a ≤ (2147483647 : Int); omega)
theorem lI_add (a b : Int) : lI a + lI b = lI (a + b) := (Int64.ofInt_add a b).symm
theorem lI_mul (a b : Int) : lI a * lI b = lI (a * b) := (Int64.ofInt_mul a b).symm
theorem jI_lW (x : Int32) : x.toInt64 = lI x.toInt := (Int64.ofInt_int32ToInt x).symm
/-- a run's names: the law's first state, the classes' numbers, the cached Integers, other known addresses, the array classes -/
abbrev EvT : Type := State × va_G × (Nat → Nat) × (Nat → Nat) × (Nat → ClassId)
abbrev EvT.s0 (ev : EvT) : State := ev.1
abbrev EvT.D (ev : EvT) : va_G := ev.2.1
abbrev EvT.ad (ev : EvT) : Nat → Nat := ev.2.2.1
abbrev EvT.sc (ev : EvT) : Nat → Nat := ev.2.2.2.1
abbrev EvT.cA (ev : EvT) : Nat → ClassId := ev.2.2.2.2
abbrev FxT : Type := (Program × Launch × Env × Room) × (State × MethodId × Array Value × List Frame × Method × Code) × (Heap × (Nat → Prop))
abbrev FxT.p (f : FxT) : Program := f.1.1
abbrev FxT.l (f : FxT) : Launch := f.1.2.1
abbrev FxT.e (f : FxT) : Env := f.1.2.2.1
abbrev FxT.R (f : FxT) : Room := f.1.2.2.2
abbrev FxT.s (f : FxT) : State := f.2.1.1
abbrev FxT.m (f : FxT) : MethodId := f.2.1.2.1
abbrev FxT.args (f : FxT) : Array Value := f.2.1.2.2.1
abbrev FxT.below (f : FxT) : List Frame := f.2.1.2.2.2.1
abbrev FxT.meth (f : FxT) : Method := f.2.1.2.2.2.2.1
abbrev FxT.c (f : FxT) : Code := f.2.1.2.2.2.2.2
abbrev FxT.H0 (f : FxT) : Heap := f.2.2.1
abbrev FxT.A (f : FxT) : Nat → Prop := f.2.2.2
/-- the classes whose objects the worlds hold -/
abbrev vwCl : List vw_C := [(RX1, TX1, 6), (RX2, TX2, 8), (RJ2, TJ2, 3), (RJ10, TJ10, 2), (RJ19, TJ19, 5), (RJ32, TJ32, 2), (RJ27, TJ27, 5), (RJ28, TJ28, 3), (RJ29, TJ29, 4), (RJ30, TJ30, 5), (RX4, TX4, 1), (RX5, TX5, 2), (RX6, TX6, 1), (RX7, TX7, 2), (RX3, TX3, 2), (RJ21, TJ21, 4), (RJ16, TJ16, 4), (RJ4, TJ4, 1), (RJ16, TJ16, 2)]
abbrev tyA : Nat → FieldType := fun k => match k with
  | 0 => .int
  | 1 => .array .int
  | 2 => .object "java/lang/Object"
  | 3 => .object "java/lang/Integer"
  | _ => .byte
abbrev tysA (ev : EvT) : List (ClassId × FieldType) := [(ev.cA 0, tyA 0), (ev.cA 1, tyA 1), (ev.cA 2, tyA 2), (ev.cA 3, tyA 3), (ev.cA 4, tyA 4)]
/-- what an array's place holds -/
def arAt (x : vp_A) (j : Nat) : Value := match x.2 with
  | .inl f => .int (f j)
  | .inr (.inl f) => .long (f j)
  | .inr (.inr (.inl f)) => .float (f j)
  | .inr (.inr (.inr (.inl f))) => .double (f j)
  | .inr (.inr (.inr (.inr f))) => va_rf (f j)
/-- a cell as it can be read -/
def AT (ev : EvT) (a : Nat) (e : va_E) (H : Heap) : Prop := match e with
  | .inl (cA, x) => ∃ cell : Cell, H[a]? = some cell ∧ cell.cls = cA ∧ cell.vm ≠ .unknown ∧ cell.vm.isStatics = false ∧ cell.slots.size = x.1 ∧ ∀ j : Nat, j < x.1 → cell.slots[j]? = some (arAt x j)
  | .inr (ci, fs) => ∃ r : vw_C, vwCl[ci]? = some r ∧ ∃ cell : Cell, H[a]? = some cell ∧ cell.cls = ev.D.1 ci ∧ cell.vm ≠ .unknown ∧ cell.vm.isStatics = false ∧ ∀ k : Nat, k < r.2.2 → cell.slots[ev.D.2 ci k]? = some (vp_V fs k)
theorem AT.of {ev : EvT} {a : Nat} {e : va_E} {H : Heap} (h : va_at ev.D vwCl (a, e) H) : AT ev a e H := by
  cases e with
  | inl x =>
    obtain ⟨cA, n, g⟩ := x
    have h : H[a]? = some (vp_cell cA (n, g)) := h
    refine ⟨_, h, ?_, ?_, ?_, ?_, ?_⟩
    · obtain f1 | f1 | f1 | f1 | f1 := g <;> rfl
    · obtain f1 | f1 | f1 | f1 | f1 := g <;> exact fun q => by cases q
    · obtain f1 | f1 | f1 | f1 | f1 := g <;> rfl
    · obtain f1 | f1 | f1 | f1 | f1 := g <;> exact arrV_size _ _ _
    · intro j hj
      obtain f1 | f1 | f1 | f1 | f1 := g <;> exact arrV_read _ _ hj
  | inr o =>
    obtain ⟨r, h1, cell, h2, h3, h4, h5⟩ := h
    exact ⟨r, h1, cell, h2, h3, by rw [h4]; exact (fun q => nomatch q), by rw [h4]; rfl, h5⟩
theorem AT.cell {ev : EvT} {a : Nat} {e : va_E} {H : Heap} (h : AT ev a e H) : ∃ cell : Cell, H[a]? = some cell := by
  cases e with
  | inl x => obtain ⟨cell, h1, -⟩ := h; exact ⟨cell, h1⟩
  | inr x => obtain ⟨r, -, cell, h1, -⟩ := h; exact ⟨cell, h1⟩
theorem AT.lt {ev : EvT} {a : Nat} {e : va_E} {H : Heap} (h : AT ev a e H) : a < H.size := by
  obtain ⟨cell, h1⟩ := h.cell
  exact (Array.getElem?_eq_some_iff.mp h1).1
theorem AT.kept {ev : EvT} {a : Nat} {e : va_E} {H H1 : Heap} (h : AT ev a e H) (hq : H1[a]? = H[a]?) : AT ev a e H1 := by
  cases e with
  | inl x => obtain ⟨cell, h1, h2⟩ := h; exact ⟨cell, by rw [hq]; exact h1, h2⟩
  | inr x => obtain ⟨r, h0, cell, h1, h2⟩ := h; exact ⟨r, h0, cell, by rw [hq]; exact h1, h2⟩
abbrev PP (ev : EvT) (ws : va_W) (H : Heap) : Prop := va_P ev.D vwCl ws H
abbrev ob (ci : Nat) (fs : List Value) : va_E := .inr (ci, fs)
/-- an array's contents with one place written -/
def ups (v : Nat → Int) (i : Nat) (x : Int) : Nat → Int := fun j => if j = i then x else v j
theorem ups_self (v : Nat → Int) (i : Nat) (x : Int) : ups v i x i = x := by simp [ups]
theorem ups_ne (v : Nat → Int) {i j : Nat} (x : Int) (h : j ≠ i) : ups v i x j = v j := by simp [ups, h]
theorem ups_jI (v : Nat → Int) (i : Nat) (x : Int) : upd (fun k => jI (v k)) i (jI x) = fun k => jI (ups v i x k) := by
  funext j
  by_cases h : j = i <;> simp [upd, ups, h]
/-- the cached Integer of a value, none for -1000 -/
def bx (ev : EvT) (z : Int) : Option Nat := if z = -1000 then none else some (ev.ad (z + 128).toNat)
theorem bx_none (ev : EvT) : bx ev (-1000) = none := if_pos rfl
theorem bx_some (ev : EvT) {z : Int} (h : z ≠ -1000) : bx ev z = some (ev.ad (z + 128).toNat) := if_neg h
abbrev bv (ev : EvT) (z : Int) : Value := va_rf (bx ev z)
theorem ups_bx (ev : EvT) (v : Nat → Int) (i : Nat) (x : Int) : va_up (fun k => bx ev (v k)) i (bx ev x) = fun k => bx ev (ups v i x k) := by
  funext j
  by_cases h : j = i <;> simp [va_up, ups, h]
abbrev arI (ev : EvT) (n : Nat) (v : Nat → Int) : va_E := .inl (ev.cA 0, n, .inl (fun k => jI (v k)))
abbrev arII (ev : EvT) (n : Nat) (f : Nat → Option Nat) : va_E := .inl (ev.cA 1, n, .inr (.inr (.inr (.inr f))))
abbrev arO (ev : EvT) (n : Nat) (f : Nat → Option Nat) : va_E := .inl (ev.cA 2, n, .inr (.inr (.inr (.inr f))))
abbrev arR (ev : EvT) (n : Nat) (v : Nat → Int) : va_E := .inl (ev.cA 3, n, .inr (.inr (.inr (.inr (fun k => bx ev (v k))))))
abbrev arB (ev : EvT) (n : Nat) (v : Nat → Int) : va_E := .inl (ev.cA 4, n, .inl (fun k => jI (v k)))
/-- what was there at the law's first state is still there -/
def Fz (ev : EvT) (H : Heap) : Prop := ev.s0.heap.size ≤ H.size ∧ ∀ q : Nat, q < ev.s0.heap.size → H[q]? = ev.s0.heap[q]?
/-- the cells that the run makes -/
def bs (ev : EvT) : Nat → Prop := fun q => ev.s0.heap.size ≤ q
/-- the String constants that are read: owner, entry, text, the bytes -/
abbrev sK : List (String × Nat × String × List Nat) := [("Twinrow", 98, "", []), ("Twinrow", 100, " ", [32]), ("Twinrow", 234, "-", [45]), ("TwinrowModel", 68, "", []), ("TwinrowModel", 63, "-", [45]), ("TwinrowModel", 109, " ", [32]), ("TwinrowModel", 138, ":", [58]), ("java/util/Iterator", 3, "remove", [114, 101, 109, 111, 118, 101])]
/-- the constants at the law's first state -/
def EC (ev : EvT) : Prop :=
  (∀ k : Nat, k < 256 → AT ev (ev.ad k) (ob 17 [.int (jI ((k : Int) - 128))]) ev.s0.heap) ∧
  va_T (.object "java/lang/Integer") (ev.sc 0) 256 (fun k => .ref (ev.ad k)) (bs ev) ev.s0 ev.s0.heap ∧
  va_Z "java/lang/Integer$IntegerCache" "cache" "[Ljava/lang/Integer;" (.ref (ev.sc 0)) (bs ev) ev.s0 ev.s0.heap ∧
  va_Z "java/lang/Integer$IntegerCache" "high" "I" (.int (jI 127)) (bs ev) ev.s0 ev.s0.heap ∧
  va_Z "java/lang/String" "COMPACT_STRINGS" "Z" (.int (jI 1)) (bs ev) ev.s0 ev.s0.heap ∧
  (va_Z "java/lang/Integer" "DigitOnes" "[B" (.ref (ev.sc 1)) (bs ev) ev.s0 ev.s0.heap ∧ AT ev (ev.sc 1) (arB ev 100 (fun k => ((48 + k % 10 : Nat) : Int))) ev.s0.heap) ∧
  (va_Z "java/lang/Integer" "DigitTens" "[B" (.ref (ev.sc 2)) (bs ev) ev.s0 ev.s0.heap ∧ AT ev (ev.sc 2) (arB ev 100 (fun k => ((48 + k / 10 : Nat) : Int))) ev.s0.heap) ∧
  (va_Z "java/util/ArrayList" "DEFAULTCAPACITY_EMPTY_ELEMENTDATA" "[Ljava/lang/Object;" (.ref (ev.sc 3)) (bs ev) ev.s0 ev.s0.heap ∧ AT ev (ev.sc 3) (arO ev 0 (fun _ => none)) ev.s0.heap) ∧
  va_Z "java/util/Arrays$LegacyMergeSort" "userRequested" "Z" (.int (jI 0)) (bs ev) ev.s0 ev.s0.heap ∧
  va_Z "java/util/TimSort" "$assertionsDisabled" "Z" (.int (jI 1)) (bs ev) ev.s0 ev.s0.heap ∧
  (vx_Zq Bundle.tN "UNASSIGNED_STACK" Bundle.steD (bs ev) ev.s0 ev.s0.heap ∧ vx_Zq Bundle.tN "SUPPRESSED_SENTINEL" Bundle.listD (bs ev) ev.s0 ev.s0.heap) ∧
  (∀ (i : Nat) (q : String × Nat × String × List Nat), sK[i]? = some q → vk_R q.1 q.2.1 q.2.2.1 (ev.sc (10 + i)) ev.s0 ∧ AT ev (ev.sc (10 + i)) (ob 18 [.ref (ev.sc (30 + i)), .int (jI 0)]) ev.s0.heap ∧ AT ev (ev.sc (30 + i)) (arB ev q.2.2.2.length (fun k => ((q.2.2.2.getD k 0 : Nat) : Int))) ev.s0.heap)
/-- what is known of the law's first state -/
def EV (ev : EvT) (b0 : Nat) : Prop := (∀ w ∈ lw_tbl, w.before #[Value.ref b0] ev.s0 = true) ∧ va_K ev.D vwCl (tysA ev) ev.s0 ∧ (Jvm.Cond.and given_1 narrow_1).before #[Value.ref b0] ev.s0 = true ∧ EC ev
def Qc9 (ev : EvT) (A : Nat → Prop) (Qp : Option Value → va_W → Prop) : Array Value → State → Outcome → State → Prop := fun _ st oc t => (∃ (v : Option Value) (w1 : va_W), oc = .returned v ∧ Qp v w1 ∧ PP ev w1 t.heap ∧ va_D A w1) ∧ va_F A st t
def Xc9 (ev : EvT) (A : Nat → Prop) (Xp : String → va_W → Prop) : String → State → State → Prop := fun E st t => (∃ w1 : va_W, Xp E w1 ∧ PP ev w1 t.heap ∧ va_D A w1) ∧ va_F A st t
/-- A METHOD's CONTRACT: 'ro' of the heap at its start, the cells 'own' that it may write; it returns v with the cells w1 (Qp), or throws (Xp) -/
def Ct (ev : EvT) (l : Launch) (y : MethodName) (wd : Cond) (rm : Room) (args : List Value) (ro : Heap → Prop) (own : va_W) (Qp : Option Value → va_W → Prop) (Xp : String → va_W → Prop) : Prop :=
  (∃ b0, EV ev b0) → l.stackTraces = false → ∀ H : Heap, Fz ev H → ro H → PP ev own H → va_D (fun q => ev.s0.heap.size ≤ q) own →
    vx_Met l y (wd :: lw_all) rm (va_Pc args (fun U => ev.s0.WarmedH U.vm ∧ U.heap = H)) (Qc9 ev (va_A own H.size) Qp) (Xc9 ev (va_A own H.size) Xp) rm.cells rm.slots (va_A own H.size)
def nX : String → va_W → Prop := fun _ _ => False
/-- what holds all through a method's run -/
def CX (ev : EvT) (f : FxT) (cc : ByteArray) (nL : Nat) (C : String) (rt : Option FieldType) (rm : Room) : Prop :=
  (f.p.tables.exec = Jvm.exec ∧ f.c.code = cc ∧ f.c.maxLocals = nL ∧ f.s.vm.findClass C = some f.m.cls ∧ ∀ w ∈ lw_all, w.before f.args f.s = true) ∧ f.meth.locks = false ∧ f.meth.sig.returnType = rt ∧ f.R = rm ∧ ev.s0.WarmedH f.s.vm ∧ f.s.heap = f.H0 ∧ Fz ev f.H0 ∧
  (∀ q, f.H0.size ≤ q → f.A q) ∧ (∀ q, f.A q → ev.s0.heap.size ≤ q) ∧ f.l.stackTraces = false ∧ (∃ b0, EV ev b0)
section CXR
variable {ev : EvT} {f : FxT} {cc : ByteArray} {nL : Nat} {C : String} {rt : Option FieldType} {rm : Room}
theorem CX.fix (h : CX ev f cc nL C rt rm) : CallFix f.p f.m f.c cc nL f.s f.args lw_all C := h.1
theorem CX.x (h : CX ev f cc nL C rt rm) : f.p.tables.exec = Jvm.exec := h.1.1
theorem CX.b (h : CX ev f cc nL C rt rm) : f.c.code = cc := h.1.2.1
theorem CX.ml (h : CX ev f cc nL C rt rm) : f.c.maxLocals = nL := h.1.2.2.1
theorem CX.own (h : CX ev f cc nL C rt rm) : f.s.vm.findClass C = some f.m.cls := h.1.2.2.2.1
theorem CX.ts (h : CX ev f cc nL C rt rm) : ∀ w ∈ lw_all, w.before f.args f.s = true := h.1.2.2.2.2
theorem CX.locks (h : CX ev f cc nL C rt rm) : f.meth.locks = false := h.2.1
theorem CX.ret (h : CX ev f cc nL C rt rm) : f.meth.sig.returnType = rt := h.2.2.1
theorem CX.room (h : CX ev f cc nL C rt rm) : f.R = rm := h.2.2.2.1
theorem CX.warm (h : CX ev f cc nL C rt rm) : ev.s0.WarmedH f.s.vm := h.2.2.2.2.1
theorem CX.heap (h : CX ev f cc nL C rt rm) : f.s.heap = f.H0 := h.2.2.2.2.2.1
theorem CX.fz (h : CX ev f cc nL C rt rm) : Fz ev f.H0 := h.2.2.2.2.2.2.1
theorem CX.new (h : CX ev f cc nL C rt rm) : ∀ q, f.H0.size ≤ q → f.A q := h.2.2.2.2.2.2.2.1
theorem CX.base (h : CX ev f cc nL C rt rm) : ∀ q, f.A q → ev.s0.heap.size ≤ q := h.2.2.2.2.2.2.2.2.1
theorem CX.notr (h : CX ev f cc nL C rt rm) : f.l.stackTraces = false := h.2.2.2.2.2.2.2.2.2.1
theorem CX.E (h : CX ev f cc nL C rt rm) : ∃ b0, EV ev b0 := h.2.2.2.2.2.2.2.2.2.2
theorem CX.c (h : CX ev f cc nL C rt rm) : EC ev := by
  obtain ⟨b0, hE⟩ := h.E
  exact hE.2.2.2
theorem CX.K (h : CX ev f cc nL C rt rm) : va_K ev.D vwCl (tysA ev) f.s := by
  obtain ⟨b0, hE⟩ := h.E
  exact va_K.moved (U := f.s) h.warm.alike hE.2.1
theorem CX.fzH (h : CX ev f cc nL C rt rm) {H : Heap} {locs : List Loc} (hS : va_S f.A f.H0 H locs) : Fz ev H :=
  ⟨Nat.le_trans h.fz.1 hS.1, fun q hq => (hS.2.1 q (Nat.lt_of_lt_of_le hq h.fz.1) (fun hA => absurd (h.base q hA) (by omega))).trans (h.fz.2 q hq)⟩
/-- a word of the tables that holds at the law's first state and rides -/
theorem CX.word (h : CX ev f cc nL C rt rm) {w : Cond} {a : Array Value} (hw : w.before a ev.s0 = true) (hg : goodWord w = true) : w.before f.args f.s = true := word_at h.warm (good_of_word hg) hw
end CXR
/-- a cell that can be read -/
def RD (ev : EvT) (f : FxT) (own : va_W) (a : Nat) (e : va_E) : Prop := ∀ (H : Heap) (locs : List Loc), PP ev own H → va_S f.A f.H0 H locs → AT ev a e H
theorem RD.own {ev : EvT} {f : FxT} {own : va_W} {a : Nat} {e : va_E} (q0 : Nat) (h : own[q0]? = some (a, e)) : RD ev f own a e := fun _ _ hP _ => AT.of (hP q0 _ h)
theorem RD.ro {ev : EvT} {f : FxT} {a : Nat} {e : va_E} (h : AT ev a e f.H0) (hn : ¬ f.A a) (own : va_W) : RD ev f own a e := fun _ _ _ hS => h.kept (hS.2.1 a h.lt hn)
theorem RD.nil {ev : EvT} {f : FxT} {a : Nat} {e : va_E} (hA : f.A = va_A [] f.H0.size) (h : AT ev a e f.H0) (own : va_W) : RD ev f own a e := RD.ro h (fun q => by
  rw [hA] at q
  rcases q with ⟨k, e9, q⟩ | q
  · cases q
  · have h1 : a < f.H0.size := h.lt
    omega) own
theorem RD.ne {ev : EvT} {f : FxT} {a : Nat} {e : va_E} {w0 : va_W} (hA : f.A = va_A w0 f.H0.size) (h : AT ev a e f.H0) (hne : ∀ q ∈ w0, q.1 ≠ a) (own : va_W) : RD ev f own a e := RD.ro h (fun q => by
  rw [hA] at q
  rcases q with ⟨k, e9, q⟩ | q
  · exact hne _ (List.mem_of_getElem? q) rfl
  · have h1 : a < f.H0.size := h.lt
    omega) own
theorem RD.fz {ev : EvT} {f : FxT} {a : Nat} {e : va_E} {cc : ByteArray} {nL : Nat} {C : String} {rt : Option FieldType} {rm : Room} (cx : CX ev f cc nL C rt rm) (h : AT ev a e ev.s0.heap) (own : va_W) : RD ev f own a e := fun _ _ _ hS => h.kept ((cx.fzH hS).2 a h.lt)
/-- what may be asked of the heap as it stands -/
def PC (ev : EvT) (f : FxT) (own : va_W) (ro : Heap → Prop) : Prop := ∀ (H : Heap) (locs : List Loc), PP ev own H → va_S f.A f.H0 H locs → ro H
theorem PC.no {ev : EvT} {f : FxT} {own : va_W} : PC ev f own (fun _ => True) := fun _ _ _ _ => trivial
theorem PC.and {ev : EvT} {f : FxT} {own : va_W} {a : Nat} {e : va_E} {ro : Heap → Prop} (h : RD ev f own a e) (g : PC ev f own ro) : PC ev f own (fun H => AT ev a e H ∧ ro H) := fun H locs hP hS => ⟨h H locs hP hS, g H locs hP hS⟩
theorem PC.one {ev : EvT} {f : FxT} {own : va_W} {a : Nat} {e : va_E} (h : RD ev f own a e) : PC ev f own (fun H => AT ev a e H) := h
theorem PC.p {ev : EvT} {f : FxT} {own : va_W} {P : Prop} {ro : Heap → Prop} (h : P) (g : PC ev f own ro) : PC ev f own (fun H => P ∧ ro H) := fun H locs hP hS => ⟨h, g H locs hP hS⟩
abbrev QQ (ev : EvT) (f : FxT) (Qp : Option Value → va_W → Prop) (Xp : String → va_W → Prop) : State → Prop := vx_MQ f.below (Qc9 ev f.A Qp) (Xc9 ev f.A Xp) f.args f.s f.R.cells f.R.slots f.A
/-- THE JUDGEMENT: from the owned cells, the locals, the stack, the place in the code, with kc cells and ks slots still to spend -/
def WG (ev : EvT) (f : FxT) (nL : Nat) (Q : State → Prop) (own : va_W) (lv : List (Nat × Value)) (st : List Value) (pc kc ks : Nat) : Prop :=
  ∀ (H : Heap) (locs : List Loc) (ls : Array Slot) (cells slots : Nat), cells + kc ≤ f.R.cells → slots + ks ≤ f.R.slots → PP ev own H → va_D f.A own → va_S f.A f.H0 H locs → lv_has ls nL lv →
    W f.p f.l f.e f.R f.s f.m f.args f.below f.meth f.c H locs cells slots Q (F0 f.m pc ls st)
def WX (ev : EvT) (f : FxT) (nL : Nat) (Q : State → Prop) (own : va_W) (lv : List (Nat × Value)) (E : String) (st : List Value) (pc kc ks : Nat) : Prop :=
  ∀ (H : Heap) (locs : List Loc) (ls : Array Slot) (cells slots : Nat) (q : Nat) (ce : Cell), cells + kc ≤ f.R.cells → slots + ks ≤ f.R.slots → PP ev own H → va_D f.A own → va_S f.A f.H0 H locs → lv_has ls nL lv → H[q]? = some ce → ce.vm = .none → f.s.vm.findClass E = some ce.cls →
    vx_W f.p f.l f.e f.R f.s f.m f.args f.below f.meth f.c H locs cells slots Q (F0 f.m pc ls st) q
