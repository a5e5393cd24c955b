/-! MY BASE 10: constants, shifts, remainders; a symbolic tail of the owned cells -/
set_option maxRecDepth 100000
section WGB
variable {ev : EvT} {f : FxT} {nL : Nat} {Q : State → Prop} {own : va_W} {lv : List (Nat × Value)} {st : List Value} {pc kc ks : Nat} {cc : ByteArray} {C : String} {rt : Option FieldType} {rm : Room}
theorem wg_ldcI (cx : CX ev f cc nL C rt rm) {index : Nat} {v : Int32} {z : Int} (hq : Cond.constant C index v ∈ lw_all) (hz : v = jI z) (hd : decode cc pc = .ok (.ldc index, 2)) (k : WG ev f nL Q own lv (.int (jI z) :: st) (pc + 2) kc ks) : WG ev f nL Q own lv st pc kc ks := by
  subst hz
  exact fun H locs ls cells slots h1 h2 hP hD hS hl => lv_ldc cx.x cx.b cx.own (cx.ts _ hq) hd (k H locs ls cells slots h1 h2 hP hD hS hl)
theorem wg_ldcL (cx : CX ev f cc nL C rt rm) {index : Nat} {v : Int64} {z : Int} (hq : Cond.constantLong C index v ∈ lw_all) (hz : v = lI z) (hd : decode cc pc = .ok (.ldc2_w index, 3)) (k : WG ev f nL Q own lv (.long (lI z) :: st) (pc + 3) kc ks) : WG ev f nL Q own lv st pc kc ks := by
  subst hz
  exact fun H locs ls cells slots h1 h2 hP hD hS hl => lv_ldc2 cx.x cx.b cx.own (cx.ts _ hq) hd (k H locs ls cells slots h1 h2 hP hD hS hl)
theorem jI_tmod {a b : Int} (h : (-2147483648 < a ∧ a < 2147483648) ∧ 0 < b ∧ b < 2147483648) : jI a - jI a / jI b * jI b = jI (a.tmod b) := by
  rw [jI_tdiv h, jI_mul, jI_sub, Int.tmod_def, Int.mul_comm]
theorem wg_irem (cx : CX ev f cc nL C rt rm) {a b : Int} (h : (-2147483648 < a ∧ a < 2147483648) ∧ 0 < b ∧ b < 2147483648) (hd : decode cc pc = .ok (.irem, 1)) (k : WG ev f nL Q own lv (.int (jI (a.tmod b)) :: st) (pc + 1) kc ks) : WG ev f nL Q own lv (.int (jI b) :: .int (jI a) :: st) pc kc ks := by
  rw [← jI_tmod h] at k
  refine fun H locs ls cells slots h1 h2 hP hD hS hl => lv_irem cx.x cx.b hd ?_ (k H locs ls cells slots h1 h2 hP hD hS hl)
  rw [jI_0, jI_inj (by omega)]
  omega
theorem wg_idiv (cx : CX ev f cc nL C rt rm) {a b : Int} (h : (-2147483648 < a ∧ a < 2147483648) ∧ 0 < b ∧ b < 2147483648) (hd : decode cc pc = .ok (.idiv, 1)) (k : WG ev f nL Q own lv (.int (jI (a.tdiv b)) :: st) (pc + 1) kc ks) : WG ev f nL Q own lv (.int (jI b) :: .int (jI a) :: st) pc kc ks := by
  rw [← jI_tdiv h] at k
  refine fun H locs ls cells slots h1 h2 hP hD hS hl => lv_idiv cx.x cx.b hd ?_ (k H locs ls cells slots h1 h2 hP hD hS hl)
  rw [jI_0, jI_inj (by omega)]
  omega
theorem wg_ishr0 (cx : CX ev f cc nL C rt rm) {x : Int32} (hd : decode cc pc = .ok (.ishr, 1)) (k : WG ev f nL Q own lv (.int x :: st) (pc + 1) kc ks) : WG ev f nL Q own lv (.int (jI 0) :: .int x :: st) pc kc ks := by
  rw [← sb_shr0 x] at k
  exact fun H locs ls cells slots h1 h2 hP hD hS hl => lv_ishr cx.x cx.b hd (k H locs ls cells slots h1 h2 hP hD hS hl)
theorem wg_ishr1 (cx : CX ev f cc nL C rt rm) {n : Nat} (hn : n < 2147483648) (hd : decode cc pc = .ok (.ishr, 1)) (k : WG ev f nL Q own lv (.int (jI ((n / 2 : Nat) : Int)) :: st) (pc + 1) kc ks) : WG ev f nL Q own lv (.int (jI 1) :: .int (jI (n : Int)) :: st) pc kc ks := by
  have e : jI (n : Int) >>> (jI 1 &&& 31) = jI ((n / 2 : Nat) : Int) := by
    rw [jI_nat, jI_nat]
    exact pk_shrN (by omega) _ 1 (by decide)
  rw [← e] at k
  exact fun H locs ls cells slots h1 h2 hP hD hS hl => lv_ishr cx.x cx.b hd (k H locs ls cells slots h1 h2 hP hD hS hl)
theorem wg_iushr1 (cx : CX ev f cc nL C rt rm) {n : Nat} (hn : n < 2147483648) (hd : decode cc pc = .ok (.iushr, 1)) (k : WG ev f nL Q own lv (.int (jI ((n / 2 : Nat) : Int)) :: st) (pc + 1) kc ks) : WG ev f nL Q own lv (.int (jI 1) :: .int (jI (n : Int)) :: st) pc kc ks := by
  have e : ((jI (n : Int)).toUInt32 >>> ((jI 1).toUInt32 &&& Int32.toUInt32 31)).toInt32 = jI ((n / 2 : Nat) : Int) := by
    rw [jI_nat, jI_nat]
    exact pk_ushrN (by omega) _ 1 (by decide)
  exact fun H locs ls cells slots h1 h2 hP hD hS hl => lv_iushr cx.x cx.b hd e (k H locs ls cells slots h1 h2 hP hD hS hl)
theorem wg_ishl0 (cx : CX ev f cc nL C rt rm) {x : Int32} (hd : decode cc pc = .ok (.ishl, 1)) (k : WG ev f nL Q own lv (.int x :: st) (pc + 1) kc ks) : WG ev f nL Q own lv (.int (jI 0) :: .int x :: st) pc kc ks := by
  have e : x <<< (jI 0 &&& 31) = x := by
    have h0 : (jI 0 &&& 31 : Int32) = 0 := by decide
    rw [h0, Int32.shiftLeft_zero]
  rw [← e] at k
  exact fun H locs ls cells slots h1 h2 hP hD hS hl => lv_ishl cx.x cx.b hd (k H locs ls cells slots h1 h2 hP hD hS hl)
-- longs compared
theorem wg_lcmp (cx : CX ev f cc nL C rt rm) {x y : Int64} (hd : decode cc pc = .ok (.lcmp, 1)) (k : WG ev f nL Q own lv (.int (lg_cmp x y) :: st) (pc + 1) kc ks) : WG ev f nL Q own lv (.long y :: .long x :: st) pc kc ks :=
  fun H locs ls cells slots h1 h2 hP hD hS hl => W.lcmp cx.x cx.b hd (k H locs ls cells slots h1 h2 hP hD hS hl)
theorem lg_cmp_0 {x y : Int64} : lg_cmp x y = 0 ↔ x = y := by
  unfold lg_cmp
  by_cases h1 : y < x
  · simp only [h1, if_true]
    constructor
    · intro h; exact absurd h (by decide)
    · intro h; subst h; exact absurd h1 (Int64.lt_irrefl)
  · by_cases h2 : x = y
    · simp [h2, Int64.lt_irrefl]
    · simp [h1, h2]
-- PERMUTED OWNED CELLS
theorem pp_perm {w w' : va_W} {H : Heap} (hp : w.Perm w') (h : PP ev w H) : PP ev w' H := by
  intro k q hk
  obtain ⟨i, hi, he⟩ := List.mem_iff_getElem.mp (hp.mem_iff.mpr (List.mem_of_getElem? hk))
  exact h i q (by rw [List.getElem?_eq_getElem hi, he])
theorem vd_nodup {A : Nat → Prop} {w : va_W} : va_D A w ↔ (w.map (·.1)).Nodup ∧ ∀ q ∈ w, A q.1 := by
  constructor
  · intro h
    refine ⟨List.pairwise_iff_getElem.mpr ?_, fun q hq => ?_⟩
    · intro i j hi hj hij he
      have hj' : j < w.length := by simpa using hj
      have hi' : i < w.length := by omega
      have e : (w[i]'hi').1 = (w[j]'hj').1 := by simpa using he
      have := h.1 i j _ _ (List.getElem?_eq_getElem hi') (List.getElem?_eq_getElem hj') e
      omega
    · obtain ⟨i, hi, he⟩ := List.mem_iff_getElem.mp hq
      exact h.2 i q (by rw [List.getElem?_eq_getElem hi, he])
  · rintro ⟨h1, h2⟩
    refine ⟨fun i j p q hi hj e => ?_, fun k q hk => h2 q (List.mem_of_getElem? hk)⟩
    have a1 : (w.map (·.1))[i]? = some p.1 := by rw [List.getElem?_map, hi]; rfl
    have a2 : (w.map (·.1))[j]? = some p.1 := by rw [List.getElem?_map, hj, e]; rfl
    exact (List.getElem?_inj (by exact (List.getElem?_eq_some_iff.mp a1).1) h1).mp (a1.trans a2.symm)
theorem vd_perm {A : Nat → Prop} {w w' : va_W} (hp : w.Perm w') (h : va_D A w) : va_D A w' := by
  rw [vd_nodup] at h ⊢
  exact ⟨(hp.map _).nodup_iff.mp h.1, fun q hq => h.2 q (hp.mem_iff.mpr hq)⟩
theorem wg_perm {own9 : va_W} (hp : own.Perm own9) (k : WG ev f nL Q own9 lv st pc kc ks) : WG ev f nL Q own lv st pc kc ks :=
  fun H locs ls cells slots h1 h2 hP hD hS hl => k H locs ls cells slots h1 h2 (pp_perm hp hP) (vd_perm hp hD) hS hl
theorem wx_perm {own9 : va_W} {E : String} (hp : own.Perm own9) (k : WX ev f nL Q own9 lv E st pc kc ks) : WX ev f nL Q own lv E st pc kc ks :=
  fun H locs ls cells slots q ce h1 h2 hP hD hS hl hq hv hE => k H locs ls cells slots q ce h1 h2 (pp_perm hp hP) (vd_perm hp hD) hS hl hq hv hE
/-- the tail behind what is new -/
theorem perm_tail {o0 t n : va_W} : ((o0 ++ t) ++ n).Perm ((o0 ++ n) ++ t) := by
  rw [List.append_assoc, List.append_assoc]
  exact List.Perm.append_left _ List.perm_append_comm
theorem wg_tail {o0 t n : va_W} (k : WG ev f nL Q ((o0 ++ n) ++ t) lv st pc kc ks) : WG ev f nL Q ((o0 ++ t) ++ n) lv st pc kc ks := wg_perm perm_tail k
theorem sub_tail {is : List Nat} {o0 o1 t : va_W} (h : is.map (fun i => o0[i]?) = o1.map some) : is.map (fun i => (o0 ++ t)[i]?) = o1.map some := by
  rw [← h]
  refine List.map_congr_left fun i hi => ?_
  have h2 : o0[i]? ∈ o1.map some := by rw [← h]; exact List.mem_map_of_mem hi
  obtain ⟨x, -, hx⟩ := List.mem_map.mp h2
  rw [List.getElem?_append_left (List.getElem?_eq_some_iff.mp hx.symm).1]
theorem rng_tail (o0 t : va_W) : ((List.range t.length).map (o0.length + ·)).map (fun i => (o0 ++ t)[i]?) = t.map some := by
  apply List.ext_getElem?
  intro i
  simp only [List.getElem?_map, List.map_map]
  by_cases hi : i < t.length
  · rw [List.getElem?_range hi]
    simp [List.getElem?_append_right, List.getElem?_eq_getElem hi]
  · rw [List.getElem?_eq_none (by simpa using hi), List.getElem?_eq_none (by simpa using hi)]
    rfl
theorem nd_iff : ∀ (l : List Nat), va_nd l = true ↔ l.Nodup
  | [] => by simp [va_nd]
  | a :: l => by simp [va_nd, nd_iff l]
theorem nd_tail {is : List Nat} {o0 o1 t : va_W} (h : is.map (fun i => o0[i]?) = o1.map some) (hn : va_nd is = true) : va_nd (is ++ (List.range t.length).map (o0.length + ·)) = true := by
  rw [nd_iff] at hn ⊢
  rw [List.nodup_append]
  refine ⟨hn, ?_, ?_⟩
  · exact List.pairwise_map.mpr (List.Pairwise.imp (fun h9 h8 => h9 (by omega)) (List.nodup_range (n := t.length)))
  · intro a ha b hb he
    obtain ⟨c, -, rfl⟩ := List.mem_map.mp hb
    have h2 : o0[a]? ∈ o1.map some := by rw [← h]; exact List.mem_map_of_mem ha
    obtain ⟨x, -, hx⟩ := List.mem_map.mp h2
    have := (List.getElem?_eq_some_iff.mp hx.symm).1
    omega
/-- a call that leaves the tail alone -/
theorem wg_callXT (cx : CX ev f cc nL C rt rm) {len : Nat} {o0 t wc wr : va_W} {rm1 : Room} {st0 rest : List Value} {Qp1 : Option Value → va_W → Prop} {Xp1 : String → va_W → Prop} (hcr : CR ev f len (o0 ++ t) wc nL rm1 st0 rest pc Qp1 Xp1) (isC isR : List Nat) (hC : isC.map (fun i => o0[i]?) = wc.map some) (hR : isR.map (fun i => o0[i]?) = wr.map some) (hnd : va_nd isC = true ∧ va_nd isR = true) (hdis : ∀ i ∈ isR, i ∉ isC)
    (kx : ∀ (E : String) (w1 : va_W), Xp1 E w1 → WX ev f nL Q ((wr ++ w1) ++ t) lv E rest pc kc ks)
    (kk : ∀ (v : Option Value) (w1 : va_W), Qp1 v w1 → WG ev f nL Q ((wr ++ w1) ++ t) lv (v.toList ++ rest) (pc + len) kc ks) : WG ev f nL Q (o0 ++ t) lv st0 pc (kc + rm1.cells) (ks + rm1.slots) := by
  refine wg_callX cx (wr := wr ++ t) hcr isC (isR ++ (List.range t.length).map (o0.length + ·)) (sub_tail hC) ?_ ⟨hnd.1, nd_tail hR hnd.2⟩ ?_ (fun E w1 h => wx_perm perm_tail (kx E w1 h)) (fun v w1 h => wg_perm perm_tail (kk v w1 h))
  · rw [List.map_append, List.map_append, sub_tail hR, rng_tail]
  · intro i hi hc
    rcases List.mem_append.mp hi with h | h
    · exact hdis i h hc
    · obtain ⟨c, -, rfl⟩ := List.mem_map.mp h
      have h2 : o0[o0.length + c]? ∈ wc.map some := by rw [← hC]; exact List.mem_map_of_mem hc
      obtain ⟨x, -, hx⟩ := List.mem_map.mp h2
      have := (List.getElem?_eq_some_iff.mp hx.symm).1
      omega
theorem wg_callT (cx : CX ev f cc nL C rt rm) {len : Nat} {o0 t wc wr : va_W} {rm1 : Room} {st0 rest : List Value} {Qp1 : Option Value → va_W → Prop} (hcr : CR ev f len (o0 ++ t) wc nL rm1 st0 rest pc Qp1 nX) (isC isR : List Nat) (hC : isC.map (fun i => o0[i]?) = wc.map some) (hR : isR.map (fun i => o0[i]?) = wr.map some) (hnd : va_nd isC = true ∧ va_nd isR = true) (hdis : ∀ i ∈ isR, i ∉ isC)
    (kk : ∀ (v : Option Value) (w1 : va_W), Qp1 v w1 → WG ev f nL Q ((wr ++ w1) ++ t) lv (v.toList ++ rest) (pc + len) kc ks) : WG ev f nL Q (o0 ++ t) lv st0 pc (kc + rm1.cells) (ks + rm1.slots) :=
  wg_callXT cx hcr isC isR hC hR hnd hdis (fun _ _ h => h.elim) kk
/-- a call that takes the tail too -/
theorem wg_callXU (cx : CX ev f cc nL C rt rm) {len : Nat} {o0 t wc wr : va_W} {rm1 : Room} {st0 rest : List Value} {Qp1 : Option Value → va_W → Prop} {Xp1 : String → va_W → Prop} (hcr : CR ev f len (o0 ++ t) (wc ++ t) nL rm1 st0 rest pc Qp1 Xp1) (isC isR : List Nat) (hC : isC.map (fun i => o0[i]?) = wc.map some) (hR : isR.map (fun i => o0[i]?) = wr.map some) (hnd : va_nd isC = true ∧ va_nd isR = true) (hdis : ∀ i ∈ isR, i ∉ isC)
    (kx : ∀ (E : String) (w1 : va_W), Xp1 E w1 → WX ev f nL Q (wr ++ w1) lv E rest pc kc ks)
    (kk : ∀ (v : Option Value) (w1 : va_W), Qp1 v w1 → WG ev f nL Q (wr ++ w1) lv (v.toList ++ rest) (pc + len) kc ks) : WG ev f nL Q (o0 ++ t) lv st0 pc (kc + rm1.cells) (ks + rm1.slots) := by
  refine wg_callX cx (wr := wr) hcr (isC ++ (List.range t.length).map (o0.length + ·)) isR ?_ (sub_tail hR) ⟨nd_tail hC hnd.1, hnd.2⟩ ?_ kx kk
  · rw [List.map_append, List.map_append, sub_tail hC, rng_tail]
  · intro i hi hc
    rcases List.mem_append.mp hc with h | h
    · exact hdis i hi h
    · obtain ⟨c, -, rfl⟩ := List.mem_map.mp h
      have h2 : o0[o0.length + c]? ∈ wr.map some := by rw [← hR]; exact List.mem_map_of_mem hi
      obtain ⟨x, -, hx⟩ := List.mem_map.mp h2
      have := (List.getElem?_eq_some_iff.mp hx.symm).1
      omega
theorem wg_callU (cx : CX ev f cc nL C rt rm) {len : Nat} {o0 t wc wr : va_W} {rm1 : Room} {st0 rest : List Value} {Qp1 : Option Value → va_W → Prop} (hcr : CR ev f len (o0 ++ t) (wc ++ t) nL rm1 st0 rest pc Qp1 nX) (isC isR : List Nat) (hC : isC.map (fun i => o0[i]?) = wc.map some) (hR : isR.map (fun i => o0[i]?) = wr.map some) (hnd : va_nd isC = true ∧ va_nd isR = true) (hdis : ∀ i ∈ isR, i ∉ isC)
    (kk : ∀ (v : Option Value) (w1 : va_W), Qp1 v w1 → WG ev f nL Q (wr ++ w1) lv (v.toList ++ rest) (pc + len) kc ks) : WG ev f nL Q (o0 ++ t) lv st0 pc (kc + rm1.cells) (ks + rm1.slots) :=
  wg_callXU cx hcr isC isR hC hR hnd hdis (fun _ _ h => h.elim) kk
theorem RD.tl {a : Nat} {e : va_E} {t : va_W} {j : Nat} (h : t[j]? = some (a, e)) (o0 : va_W) : RD ev f (o0 ++ t) a e := RD.own (o0.length + j) (by rw [List.getElem?_append_right (by omega)]; simpa using h)
theorem wg_ownT {o0 o9 t : va_W} (is : List Nat) (h : is.map (fun i => o0[i]?) = o9.map some) (hn : va_nd is = true) (k : WG ev f nL Q (o9 ++ t) lv st pc kc ks) : WG ev f nL Q (o0 ++ t) lv st pc kc ks :=
  wg_own (is ++ (List.range t.length).map (o0.length + ·)) (by rw [List.map_append, List.map_append, sub_tail h, rng_tail]) (nd_tail h hn) k
theorem wx_ownT {o0 o9 t : va_W} {E : String} (is : List Nat) (h : is.map (fun i => o0[i]?) = o9.map some) (hn : va_nd is = true) (k : WX ev f nL Q (o9 ++ t) lv E st pc kc ks) : WX ev f nL Q (o0 ++ t) lv E st pc kc ks :=
  wx_own (is ++ (List.range t.length).map (o0.length + ·)) (by rw [List.map_append, List.map_append, sub_tail h, rng_tail]) (nd_tail h hn) k
end WGB
/-- the parts that a part was made of -/
def Chn (w : va_W) (t : Nat) : Nat → Option Nat → Prop
  | 0, p => p = none
  | k + 1, p => ∃ (j a : Nat) (p' : Option Nat) (o n : Nat), p = some a ∧ w[j]? = some (a, ob 4 [.int (jI 0), .ref t, va_rf p', .int (jI o), .int (jI n)]) ∧ Chn w t k p'
theorem Chn.app {w : va_W} {t : Nat} (x : va_W) : ∀ {k : Nat} {p : Option Nat}, Chn w t k p → Chn (x ++ w) t k p
  | 0, _, h => h
  | _ + 1, _, ⟨j, a, p', o, n, h1, h2, h3⟩ => ⟨x.length + j, a, p', o, n, h1, by rw [List.getElem?_append_right (by omega)]; simpa using h2, Chn.app x h3⟩
