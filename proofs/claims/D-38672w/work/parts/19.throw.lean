/-! MY BASE 9: throwing -/
set_option maxRecDepth 100000
def okW (w : Cond) : Bool := goodWord w || (match w with | .castable _ _ => true | _ => false)
section WGT
variable {ev : EvT} {f : FxT} {nL : Nat} {own : va_W} {lv : List (Nat × Value)} {st : List Value} {pc kc ks : Nat} {cc : ByteArray} {C : String} {rt : Option FieldType} {rm : Room}
theorem cx_ok (cx : CX ev f cc nL C rt rm) {w : Cond} (hm : w ∈ lw_tbl) (hg : okW w = true) : w.before f.args f.s = true := by
  obtain ⟨b0, hE⟩ := cx.E
  unfold okW at hg
  rw [Bool.or_eq_true] at hg
  rcases hg with hg | hg
  · exact cx.word (hE.1 _ hm) hg
  · cases w <;> first | exact (cx_cast cx hm).use rfl | exact absurd hg (by simp)
theorem cx_zq (cx : CX ev f cc nL C rt rm) {a b d : String} (h : vx_Zq a b d (bs ev) ev.s0 ev.s0.heap) : vx_Zq a b d f.A f.s f.s.heap := by
  rw [cx.heap]
  exact vx_Zq.kept (vx_Zq.narrow (vx_Zq.moved (U := f.s) cx.warm.alike h) (fun q z => cx.base q z)) (fun a ha _ => cx.fz.2 a ha)
theorem cx_thrown (cx : CX ev f cc nL C rt rm) {Xp : String → va_W → Prop} {E : String} {H : Heap} {locs : List Loc} (hP : PP ev own H) (hD : va_D f.A own) (hS : va_S f.A f.H0 H locs) (hx : Xp E own) : ∀ t : State, f.s.vm.Alike t.vm → H.size ≤ t.heap.size → (∀ q : Nat, q < H.size → t.heap[q]? = H[q]?) → Xc9 ev f.A Xp E f.s t := by
  intro t _ hz hq
  refine ⟨⟨own, hx, va_P.kept hP (fun k q hk => hq q.1 ((hP k q hk).lt)), hD⟩, ?_, ?_⟩
  · rw [cx.heap]; exact Nat.le_trans hS.1 hz
  · intro q h1 h2
    rw [cx.heap] at h1 ⊢
    rw [hq q (Nat.lt_of_lt_of_le h1 hS.1)]
    exact hS.2.1 q h1 h2
/-- throw new E() -/
theorem wg_throw0 {Qp : Option Value → va_W → Prop} {Xp : String → va_W → Prop} (cx : CX ev f cc nL C rt rm) (cls : String) (names : List String) {ik ic : Nat} (hfit : Bundle.fit cls = true ∧ names.all (fun n => Bundle.fit n) = true)
    (hm : ∀ w ∈ Cond.classLink C ik cls :: Cond.initialized cls :: vx_at0 C ic cls names, w ∈ lw_tbl) (ho : (Cond.classLink C ik cls :: Cond.initialized cls :: vx_at0 C ic cls names).all okW = true) (hg : (Cond.classLink C ik cls :: Cond.initialized cls :: vx_at0 C ic cls names).all vx_ot = true)
    (d0 : decode cc pc = .ok (.new ik, 3)) (d3 : decode cc (pc + 3) = .ok (.dup, 1)) (d4 : decode cc (pc + 4) = .ok (.invokespecial ic, 3)) (d7 : decode cc (pc + 7) = .ok (.athrow, 1))
    (hout : ∀ x ∈ f.c.exceptionTable.toList, covers x (pc + 7) = false) (hR : names.length + 3 < rm.frames ∧ (st.map fun v => v.category).sum + (13 * (names.length + 1) + 42) ≤ rm.locals) (hx : Xp cls own) : WG ev f nL (QQ ev f Qp Xp) own lv st pc (kc + 1) (ks + 6) := by
  intro H locs ls cells slots h1 h2 hP hD hS hl
  have ok : ∀ w ∈ Cond.classLink C ik cls :: Cond.initialized cls :: vx_at0 C ic cls names, w.before f.args f.s = true := fun w h => cx_ok cx (hm w h) (List.all_eq_true.mp ho w h)
  exact vx_throw0 cx.x cx.b cx.notr cx.own hfit.1 (fun n hn => List.all_eq_true.mp hfit.2 n hn) (ok _ List.mem_cons_self) (ok _ (List.mem_cons_of_mem _ List.mem_cons_self)) (fun w h => ok w (List.mem_cons_of_mem _ (List.mem_cons_of_mem _ h))) (fun w h => List.all_eq_true.mp hg w h)
    (cx_zq cx cx.c.2.2.2.2.2.2.2.2.2.2.1.1) (cx_zq cx cx.c.2.2.2.2.2.2.2.2.2.2.1.2) (by rw [cx.heap]; exact hS) (by rw [cx.ml]; exact hl.1) d0 d3 d4 d7 hout (by rw [cx.room]; exact hR.1) (by rw [cx.room]; exact hR.2) (by omega) (by omega) cx.locks (cx_thrown cx hP hD hS hx) hS.2.2 (by omega) (by omega)
/-- throw new E(text) -/
theorem wg_throwS {Qp : Option Value → va_W → Prop} {Xp : String → va_W → Prop} (cx : CX ev f cc nL C rt rm) (cls : String) (names : List String) {ik ic is : Nat} (hfit : Bundle.fit cls = true ∧ names.all (fun n => Bundle.fit n) = true)
    (i : Nat) {q : String × Nat × String × List Nat} (hq : sK[i]? = some q) (hC : q.1 = C ∧ q.2.1 = is)
    (hm : ∀ w ∈ Cond.classLink C ik cls :: Cond.initialized cls :: vx_atS C ic cls names, w ∈ lw_tbl) (ho : (Cond.classLink C ik cls :: Cond.initialized cls :: vx_atS C ic cls names).all okW = true) (hg : (Cond.classLink C ik cls :: Cond.initialized cls :: vx_atS C ic cls names).all vx_ot = true)
    (d0 : decode cc pc = .ok (.new ik, 3)) (d3 : decode cc (pc + 3) = .ok (.dup, 1)) (d4 : decode cc (pc + 4) = .ok (.ldc is, 2)) (d6 : decode cc (pc + 6) = .ok (.invokespecial ic, 3)) (d9 : decode cc (pc + 9) = .ok (.athrow, 1))
    (hout : ∀ x ∈ f.c.exceptionTable.toList, covers x (pc + 9) = false) (hR : names.length + 3 < rm.frames ∧ (st.map fun v => v.category).sum + (13 * (names.length + 1) + 43) ≤ rm.locals) (hx : Xp cls own) : WG ev f nL (QQ ev f Qp Xp) own lv st pc (kc + 1) (ks + 6) := by
  obtain ⟨rfl, rfl⟩ := hC
  intro H locs ls cells slots h1 h2 hP hD hS hl
  have ok : ∀ w ∈ Cond.classLink q.1 ik cls :: Cond.initialized cls :: vx_atS q.1 ic cls names, w.before f.args f.s = true := fun w h => cx_ok cx (hm w h) (List.all_eq_true.mp ho w h)
  have hR9 := (cx.c.2.2.2.2.2.2.2.2.2.2.2 i q hq).1
  exact vx_throwS cx.x cx.b cx.notr cx.own hfit.1 (fun n hn => List.all_eq_true.mp hfit.2 n hn) (ok _ List.mem_cons_self) (ok _ (List.mem_cons_of_mem _ List.mem_cons_self)) (vk_R.warm cx.warm hR9) (fun w h => ok w (List.mem_cons_of_mem _ (List.mem_cons_of_mem _ h))) (fun w h => List.all_eq_true.mp hg w h)
    (cx_zq cx cx.c.2.2.2.2.2.2.2.2.2.2.1.1) (cx_zq cx cx.c.2.2.2.2.2.2.2.2.2.2.1.2) (by rw [cx.heap]; exact hS) (by rw [cx.ml]; exact hl.1) d0 d3 d4 d6 d9 hout (by rw [cx.room]; exact hR.1) (by rw [cx.room]; exact hR.2) (by omega) (by omega) cx.locks (cx_thrown cx hP hD hS hx) hS.2.2 (by omega) (by omega)
end WGT
theorem mem_pl {L : List Cond} (ps : List Nat) (h : L = ps.filterMap (fun i => lw_tbl[i]?)) : ∀ w ∈ L, w ∈ lw_tbl := by
  intro w hw
  rw [h] at hw
  obtain ⟨i, -, hi⟩ := List.mem_filterMap.mp hw
  exact List.mem_of_getElem? hi
theorem tw_J1 : ∀ w ∈ Cond.classLink "java/util/AbstractList" 21 "java/lang/UnsupportedOperationException" :: Cond.initialized "java/lang/UnsupportedOperationException" :: vx_at0 "java/util/AbstractList" 23 "java/lang/UnsupportedOperationException" ["java/lang/RuntimeException", "java/lang/Exception"], w ∈ lw_tbl := by
  intro w hw
  exact of_decide_eq_true (List.all_eq_true.mp (show (Cond.classLink "java/util/AbstractList" 21 "java/lang/UnsupportedOperationException" :: Cond.initialized "java/lang/UnsupportedOperationException" :: vx_at0 "java/util/AbstractList" 23 "java/lang/UnsupportedOperationException" ["java/lang/RuntimeException", "java/lang/Exception"]).all (fun w => decide (w ∈ lw_tbl)) = true by decide +kernel) w hw)
