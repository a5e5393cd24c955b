/-! MY BASE 5: further rows -/
set_option maxRecDepth 100000
def bI (p : Prop) [Decidable p] : Int := if p then 1 else 0
theorem bI_t {p : Prop} [Decidable p] (h : p) : bI p = 1 := if_pos h
theorem bI_f {p : Prop} [Decidable p] (h : ¬ p) : bI p = 0 := if_neg h
theorem bI_0 {p : Prop} [Decidable p] : bI p = 0 ↔ ¬ p := by
  by_cases h : p <;> simp [bI, h]
theorem bI_iff {p q : Prop} [Decidable p] [Decidable q] (h : p ↔ q) : bI p = bI q := by
  by_cases hp : p
  · rw [bI_t hp, bI_t (h.mp hp)]
  · rw [bI_f hp, bI_f (fun z => hp (h.mpr z))]
theorem bI_rg {p : Prop} [Decidable p] : 0 ≤ bI p ∧ bI p ≤ 1 := by
  by_cases h : p <;> simp [bI, h]
theorem bI_nar {p : Prop} [Decidable p] : narrow .boolean (.int (jI (bI p))) = .int (jI (bI p)) := by
  by_cases h : p
  · rw [bI_t h]; decide +kernel
  · rw [bI_f h]; decide +kernel
theorem cat_i (x : Int32) : (Value.int x).category = 1 := rfl
theorem cat_r (x : Nat) : (Value.ref x).category = 1 := rfl
theorem cat_l (x : Int64) : (Value.long x).category = 2 := rfl
theorem cat_n : Value.null.category = 1 := rfl
theorem c1_n {i : Nat} : ∀ q ∈ ([] : List (Nat × Value)), q.1 + 1 = i → q.2.category = 1 := fun _ h => nomatch h
theorem c1_c {i : Nat} {e : Nat × Value} {t : List (Nat × Value)} (h : e.1 + 1 = i → e.2.category = 1) (g : ∀ q ∈ t, q.1 + 1 = i → q.2.category = 1) : ∀ q ∈ e :: t, q.1 + 1 = i → q.2.category = 1 := fun q hq => by
  rcases List.mem_cons.mp hq with rfl | hq
  · exact h
  · exact g q hq
theorem c1_d {i : Nat} {e : Nat × Value} {t : List (Nat × Value)} (h : (e.1 + 1 == i) = false) (g : ∀ q ∈ t, q.1 + 1 = i → q.2.category = 1) : ∀ q ∈ e :: t, q.1 + 1 = i → q.2.category = 1 := c1_c (fun h9 => by simp [h9] at h) g
theorem fil1 {i : Nat} {lv lv' : List (Nat × Value)} {v : Value} (h : ∀ q ∈ lv, q.1 + 1 = i → q.2.category = 1) (e : (i, v) :: lv.filter (fun q => !(q.1 == i)) = lv') : (i, v) :: lv.filter (fun q => !(q.1 == i) && !(q.1 + 1 == i && q.2.category == 2)) = lv' := by
  rw [← e]
  congr 1
  refine List.filter_congr (fun q hq => ?_)
  by_cases h9 : q.1 + 1 = i
  · simp [h q hq h9]
  · simp [h9]
theorem all_n {a : Nat} : ∀ q ∈ ([] : va_W), q.1 ≠ a := fun _ h => nomatch h
theorem all_c {a : Nat} {e : Nat × va_E} {t : va_W} (h : e.1 ≠ a) (g : ∀ q ∈ t, q.1 ≠ a) : ∀ q ∈ e :: t, q.1 ≠ a := fun q hq => by
  rcases List.mem_cons.mp hq with rfl | hq
  · exact h
  · exact g q hq
section WGM
variable {ev : EvT} {f : FxT} {nL : Nat} {Q : State → Prop} {own : va_W} {lv : List (Nat × Value)} {st : List Value} {pc kc ks : Nat} {cc : ByteArray} {C : String} {rt : Option FieldType} {rm : Room}
theorem PC.q {P : Prop} {ro : Heap → Prop} (h : P) (g : PC ev f own ro) : PC ev f own (fun H => P ∧ ro H) := fun H locs hP hS => ⟨h, g H locs hP hS⟩
theorem PC.h {P ro : Heap → Prop} (h : PC ev f own P) (g : PC ev f own ro) : PC ev f own (fun H => P H ∧ ro H) := fun H locs hP hS => ⟨h H locs hP hS, g H locs hP hS⟩
theorem wg_nm {own9 : va_W} {lv9 : List (Nat × Value)} {st9 : List Value} (h1 : own = own9) (h2 : lv = lv9) (h3 : st = st9) (k : WG ev f nL Q own9 lv9 st9 pc kc ks) : WG ev f nL Q own lv st pc kc ks := by
  subst h1; subst h2; subst h3; exact k
theorem wg_ifb_eq (cx : CX ev f cc nL C rt rm) {p : Prop} [Decidable p] {off : Int} (tgt : Nat) (hd : decode cc pc = .ok (.ifCond .eq off, 3)) (ht : (pc : Int) + off = (tgt : Int)) (kt : ¬ p → WG ev f nL Q own lv st tgt kc ks) (kf : p → WG ev f nL Q own lv st (pc + 3) kc ks) : WG ev f nL Q own lv (.int (jI (bI p)) :: st) pc kc ks := by
  have hb := bI_rg (p := p)
  refine wg_if_eq cx (by omega) tgt hd ht (fun c => kt (bI_0.mp c)) (fun c => kf ?_)
  by_cases h : p
  · exact h
  · exact absurd (bI_f h) c
theorem wg_ifb_ne (cx : CX ev f cc nL C rt rm) {p : Prop} [Decidable p] {off : Int} (tgt : Nat) (hd : decode cc pc = .ok (.ifCond .ne off, 3)) (ht : (pc : Int) + off = (tgt : Int)) (kt : p → WG ev f nL Q own lv st tgt kc ks) (kf : ¬ p → WG ev f nL Q own lv st (pc + 3) kc ks) : WG ev f nL Q own lv (.int (jI (bI p)) :: st) pc kc ks := by
  have hb := bI_rg (p := p)
  refine wg_if_ne cx (by omega) tgt hd ht (fun c => kt ?_) (fun c => kf (bI_0.mp c))
  by_cases h : p
  · exact h
  · exact absurd (bI_f h) c
theorem wg_ifnull_b (cx : CX ev f cc nL C rt rm) {z : Int} {off : Int} (tgt : Nat) (hd : decode cc pc = .ok (.ifnull off, 3)) (ht : (pc : Int) + off = (tgt : Int)) (kt : z = -1000 → WG ev f nL Q own lv st tgt kc ks) (kf : ¬ z = -1000 → WG ev f nL Q own lv st (pc + 3) kc ks) : WG ev f nL Q own lv (va_rf (bx ev z) :: st) pc kc ks := by
  by_cases h : z = -1000
  · exact wg_ifnull cx tgt hd ht (fun _ => kt h) (fun a ha => by rw [h, bx_none] at ha; cases ha)
  · exact wg_ifnull cx tgt hd ht (fun ha => by rw [bx_some ev h] at ha; cases ha) (fun _ _ => kf h)
theorem wg_ifnonnull_b (cx : CX ev f cc nL C rt rm) {z : Int} {off : Int} (tgt : Nat) (hd : decode cc pc = .ok (.ifnonnull off, 3)) (ht : (pc : Int) + off = (tgt : Int)) (kt : ¬ z = -1000 → WG ev f nL Q own lv st tgt kc ks) (kf : z = -1000 → WG ev f nL Q own lv st (pc + 3) kc ks) : WG ev f nL Q own lv (va_rf (bx ev z) :: st) pc kc ks := by
  by_cases h : z = -1000
  · exact wg_ifnonnull cx tgt hd ht (fun a ha => by rw [h, bx_none] at ha; cases ha) (fun _ => kf h)
  · exact wg_ifnonnull cx tgt hd ht (fun _ _ => kt h) (fun ha => by rw [bx_some ev h] at ha; cases ha)
theorem wg_objInit (cx : CX ev f cc nL C rt rm) {a idx : Nat} (hl9 : Cond.methodLink C idx Lib.objectInit ∈ lw_all) (hR : (Cond.instanceMethod Lib.objectInit ∈ lw_all ∧ Cond.code Lib.objectInit ⟨#[0xb1]⟩ 1 none ∈ lw_all) ∧ 1 ≤ rm.frames ∧ (st.map fun v => v.category).sum + 12 ≤ rm.locals) (hd : decode cc pc = .ok (.invokespecial idx, 3)) (k : WG ev f nL Q own lv st (pc + 3) kc ks) : WG ev f nL Q own lv (.ref a :: st) pc kc ks :=
  fun H locs ls cells slots h1 h2 hP hD hS hl => W.objInit (g := F0 f.m pc ls (.ref a :: st)) cx.x cx.b cx.own (cx.ts _ hl9) (cx.ts _ hR.1.1) (cx.ts _ hR.1.2) rfl (by rw [cx.ml]; exact hl.1) rfl hd (by rw [cx.room]; exact hR.2.1) (by rw [cx.room]; show 2 * 0 + _ + 12 ≤ _; have := hR.2.2; omega) (k H locs ls cells slots h1 h2 hP hD hS hl)
theorem wg_aaldI (cx : CX ev f cc nL C rt rm) {a n : Nat} {g : Nat → Option Nat} (hr : RD ev f own a (arII ev n g)) {z : Int} (i : Nat) (hz : z = (i : Int)) (hi : i < n ∧ n < 2147483648) (hd : decode cc pc = .ok (.aaload, 1)) (kk : WG ev f nL Q own lv (va_rf (g i) :: st) (pc + 1) kc ks) : WG ev f nL Q own lv (.int (jI z) :: .ref a :: st) pc kc ks := by
  subst hz
  intro H locs ls cells slots h1 h2 hP hD hS hl
  obtain ⟨cell, q1, q2, qu, qs, qz, q4⟩ := hr H locs hP hS
  exact W.aald (v := va_rf (g i)) (ty := .array .int) cx.x cx.b q1 (arr_is cx 1 rfl q2 qs) rfl qu (jI_inC hi qz) (by rw [jI_cl (by omega)]; exact q4 i hi.1) rfl rfl hd (kk H locs ls cells slots h1 h2 hP hD hS hl)
theorem wg_dup2 (cx : CX ev f cc nL C rt rm) {v w : Value} (hc : v.category = 1) (hc2 : w.category = 1) (hd : decode cc pc = .ok (.dup2, 1)) (k : WG ev f nL Q own lv (v :: w :: v :: w :: st) (pc + 1) kc ks) : WG ev f nL Q own lv (v :: w :: st) pc kc ks :=
  fun H locs ls cells slots h1 h2 hP hD hS hl => lv_dup2_11 cx.x cx.b hd hc hc2 (k H locs ls cells slots h1 h2 hP hD hS hl)
theorem wg_dup2_2 (cx : CX ev f cc nL C rt rm) {v : Value} (hc : v.category = 2) (hd : decode cc pc = .ok (.dup2, 1)) (k : WG ev f nL Q own lv (v :: v :: st) (pc + 1) kc ks) : WG ev f nL Q own lv (v :: st) pc kc ks :=
  fun H locs ls cells slots h1 h2 hP hD hS hl => lv_dup2_2 cx.x cx.b hd hc (k H locs ls cells slots h1 h2 hP hD hS hl)
theorem wg_lstore (cx : CX ev f cc nL C rt rm) {i : Nat} {x : Int64} {lv' : List (Nat × Value)} (hd : decode cc pc = .ok (.lstore i, 2)) (hn : i + 1 < nL) (hl9 : (i, Value.long x) :: lv.filter (fun q => !(q.1 == i) && (!(q.1 == i + 1) && !(q.1 + 1 == i && q.2.category == 2))) = lv') (k : WG ev f nL Q own lv' st (pc + 2) kc ks) : WG ev f nL Q own lv (.long x :: st) pc kc ks :=
  fun H locs ls cells slots h1 h2 hP hD hS hl => lv_lstore cx.x cx.b hd hl hn hl9 (fun ls9 hl8 => k H locs ls9 cells slots h1 h2 hP hD hS hl8)
theorem wg_lstore_n (cx : CX ev f cc nL C rt rm) {i : Fin 4} {x : Int64} {lv' : List (Nat × Value)} (hd : decode cc pc = .ok (.lstore_n i, 1)) (hn : (i : Nat) + 1 < nL) (hl9 : ((i : Nat), Value.long x) :: lv.filter (fun q => !(q.1 == (i : Nat)) && (!(q.1 == (i : Nat) + 1) && !(q.1 + 1 == (i : Nat) && q.2.category == 2))) = lv') (k : WG ev f nL Q own lv' st (pc + 1) kc ks) : WG ev f nL Q own lv (.long x :: st) pc kc ks :=
  fun H locs ls cells slots h1 h2 hP hD hS hl => lv_lstore_n cx.x cx.b hd rfl hl hn hl9 (fun ls9 hl8 => k H locs ls9 cells slots h1 h2 hP hD hS hl8)
theorem wx_own {own9 : va_W} {E : String} (is : List Nat) (h : is.map (fun i => own[i]?) = own9.map some) (hn : va_nd is = true) (k : WX ev f nL Q own9 lv E st pc kc ks) : WX ev f nL Q own lv E st pc kc ks :=
  fun H locs ls cells slots q ce h1 h2 hP hD hS hl => k H locs ls cells slots q ce h1 h2 (va_P.sub hP is (fm_of_map _ _ _ h)) (va_D.sub hD is hn h) hS hl
/-- a private method is selected on an object of any class -/
theorem sel_priv (cx : CX ev f cc nL C rt rm) {y x' z : MethodName} {C9 C' : String} {n : Nat} (h1 : Cond.instantiable C9 n ∈ lw_all) (h2 : Cond.privateMethod y ∈ lw_tbl) (h3 : Cond.selects C' x' z ∈ lw_all) (hz : z.cls = y.cls) (h4 : Cond.instanceMethod y ∈ lw_all) (hy : nMH y.cls) : (Cond.selects C9 y y).before f.args f.s = true := by
  obtain ⟨b0, hE⟩ := cx.E
  refine cx.word (a := #[Value.ref b0]) (w := Cond.selects C9 y y) ?_ rfl
  obtain ⟨c, k, hc, hk, -⟩ := Cond.instantiable_spec (hE.1 _ (lw_all_tbl h1))
  obtain ⟨c2, r2, m2, q1, q2, q3, q4, kP, hkP, hkPi⟩ := Cond.selects_spec (hE.1 _ (lw_all_tbl h3))
  obtain ⟨mk, methM, hnamed, hmethM, -, -⟩ := Cond.instanceMethod_spec (hE.1 _ (lw_all_tbl h4))
  have hcl : m2.cls = mk.cls := by
    have e1 := findClass_of_methodNamed q3
    have e2 := findClass_of_methodNamed hnamed
    rw [hz] at e1
    exact Option.some.inj (e1.symm.trans e2)
  have hfound : ev.s0.methodFound? y.cls y.name y.desc = some mk := State.methodFound?_of_named hnamed hy
  have hsel : selectMethod {} ev.s0.vm c mk = .method mk := selectMethod_private hmethM (Cond.privateMethod_at (hE.1 _ h2) mk methM hnamed hmethM)
  rw [hcl] at hkP
  simp only [Cond.before, Cond.holds, Cond.value, hc, hfound, hnamed, hsel, hkP]
  simp
  exact hkPi
theorem at_oa (cx : CX ev f cc nL C rt rm) {H : Heap} {a b ci : Nat} {fs : List Value} {cA : ClassId} {x : vp_A} {ty : FieldType} (h1 : AT ev a (ob ci fs) H) (h2 : AT ev b (.inl (cA, x)) H) (t0 : Nat) (ht : (tysA ev)[t0]? = some (cA, ty)) : a ≠ b := by
  rintro rfl
  obtain ⟨r, hr, cell, g1, g2, -⟩ := h1
  obtain ⟨cell2, k1, k2, k3, k4, -⟩ := h2
  cases g1.symm.trans k1
  obtain ⟨-, hfc, kC, hkC, hkind⟩ := cx.K.1 ci r hr
  obtain ⟨-, kA, hkA, comp, hkk⟩ := arr_is cx t0 ht k2 k4
  rw [g2, hkC] at hkA
  cases hkA
  rw [hkind] at hkk
  cases hkk
theorem at_aa (cx : CX ev f cc nL C rt rm) {H : Heap} {a b : Nat} {cA cB : ClassId} {x y : vp_A} {ty tz : FieldType} (h1 : AT ev a (.inl (cA, x)) H) (h2 : AT ev b (.inl (cB, y)) H) (t0 t1 : Nat) (ht : (tysA ev)[t0]? = some (cA, ty)) (hu : (tysA ev)[t1]? = some (cB, tz)) (hne : ty ≠ tz) : a ≠ b := by
  rintro rfl
  obtain ⟨cell, g1, g2, g3, g4, -⟩ := h1
  obtain ⟨cell2, k1, k2, k3, k4, -⟩ := h2
  cases g1.symm.trans k1
  obtain ⟨-, kA, hkA, comp, hkk⟩ := arr_is cx t0 ht g2 g4
  obtain ⟨-, kB, hkB, comp2, hkk2⟩ := arr_is cx t1 hu k2 k4
  rw [hkA] at hkB
  cases hkB
  rw [hkk] at hkk2
  cases hkk2
  exact hne rfl
theorem at_oo (cx : CX ev f cc nL C rt rm) {H : Heap} {a b ci cj : Nat} {fs gs : List Value} {p q : vw_C} (h1 : AT ev a (ob ci fs) H) (h2 : AT ev b (ob cj gs) H) (hp : vwCl[ci]? = some p) (hq : vwCl[cj]? = some q) (hne : p.1 ≠ q.1) : a ≠ b := by
  rintro rfl
  obtain ⟨r, hr, cell, g1, g2, -⟩ := h1
  obtain ⟨r', hr', cell', g1', g2', -⟩ := h2
  cases g1.symm.trans g1'
  obtain ⟨-, hfc, -⟩ := cx.K.1 ci p hp
  obtain ⟨-, hfc', -⟩ := cx.K.1 cj q hq
  obtain ⟨k1, hk1, n1⟩ := Vm.findClass_spec hfc
  obtain ⟨k2, hk2, n2⟩ := Vm.findClass_spec hfc'
  rw [← g2, g2'] at hk1
  rw [hk1] at hk2
  cases hk2
  exact hne (by rw [← n1, ← n2])
end WGM
