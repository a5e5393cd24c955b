/-! MY BASE 8: casts, stores of references, new arrays, switches, bytes -/
set_option maxRecDepth 100000
section WGK
variable {ev : EvT} {f : FxT} {nL : Nat} {Q : State → Prop} {own : va_W} {lv : List (Nat × Value)} {st : List Value} {pc kc ks : Nat} {cc : ByteArray} {C : String} {rt : Option FieldType} {rm : Room}
theorem cx_cast (cx : CX ev f cc nL C rt rm) {a b : String} (h : Cond.castable a b ∈ lw_tbl) : va_Nw (.castable a b) f.s := by
  obtain ⟨b0, hE⟩ := cx.E
  exact va_Nw.warmC cx.warm (va_Nw.of rfl (hE.1 _ h))
theorem cx_nocast (cx : CX ev f cc nL C rt rm) {a b : String} (h : Cond.not (.castable a b) ∈ flatC (Jvm.Cond.and given_1 narrow_1)) : va_Nc a b f.s := by
  obtain ⟨b0, hE⟩ := cx.E
  exact va_Nc.moved cx.warm.alike (va_Nc.of (flat_of_before _ hE.2.2.1 _ h))
theorem bx_recv (cx : CX ev f cc nL C rt rm) {z : Int} (h : -128 ≤ z ∧ z ≤ 127) {H : Heap} {locs : List Loc} (hP : PP ev own H) (hS : va_S f.A f.H0 H locs) : ∃ cell : Cell, H[ev.ad (z + 128).toNat]? = some cell ∧ cell.vm.isStatics = false ∧ f.s.vm.findClass "java/lang/Integer" = some cell.cls :=
  ct_recv cx (rd_bx cx h own) (ci := 17) rfl hP hS
/-- checkcast -/
theorem wg_cast (cx : CX ev f cc nL C rt rm) {nm C9 : String} {T : u_T} {N ci a index : Nat} {fs : List Value} (hr : RD ev f own a (ob ci fs)) (hc : vwCl[ci]? = some (C9, T, N)) (hlink : Cond.classLink C index nm ∈ lw_all) (hcast : Cond.castable C9 nm ∈ lw_tbl) (hd : decode cc pc = .ok (.checkcast index, 3)) (k : WG ev f nL Q own lv (.ref a :: st) (pc + 3) kc ks) : WG ev f nL Q own lv (.ref a :: st) pc kc ks :=
  fun H locs ls cells slots h1 h2 hP hD hS hl => va_castY cx.x cx.b cx.own (cx.ts _ hlink) (cx_cast cx hcast) (ct_recv cx hr hc hP hS) hd (k H locs ls cells slots h1 h2 hP hD hS hl)
theorem wg_castS (cx : CX ev f cc nL C rt rm) {C9 : String} {T : u_T} {N ci a index : Nat} {fs : List Value} (hr : RD ev f own a (ob ci fs)) (hc : vwCl[ci]? = some (C9, T, N)) (hlink : Cond.classLink C index C9 ∈ lw_all) (hd : decode cc pc = .ok (.checkcast index, 3)) (k : WG ev f nL Q own lv (.ref a :: st) (pc + 3) kc ks) : WG ev f nL Q own lv (.ref a :: st) pc kc ks :=
  fun H locs ls cells slots h1 h2 hP hD hS hl => va_castE cx.x cx.b cx.own (cx.ts _ hlink) (ct_recv cx hr hc hP hS) hd (k H locs ls cells slots h1 h2 hP hD hS hl)
theorem wg_castB (cx : CX ev f cc nL C rt rm) {z : Int} {index : Nat} (hz : z = -1000 ∨ (-128 ≤ z ∧ z ≤ 127)) (hlink : Cond.classLink C index "java/lang/Integer" ∈ lw_all) (hd : decode cc pc = .ok (.checkcast index, 3)) (k : WG ev f nL Q own lv (va_rf (bx ev z) :: st) (pc + 3) kc ks) : WG ev f nL Q own lv (va_rf (bx ev z) :: st) pc kc ks := by
  intro H locs ls cells slots h1 h2 hP hD hS hl
  have kk := k H locs ls cells slots h1 h2 hP hD hS hl
  by_cases h : z = -1000
  · rw [h, bx_none] at kk ⊢
    exact lv_castN cx.x cx.b hd kk
  · rw [bx_some ev h] at kk ⊢
    exact va_castE cx.x cx.b cx.own (cx.ts _ hlink) (bx_recv cx (by omega) hP hS) hd kk
theorem wg_castN (cx : CX ev f cc nL C rt rm) {index : Nat} (hd : decode cc pc = .ok (.checkcast index, 3)) (k : WG ev f nL Q own lv (.null :: st) (pc + 3) kc ks) : WG ev f nL Q own lv (.null :: st) pc kc ks :=
  fun H locs ls cells slots h1 h2 hP hD hS hl => lv_castN cx.x cx.b hd (k H locs ls cells slots h1 h2 hP hD hS hl)
theorem arr_nm (cx : CX ev f cc nL C rt rm) (t0 : Nat) {cA : ClassId} {ty : FieldType} (ht : (tysA ev)[t0]? = some (cA, ty)) {nm : String} (hn : "[" ++ ty.toString = nm) : f.s.vm.findClass nm = some cA := by
  have h := (cx.K.2 t0 _ ht).2
  rw [← hn]
  cases ty with
  | object C9 => obtain ⟨_, _, _, _, _, h4⟩ := h; exact h4
  | _ => exact h
theorem wg_castA (cx : CX ev f cc nL C rt rm) {nm : String} {a index : Nat} {cA : ClassId} {x : vp_A} (hr : RD ev f own a (.inl (cA, x))) (t0 : Nat) {ty : FieldType} (ht : (tysA ev)[t0]? = some (cA, ty)) (hn : "[" ++ ty.toString = nm) (hlink : Cond.classLink C index nm ∈ lw_all) (hd : decode cc pc = .ok (.checkcast index, 3)) (k : WG ev f nL Q own lv (.ref a :: st) (pc + 3) kc ks) : WG ev f nL Q own lv (.ref a :: st) pc kc ks := by
  intro H locs ls cells slots h1 h2 hP hD hS hl
  obtain ⟨cell, q1, q2, qu, qs, -⟩ := hr H locs hP hS
  exact va_castE cx.x cx.b cx.own (cx.ts _ hlink) ⟨cell, q1, qs, by rw [q2]; exact arr_nm cx t0 ht hn⟩ hd (k H locs ls cells slots h1 h2 hP hD hS hl)
/-- instanceof -/
theorem wg_inst (cx : CX ev f cc nL C rt rm) {nm C9 : String} {T : u_T} {N ci a index : Nat} {fs : List Value} (hr : RD ev f own a (ob ci fs)) (hc : vwCl[ci]? = some (C9, T, N)) (hlink : Cond.classLink C index nm ∈ lw_all) (hcast : Cond.castable C9 nm ∈ lw_tbl) (hd : decode cc pc = .ok (.instanceof index, 3)) (k : WG ev f nL Q own lv (.int (jI 1) :: st) (pc + 3) kc ks) : WG ev f nL Q own lv (.ref a :: st) pc kc ks :=
  fun H locs ls cells slots h1 h2 hP hD hS hl => va_instY cx.x cx.b cx.own (cx.ts _ hlink) (cx_cast cx hcast) (ct_recv cx hr hc hP hS) hd (k H locs ls cells slots h1 h2 hP hD hS hl)
theorem wg_instS (cx : CX ev f cc nL C rt rm) {C9 : String} {T : u_T} {N ci a index : Nat} {fs : List Value} (hr : RD ev f own a (ob ci fs)) (hc : vwCl[ci]? = some (C9, T, N)) (hlink : Cond.classLink C index C9 ∈ lw_all) (hd : decode cc pc = .ok (.instanceof index, 3)) (k : WG ev f nL Q own lv (.int (jI 1) :: st) (pc + 3) kc ks) : WG ev f nL Q own lv (.ref a :: st) pc kc ks :=
  fun H locs ls cells slots h1 h2 hP hD hS hl => va_instE cx.x cx.b cx.own (cx.ts _ hlink) (ct_recv cx hr hc hP hS) hd (k H locs ls cells slots h1 h2 hP hD hS hl)
theorem wg_instNo (cx : CX ev f cc nL C rt rm) {nm C9 : String} {T : u_T} {N ci a index : Nat} {fs : List Value} (hr : RD ev f own a (ob ci fs)) (hc : vwCl[ci]? = some (C9, T, N)) (hlink : Cond.classLink C index nm ∈ lw_all) (hcast : Cond.not (.castable C9 nm) ∈ flatC (Jvm.Cond.and given_1 narrow_1)) (hd : decode cc pc = .ok (.instanceof index, 3)) (k : WG ev f nL Q own lv (.int (jI 0) :: st) (pc + 3) kc ks) : WG ev f nL Q own lv (.ref a :: st) pc kc ks :=
  fun H locs ls cells slots h1 h2 hP hD hS hl => va_instNo cx.x cx.b cx.own (cx.ts _ hlink) (cx_nocast cx hcast) (ct_recv cx hr hc hP hS) hd (k H locs ls cells slots h1 h2 hP hD hS hl)
theorem wg_instB (cx : CX ev f cc nL C rt rm) {z : Int} {index : Nat} (hz : z = -1000 ∨ (-128 ≤ z ∧ z ≤ 127)) (hlink : Cond.classLink C index "java/lang/Integer" ∈ lw_all) (hd : decode cc pc = .ok (.instanceof index, 3)) (k : WG ev f nL Q own lv (.int (jI (bI (z ≠ -1000))) :: st) (pc + 3) kc ks) : WG ev f nL Q own lv (va_rf (bx ev z) :: st) pc kc ks := by
  intro H locs ls cells slots h1 h2 hP hD hS hl
  have kk := k H locs ls cells slots h1 h2 hP hD hS hl
  by_cases h : z = -1000
  · rw [bI_f (by simp [h])] at kk
    rw [h, bx_none]
    exact lv_instN cx.x cx.b hd kk
  · rw [bI_t h] at kk
    rw [bx_some ev h]
    exact va_instE cx.x cx.b cx.own (cx.ts _ hlink) (bx_recv cx (by omega) hP hS) hd kk
/-- what may stand in an array over E -/
def AN (ev : EvT) (f : FxT) (own : va_W) (E : String) (v : Nat) : Prop := ∀ (H : Heap) (locs : List Loc), PP ev own H → va_S f.A f.H0 H locs → va_Any E f.s H v
theorem AN.o (cx : CX ev f cc nL C rt rm) {E C9 : String} {T : u_T} {N ci v : Nat} {fs : List Value} (hr : RD ev f own v (ob ci fs)) (hc : vwCl[ci]? = some (C9, T, N)) (hcast : Cond.castable C9 E ∈ lw_tbl) : AN ev f own E v := by
  intro H locs hP hS
  obtain ⟨cell, h1, h2, h3⟩ := ct_recv cx hr hc hP hS
  obtain ⟨kC, hkC, -⟩ := Vm.findClass_spec h3
  exact ⟨cell, h1, h2, ⟨kC, hkC⟩, fun comp h => vb_asgC (cx_cast cx hcast) comp _ h h3⟩
theorem AN.b (cx : CX ev f cc nL C rt rm) {z : Int} (h : -128 ≤ z ∧ z ≤ 127) {E : String} (hE : E = "java/lang/Integer" ∨ Cond.castable "java/lang/Integer" E ∈ lw_tbl) : AN ev f own E (ev.ad (z + 128).toNat) := by
  intro H locs hP hS
  obtain ⟨cell, h1, h2, h3⟩ := bx_recv cx h hP hS
  obtain ⟨kC, hkC, -⟩ := Vm.findClass_spec h3
  refine ⟨cell, h1, h2, ⟨kC, hkC⟩, fun comp h => ?_⟩
  rcases hE with rfl | hE
  · exact vb_asgS comp _ h h3
  · exact vb_asgC (cx_cast cx hE) comp _ h h3
theorem AN.a (cx : CX ev f cc nL C rt rm) {E nm : String} {v : Nat} {cA : ClassId} {x : vp_A} (hr : RD ev f own v (.inl (cA, x))) (t0 : Nat) {ty : FieldType} (ht : (tysA ev)[t0]? = some (cA, ty)) (hn : "[" ++ ty.toString = nm) (hcast : Cond.castable nm E ∈ lw_tbl) : AN ev f own E v := by
  intro H locs hP hS
  obtain ⟨cell, q1, q2, qu, qs, -⟩ := hr H locs hP hS
  have h3 : f.s.vm.findClass nm = some cell.cls := by rw [q2]; exact arr_nm cx t0 ht hn
  obtain ⟨kC, hkC, -⟩ := Vm.findClass_spec h3
  exact ⟨cell, q1, qs, ⟨kC, hkC⟩, fun comp h => vb_asgC (cx_cast cx hcast) comp _ h h3⟩
/-- a reference stored in an array over E -/
theorem wg_aast (cx : CX ev f cc nL C rt rm) {a n v : Nat} {cA : ClassId} {g : Nat → Option Nat} {own9 : va_W} {z : Int} (q0 : Nat) (he : own[q0]? = some (a, .inl (cA, n, .inr (.inr (.inr (.inr g)))))) (t0 : Nat) {E : String} (ht : (tysA ev)[t0]? = some (cA, .object E)) (hv : AN ev f own E v) (i : Nat) (hz : z = (i : Int)) (hi : i < n ∧ n < 2147483648) (h9 : own.set q0 (a, .inl (cA, n, .inr (.inr (.inr (.inr (va_up g i (some v))))))) = own9) (hd : decode cc pc = .ok (.aastore, 1)) (kk : WG ev f nL Q own9 lv st (pc + 1) kc ks) : WG ev f nL Q own lv (.ref v :: .int (jI z) :: .ref a :: st) pc kc ks := by
  subst hz; subst h9
  refine fun H locs ls cells slots h1 h2 hP hD hS hl => va_astqM cx.x cx.b cx.K hP hD hS q0 t0 he ht (hv H locs hP hS) (jI_in hi.1 hi.2) hd (fun H1 locs1 hP1 hD1 hS1 => ?_)
  rw [jI_cl (by omega)] at hP1 hD1
  exact kk H1 locs1 ls cells slots h1 h2 hP1 hD1 hS1 hl
theorem wg_aastN (cx : CX ev f cc nL C rt rm) {a n : Nat} {cA : ClassId} {g : Nat → Option Nat} {own9 : va_W} {z : Int} (q0 : Nat) (he : own[q0]? = some (a, .inl (cA, n, .inr (.inr (.inr (.inr g)))))) (t0 : Nat) {E : String} (ht : (tysA ev)[t0]? = some (cA, .object E)) (i : Nat) (hz : z = (i : Int)) (hi : i < n ∧ n < 2147483648) (h9 : own.set q0 (a, .inl (cA, n, .inr (.inr (.inr (.inr (va_up g i none)))))) = own9) (hd : decode cc pc = .ok (.aastore, 1)) (kk : WG ev f nL Q own9 lv st (pc + 1) kc ks) : WG ev f nL Q own lv (.null :: .int (jI z) :: .ref a :: st) pc kc ks := by
  subst hz; subst h9
  refine fun H locs ls cells slots h1 h2 hP hD hS hl => va_astqN cx.x cx.b cx.K hP hD hS q0 t0 he ht (jI_in hi.1 hi.2) hd (fun H1 locs1 hP1 hD1 hS1 => ?_)
  rw [jI_cl (by omega)] at hP1 hD1
  exact kk H1 locs1 ls cells slots h1 h2 hP1 hD1 hS1 hl
/-- a box, or null, stored in an array of boxes -/
theorem wg_aastB (cx : CX ev f cc nL C rt rm) {a n : Nat} {cA : ClassId} {v : Nat → Int} {own9 : va_W} {x z : Int} (q0 : Nat) (he : own[q0]? = some (a, .inl (cA, n, .inr (.inr (.inr (.inr (fun k => bx ev (v k)))))))) (t0 : Nat) {E : String} (ht : (tysA ev)[t0]? = some (cA, .object E)) (hE : E = "java/lang/Integer" ∨ Cond.castable "java/lang/Integer" E ∈ lw_tbl) (hx : x = -1000 ∨ (-128 ≤ x ∧ x ≤ 127)) (i : Nat) (hz : z = (i : Int)) (hi : i < n ∧ n < 2147483648) (h9 : own.set q0 (a, .inl (cA, n, .inr (.inr (.inr (.inr (fun k => bx ev (ups v i x k))))))) = own9) (hd : decode cc pc = .ok (.aastore, 1)) (kk : WG ev f nL Q own9 lv st (pc + 1) kc ks) : WG ev f nL Q own lv (va_rf (bx ev x) :: .int (jI z) :: .ref a :: st) pc kc ks := by
  by_cases h : x = -1000
  · have e : va_rf (bx ev x) = .null := by rw [h, bx_none]; rfl
    rw [e]
    refine wg_aastN cx q0 he t0 ht i hz hi ?_ hd kk
    rw [← h9, ← ups_bx, h, bx_none]
  · have e : va_rf (bx ev x) = .ref (ev.ad (x + 128).toNat) := by rw [bx_some ev h]; rfl
    rw [e]
    refine wg_aast cx q0 he t0 ht (AN.b cx (by omega) hE) i hz hi ?_ hd kk
    rw [← h9, ← ups_bx, bx_some ev h]
/-- new arrays -/
theorem nar_b {x : Int} (h : -128 ≤ x ∧ x ≤ 127) : vp_nar .byte (jI x) = jI x := by
  rw [vp_nar_byte]
  apply Int32.toInt_inj.mp
  rw [jI_toInt (by omega) (by omega)]
  show ((Int32.ofInt x).toInt8.toInt32).toInt = x
  rw [Int32.toInt8_ofInt]
  simp only [Int8.toInt_toInt32]
  exact Int8.toInt_ofInt_of_le (by omega) (by omega)
theorem wg_newa (cx : CX ev f cc nL C rt rm) {atype : ArrayType} {ty : FieldType} {z : Int} (n t0 : Nat) (cA : ClassId) (ht : (tysA ev)[t0]? = some (cA, ty)) (hty : newarray.typeOf atype = ty) (hto : ∀ c : ClassId, va_RA f.s c ty → f.s.vm.findClass ("[" ++ ty.toString) = some c) (harr : Cond.arrayClass ty ∈ lw_all) (a0 : vp_A) (ha : ∀ c : ClassId, vp_cell c a0 = arrV c n (fun _ => defaultValue ty)) (hz : z = (n : Int)) (hn : n < 2147483648 ∧ n * componentBytes ty ≤ 536870912) (hd : decode cc pc = .ok (.newarray atype, 2))
    (kk : ∀ q : Nat, WG ev f nL Q (own ++ [(q, .inl (cA, a0))]) lv (.ref q :: st) (pc + 2) kc ks) : WG ev f nL Q own lv (.int (jI z) :: st) pc (kc + 1) (ks + n) := by
  subst hz
  intro H locs ls cells slots h1 h2 hP hD hS hl
  refine va_newa cx.x cx.b (by rw [hty]; exact cx.ts _ harr) hty cx.K hP hD hS cx.new ha ?_ (jI_cl (by omega)) hn.2 (by omega) (by omega) hd (fun q c H1 hK1 hP1 hD1 hS1 => ?_)
  · rw [jI_0, jI_lt (by omega)]; omega
  · have e1 := hto c (hK1.2 5 _ rfl).2
    have e2 := hto cA (cx.K.2 t0 _ ht).2
    have e : c = cA := Option.some.inj (e1.symm.trans e2)
    subst e
    exact kk q H1 locs ls (cells + 1) (slots + n) (by omega) (by omega) hP1 hD1 hS1 hl
theorem wg_newI (cx : CX ev f cc nL C rt rm) {z : Int} (n : Nat) (harr : Cond.arrayClass .int ∈ lw_all) (hz : z = (n : Int)) (hn : n < 134217728) (hd : decode cc pc = .ok (.newarray .int, 2)) (kk : ∀ q : Nat, WG ev f nL Q (own ++ [(q, arI ev n (fun _ => 0))]) lv (.ref q :: st) (pc + 2) kc ks) : WG ev f nL Q own lv (.int (jI z) :: st) pc (kc + 1) (ks + n) :=
  wg_newa cx (ty := .int) n 0 (ev.cA 0) rfl rfl (fun _ h => h) harr (n, .inl (fun k => jI ((fun _ : Nat => (0 : Int)) k))) (fun _ => rfl) hz ⟨by omega, by show n * 4 ≤ _; omega⟩ hd kk
theorem wg_newB (cx : CX ev f cc nL C rt rm) {z : Int} (n : Nat) (harr : Cond.arrayClass .byte ∈ lw_all) (hz : z = (n : Int)) (hn : n < 134217728) (hd : decode cc pc = .ok (.newarray .byte, 2)) (kk : ∀ q : Nat, WG ev f nL Q (own ++ [(q, arB ev n (fun _ => 0))]) lv (.ref q :: st) (pc + 2) kc ks) : WG ev f nL Q own lv (.int (jI z) :: st) pc (kc + 1) (ks + n) :=
  wg_newa cx (ty := .byte) n 4 (ev.cA 4) rfl rfl (fun _ h => h) harr (n, .inl (fun k => jI ((fun _ : Nat => (0 : Int)) k))) (fun _ => rfl) hz ⟨by omega, by show n * 1 ≤ _; omega⟩ hd kk
theorem cx_AO (cx : CX ev f cc nL C rt rm) {C9 : String} (h : Cond.arrayOver (.object C9) ∈ lw_tbl) : va_AO C9 f.s := by
  obtain ⟨b0, hE⟩ := cx.E
  exact va_AO.moved cx.warm.alike (va_AO.of (hE.1 _ h))
theorem wg_newq (cx : CX ev f cc nL C rt rm) {z : Int} {C9 : String} {index : Nat} (n t0 : Nat) (cA : ClassId) (ht : (tysA ev)[t0]? = some (cA, .object C9)) (hlink : Cond.classLink C index C9 ∈ lw_all) (hov : Cond.arrayOver (.object C9) ∈ lw_tbl) (hz : z = (n : Int)) (hn : n < 134217728) (hd : decode cc pc = .ok (.anewarray index, 3))
    (kk : ∀ q : Nat, WG ev f nL Q (own ++ [(q, .inl (cA, n, .inr (.inr (.inr (.inr (fun _ => none))))))]) lv (.ref q :: st) (pc + 3) kc ks) : WG ev f nL Q own lv (.int (jI z) :: st) pc (kc + 1) (ks + n) := by
  subst hz
  intro H locs ls cells slots h1 h2 hP hD hS hl
  refine va_newq cx.x cx.b cx.own (cx.ts _ hlink) (cx_AO cx hov) cx.K hP hD hS cx.new ?_ (jI_cl (by omega)) (by omega) (by omega) (by omega) hd (fun q c H1 hK1 hP1 hD1 hS1 => ?_)
  · rw [jI_0, jI_lt (by omega)]; omega
  · obtain ⟨_, _, _, _, _, e1⟩ := (hK1.2 5 _ rfl).2
    obtain ⟨_, _, _, _, _, e2⟩ := (cx.K.2 t0 _ ht).2
    have e : c = cA := Option.some.inj (e1.symm.trans e2)
    subst e
    exact kk q H1 locs ls (cells + 1) (slots + n) (by omega) (by omega) hP1 hD1 hS1 hl
/-- a byte array written -/
theorem wg_bast (cx : CX ev f cc nL C rt rm) {a n : Nat} {v : Nat → Int} {own9 : va_W} {x z : Int} (q0 : Nat) (he : own[q0]? = some (a, arB ev n v)) (hx : -128 ≤ x ∧ x ≤ 127) (i : Nat) (hz : z = (i : Int)) (hi : i < n ∧ n < 2147483648) (h9 : own.set q0 (a, arB ev n (ups v i x)) = own9) (hd : decode cc pc = .ok (.bastore, 1)) (kk : WG ev f nL Q own9 lv st (pc + 1) kc ks) : WG ev f nL Q own lv (.int (jI x) :: .int (jI z) :: .ref a :: st) pc kc ks := by
  subst hz; subst h9
  refine fun H locs ls cells slots h1 h2 hP hD hS hl => va_bast cx.x cx.b cx.K hP hD hS q0 4 he rfl (jI_in hi.1 hi.2) hd (fun H1 locs1 hP1 hD1 hS1 => ?_)
  rw [jI_cl (by omega), nar_b hx, ups_jI] at hP1 hD1
  exact kk H1 locs1 ls cells slots h1 h2 hP1 hD1 hS1 hl
/-- switches -/
theorem wg_tabIn (cx : CX ev f cc nL C rt rm) {dflt lo hi : Int} {offs : Array Int} {len : Nat} {z : Int} (z9 : Int) (e : z = z9) {off : Int} (tgt : Nat) (hr : -2147483648 ≤ z9 ∧ z9 < 2147483648) (hd : decode cc pc = .ok (.tableswitch dflt lo hi offs, len)) (h1 : ¬ z9 < lo) (h2 : ¬ hi < z9) (ho : offs[(z9 - lo).toNat]? = some off) (ht : (pc : Int) + off = (tgt : Int)) (k : WG ev f nL Q own lv st tgt kc ks) : WG ev f nL Q own lv (.int (jI z) :: st) pc kc ks := by
  subst e
  exact fun H locs ls cells slots g1 g2 hP hD hS hl => lv_tableIn (off := off) (tgt := tgt) cx.x cx.b hd (by rw [jI_toInt hr.1 hr.2]; exact h1) (by rw [jI_toInt hr.1 hr.2]; exact h2) (by rw [jI_toInt hr.1 hr.2]; exact ho) ht (k H locs ls cells slots g1 g2 hP hD hS hl)
theorem wg_tabOut (cx : CX ev f cc nL C rt rm) {dflt lo hi : Int} {offs : Array Int} {len : Nat} {z : Int} (tgt : Nat) (hr : -2147483648 ≤ z ∧ z < 2147483648) (hd : decode cc pc = .ok (.tableswitch dflt lo hi offs, len)) (h : z < lo ∨ hi < z) (ht : (pc : Int) + dflt = (tgt : Int)) (k : WG ev f nL Q own lv st tgt kc ks) : WG ev f nL Q own lv (.int (jI z) :: st) pc kc ks :=
  fun H locs ls cells slots g1 g2 hP hD hS hl => lv_tableOut (tgt := tgt) cx.x cx.b hd (by rw [jI_toInt hr.1 hr.2]; exact h) ht (k H locs ls cells slots g1 g2 hP hD hS hl)
theorem wg_lookup (cx : CX ev f cc nL C rt rm) {dflt : Int} {ps : Array (Int × Int)} {len : Nat} {z : Int} {off : Int} (tgt : Nat) (hr : -2147483648 ≤ z ∧ z < 2147483648) (hd : decode cc pc = .ok (.lookupswitch dflt ps, len)) (hp : (ps.toList.zip (ps.toList.drop 1)).all (fun (a, next) => a.1 < next.1) = true) (ho : Op.lookupswitch.offset ps.toList dflt z = off) (ht : (pc : Int) + off = (tgt : Int)) (k : WG ev f nL Q own lv st tgt kc ks) : WG ev f nL Q own lv (.int (jI z) :: st) pc kc ks :=
  fun H locs ls cells slots g1 g2 hP hD hS hl => lv_lookup (off := off) (tgt := tgt) cx.x cx.b hd hp (by rw [jI_toInt hr.1 hr.2]; exact ho) ht (k H locs ls cells slots g1 g2 hP hD hS hl)
end WGK
