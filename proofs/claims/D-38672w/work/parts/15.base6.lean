/-! MY BASE 6: classes with two fields of one name; handlers -/
set_option maxRecDepth 100000
theorem apart2 {args : Array Value} {s : State} {C O f d O' f' d' : String} (h : (Cond.laysFinal C O f d).before args s = true) (h' : (Cond.laysFinal C O' f' d').before args s = true)
    {cf kf fi fd cf' kf' fi' fd'} (hi : s.fieldFound? O f d = some (cf, kf, fi, fd)) (hi' : s.fieldFound? O' f' d' = some (cf', kf', fi', fd')) (hne : O ≠ O') : fd.slot ≠ fd'.slot := by
  obtain ⟨c1, k1, c1', k1', i1, f1, r1, r2, r3, -, -, -, r4, -, d1, e1, n1, -⟩ := Cond.laysFinal_spec h
  obtain ⟨c2, k2, c2', k2', i2, f2, t1, t2, t3, -, -, -, t4, -, d2, e2, n2, -⟩ := Cond.laysFinal_spec h'
  cases hi.symm.trans r3
  cases hi'.symm.trans t3
  cases r1.symm.trans t1
  intro hs
  rw [hs] at e1
  cases e1.symm.trans e2
  obtain ⟨ka, hka, na⟩ := Vm.findClass_spec r4
  obtain ⟨kb, hkb, nb⟩ := Vm.findClass_spec t4
  have ha : s.vm.classes[cf]? = some kf := by
    have h9 := hi
    unfold State.fieldFound? at h9
    simp only [Option.bind_eq_bind, Option.bind_eq_some_iff] at h9
    obtain ⟨_, _, _, _, ⟨c9, i9⟩, _, k9, hk9, f9, _, e9⟩ := h9
    cases e9
    exact hk9
  have hb : s.vm.classes[cf']? = some kf' := by
    have h9 := hi'
    unfold State.fieldFound? at h9
    simp only [Option.bind_eq_bind, Option.bind_eq_some_iff] at h9
    obtain ⟨_, _, _, _, ⟨c9, i9⟩, _, k9, hk9, f9, _, e9⟩ := h9
    cases e9
    exact hk9
  rw [hka] at ha
  rw [hkb] at hb
  cases ha; cases hb
  exact hne (by rw [← na, ← nb, ← n1, ← n2])
section WGP
variable {ev : EvT} {f : FxT} {nL : Nat} {Q : State → Prop} {own : va_W} {lv : List (Nat × Value)} {st : List Value} {pc kc ks : Nat} {cc : ByteArray} {C : String} {rt : Option FieldType} {rm : Room}
theorem ap_of (cx : CX ev f cc nL C rt rm) {C9 : String} {T : u_T} {ty0 : Nat → FieldType} {N ci : Nat} (hc : vwCl[ci]? = some (C9, T, N)) (hin : ∀ w ∈ u_ws C9 T N, w ∈ lw_all) (hty : ∀ k, k < N → parseFieldDescriptor (T k).2.2.1 = some (ty0 k)) (hnm : ∀ a, a < N → ∀ b, b < N → a ≠ b → (T a).2.1 ≠ (T b).2.1 ∨ ((T a).1 ≠ (T b).1 ∧ (T a).2.2.2 = true ∧ (T b).2.2.2 = true)) : ∀ x y, x < N → y < N → x ≠ y → (ev.D.2 ci) x ≠ (ev.D.2 ci) y := by
  intro x y hx hy hne
  obtain ⟨hS, -⟩ := cx.K.1 ci _ hc
  obtain ⟨_, _, _, fa, hia, ea⟩ := hS x hx
  obtain ⟨_, _, _, fb, hib, eb⟩ := hS y hy
  rw [← ea, ← eb]
  rcases hnm x hx y hy hne with h | ⟨h, hf1, hf2⟩
  · refine u_apart (u_lays cx.ts hin hx) (u_lays cx.ts hin hy) hia hib ?_
    rw [(State.fieldFound?_type hia (hty x hx)).1, (State.fieldFound?_type hib (hty y hy)).1]
    exact h
  · have l1 := cx.ts _ (hin _ (u_in_lay hx))
    have l2 := cx.ts _ (hin _ (u_in_lay hy))
    unfold u_lay at l1 l2
    rw [if_pos hf1] at l1
    rw [if_pos hf2] at l2
    exact apart2 l1 l2 hia hib h
theorem wg_put9 (cx : CX ev f cc nL C rt rm) {ref C9 : String} {T : u_T} {ty0 : Nat → FieldType} {N ci index a : Nat} {fs : List Value} {own9 : va_W} (q0 : Nat) (he : own[q0]? = some (a, ob ci fs)) (hc : vwCl[ci]? = some (C9, T, N)) (hin : ∀ w ∈ u_ws C9 T N, w ∈ lw_all) (hty : ∀ k, k < N → parseFieldDescriptor (T k).2.2.1 = some (ty0 k)) (hnm : ∀ a, a < N → ∀ b, b < N → a ≠ b → (T a).2.1 ≠ (T b).2.1 ∨ ((T a).1 ≠ (T b).1 ∧ (T a).2.2.2 = true ∧ (T b).2.2.2 = true)) (k : Nat) (hk : k < N) (hlink : Cond.fieldLink C index ref (T k).2.1 (T k).2.2.1 ∈ lw_all) (hsame : ∀ x, f.s.fieldFound? (T k).1 (T k).2.1 (T k).2.2.1 = some x → f.s.fieldFound? ref (T k).2.1 (T k).2.2.1 = some x) (hfin : (T k).2.2.2 = false) {ty : FieldType} {v : Value} (hd1 : ty0 k = ty) (hn : narrow ty v = v) (hfit : fits ty v = true) (hl9 : k < fs.length) (h9 : own.set q0 (a, ob ci (fs.set k v)) = own9) (hd : decode cc pc = .ok (.putfield index, 3))
    (kk : WG ev f nL Q own9 lv st (pc + 3) kc ks) : WG ev f nL Q own lv (v :: .ref a :: st) pc kc ks := by
  subst h9
  have hap := ap_of cx hc hin hty hnm
  intro H locs ls cells slots g1 g2 hP hD hS0 hl
  obtain ⟨r, h1, cell, q1, q2, q3, q4⟩ := hP q0 _ he
  have hr : r = (C9, T, N) := Option.some.inj (h1.symm.trans hc)
  subst hr
  obtain ⟨hS, hfc, kC, hkC, hkind⟩ := cx.K.1 ci _ hc
  obtain ⟨cf, kf, fi, fd, hi, hsl⟩ := hS k hk
  have hlay := cx.ts _ (hin _ (u_in_lay hk))
  unfold u_lay at hlay
  rw [if_neg (by rw [hfin]; decide)] at hlay
  have hst := (u_facts hfc hkC (u_lays cx.ts hin hk) hi).1
  have h6 := u_store hfc hkC hkind hlay hi (by rw [hty k hk, hd1]) hn hfit
  refine W.putK cx.x cx.b (f := fd) ⟨cx.own, cx.ts _ hlink, ⟨_, _, _, hsame _ hi⟩, hst⟩ (by rw [q2]; exact h6) q1 q3 (by rw [hsl]; exact k2_hasslot (q4 k hk)) rfl rfl hd fun H' e1 e2 e3 => ?_
  rw [hsl] at e1 ⊢
  exact kk H' _ ls cells slots g1 g2 (va_P.set hP hD he ⟨_, hc, t_OB.to (V := updV (vp_V fs) k v) ⟨_, e1, q2, q3, t_set q4 hap hk v⟩ (fun j _ => vp_updV_set hl9 v j)⟩ e3) (va_D.set hD he) (va_S.put hS0 e2 e3 (hD.2 q0 _ he)) hl
theorem wg_putF9 (cx : CX ev f cc nL C rt rm) {ref C9 : String} {T : u_T} {ty0 : Nat → FieldType} {N ci index a : Nat} {fs : List Value} {own9 : va_W} (q0 : Nat) (he : own[q0]? = some (a, ob ci fs)) (hc : vwCl[ci]? = some (C9, T, N)) (hin : ∀ w ∈ u_ws C9 T N, w ∈ lw_all) (hty : ∀ k, k < N → parseFieldDescriptor (T k).2.2.1 = some (ty0 k)) (hnm : ∀ a, a < N → ∀ b, b < N → a ≠ b → (T a).2.1 ≠ (T b).2.1 ∨ ((T a).1 ≠ (T b).1 ∧ (T a).2.2.2 = true ∧ (T b).2.2.2 = true)) (k : Nat) (hk : k < N) (hlink : Cond.fieldLink C index ref (T k).2.1 (T k).2.2.1 ∈ lw_all) (hsame : ∀ x, f.s.fieldFound? (T k).1 (T k).2.1 (T k).2.2.1 = some x → f.s.fieldFound? ref (T k).2.1 (T k).2.2.1 = some x) (hfin : (T k).2.2.2 = true) (hin2 : f.meth.name = "<init>") (hdecl : (T k).1 = C) {ty : FieldType} {v : Value} (hd1 : ty0 k = ty) (hn : narrow ty v = v) (hfit : fits ty v = true) (hl9 : k < fs.length) (h9 : own.set q0 (a, ob ci (fs.set k v)) = own9) (hd : decode cc pc = .ok (.putfield index, 3))
    (kk : WG ev f nL Q own9 lv st (pc + 3) kc ks) : WG ev f nL Q own lv (v :: .ref a :: st) pc kc ks := by
  subst h9
  have hap := ap_of cx hc hin hty hnm
  intro H locs ls cells slots g1 g2 hP hD hS0 hl
  obtain ⟨r, h1, cell, q1, q2, q3, q4⟩ := hP q0 _ he
  have hr : r = (C9, T, N) := Option.some.inj (h1.symm.trans hc)
  subst hr
  obtain ⟨hS, hfc, kC, hkC, hkind⟩ := cx.K.1 ci _ hc
  obtain ⟨cf, kf, fi, fd, hi, hsl⟩ := hS k hk
  have hlays := u_lays cx.ts hin hk
  have hst := (u_facts hfc hkC hlays hi).1
  have h6 := u_fits hfc hkC hkind hlays hi (by rw [hty k hk, hd1]) hn hfit
  have hlf := cx.ts _ (hin _ (u_in_lay hk))
  unfold u_lay at hlf
  rw [if_pos hfin] at hlf
  obtain ⟨_, _, cf2, _, _, _, _, _, hi2, _, _, _, hown2, _⟩ := Cond.laysFinal_spec hlf
  cases hi.symm.trans hi2
  have hcf : f.m.cls = cf := by
    rw [hdecl, cx.own] at hown2
    exact Option.some.inj hown2
  refine W.putFinK cx.x cx.b (f := fd) cx.own (cx.ts _ hlink) (hsame _ hi) hst hcf hin2 (by rw [q2]; exact h6) q1 q3 (by rw [hsl]; exact k2_hasslot (q4 k hk)) rfl rfl hd fun H' e1 e2 e3 => ?_
  rw [hsl] at e1 ⊢
  exact kk H' _ ls cells slots g1 g2 (va_P.set hP hD he ⟨_, hc, t_OB.to (V := updV (vp_V fs) k v) ⟨_, e1, q2, q3, t_set q4 hap hk v⟩ (fun j _ => vp_updV_set hl9 v j)⟩ e3) (va_D.set hD he) (va_S.put hS0 e2 e3 (hD.2 q0 _ he)) hl
/-- a handler, by its place in the method's table; the rows ahead of it cover other places, or other classes -/
theorem wx_catchH (cx : CX ev f cc nL C rt rm) {E name : String} {hh p9 s9 : List (Nat × Nat × Nat × Nat)} {x : Nat × Nat × Nat × Nat} (hno : f.c.exceptionTable.toList = tableOf hh) (hsp : hh = p9 ++ x :: s9) (hpass : ∀ z ∈ tableOf p9, covers z pc = false ∨ (z.catchType ≠ 0 ∧ ∃ nm : String, (Cond.classLink C z.catchType nm).before f.args f.s = true ∧ va_Nc E nm f.s)) (hx : x.1 ≤ pc ∧ pc < x.2.1) (h0 : x.2.2.2 ≠ 0) (hlink : Cond.classLink C x.2.2.2 name ∈ lw_all) (hcast : Cond.castable E name ∈ lw_tbl)
    (kk : ∀ q : Nat, WG ev f nL Q own lv [.ref q] x.2.2.1 kc ks) : WX ev f nL Q own lv E st pc kc ks :=
  wx_catch cx (tableOf p9) ⟨x.1, x.2.1, x.2.2.1, x.2.2.2⟩ (tableOf s9) (by rw [hno, hsp]; simp [tableOf]) hpass (by simp [covers, hx.1, hx.2]) h0 hlink hcast kk
end WGP
