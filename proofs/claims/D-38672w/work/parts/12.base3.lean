/-! MY BASE 3: cells, ends of methods, calls -/
set_option maxRecDepth 100000
theorem fm_of_map {α β : Type} (g : α → Option β) : ∀ (is : List α) (ws : List β), is.map g = ws.map some → is.filterMap g = ws
  | [], ws, h => by
    cases ws with
    | nil => rfl
    | cons a t => simp at h
  | i :: is, ws, h => by
    cases ws with
    | nil => simp at h
    | cons a t =>
      simp only [List.map_cons, List.cons.injEq] at h
      simp [h.1, fm_of_map g is t h.2]
theorem narrow_ref {t : FieldType} {v : Value} (h : isRf v) : narrow t v = v := by
  obtain ⟨o, rfl⟩ := h
  cases o <;> cases t <;> rfl
theorem fits_obj {n : String} {v : Value} (h : isRf v) : fits (.object n) v = true := by
  obtain ⟨o, rfl⟩ := h
  cases o <;> rfl
theorem fits_arr {n : FieldType} {v : Value} (h : isRf v) : fits (.array n) v = true := by
  obtain ⟨o, rfl⟩ := h
  cases o <;> rfl
section WGH
variable {ev : EvT} {f : FxT} {nL : Nat} {Q : State → Prop} {own : va_W} {lv : List (Nat × Value)} {st : List Value} {pc kc ks : Nat} {cc : ByteArray} {C : String} {rt : Option FieldType} {rm : Room}
theorem wg_own {own9 : va_W} (is : List Nat) (h : is.map (fun i => own[i]?) = own9.map some) (hn : va_nd is = true) (k : WG ev f nL Q own9 lv st pc kc ks) : WG ev f nL Q own lv st pc kc ks :=
  fun H locs ls cells slots h1 h2 hP hD hS hl => k H locs ls cells slots h1 h2 (va_P.sub hP is (fm_of_map _ _ _ h)) (va_D.sub hD is hn h) hS hl
theorem arr_is (cx : CX ev f cc nL C rt rm) {cA : ClassId} {ty : FieldType} (t0 : Nat) (ht : (tysA ev)[t0]? = some (cA, ty)) {cell : Cell} (h1 : cell.cls = cA) (h2 : cell.vm.isStatics = false) : f.s.isArrayOf cell ty := by
  obtain ⟨hA, -⟩ := cx.K.2 t0 _ ht
  obtain ⟨-, kA, hkA, comp, hkk⟩ := hA 0 (fun _ => .null)
  exact ⟨(fun k q => by rw [q] at h2; cases h2), kA, by rw [h1]; exact hkA, comp, hkk⟩
/-- a field read -/
theorem wg_get (cx : CX ev f cc nL C rt rm) {ref C9 : String} {T : u_T} {N ci index a : Nat} {fs : List Value} (hr : RD ev f own a (ob ci fs)) (hc : vwCl[ci]? = some (C9, T, N)) (hin : ∀ w ∈ u_ws C9 T N, w ∈ lw_all) (k : Nat) (hk : k < N) (hlink : Cond.fieldLink C index ref (T k).2.1 (T k).2.2.1 ∈ lw_all) (hsame : ∀ x, f.s.fieldFound? (T k).1 (T k).2.1 (T k).2.2.1 = some x → f.s.fieldFound? ref (T k).2.1 (T k).2.2.1 = some x) {v : Value} (hv : fs[k]? = some v) (hd : decode cc pc = .ok (.getfield index, 3))
    (kk : WG ev f nL Q own lv (v :: st) (pc + 3) kc ks) : WG ev f nL Q own lv (.ref a :: st) pc kc ks := by
  intro H locs ls cells slots h1 h2 hP hD hS hl
  obtain ⟨r, g1, cell, q1, q2, qu, qs, q4⟩ := hr H locs hP hS
  have hr9 : r = (C9, T, N) := Option.some.inj (g1.symm.trans hc)
  subst hr9
  obtain ⟨hS9, hfc, kC, hkC, hkind⟩ := cx.K.1 ci _ hc
  obtain ⟨cf, kf, fi, fd, hi, hsl⟩ := hS9 k hk
  refine W.getf cx.x cx.b cx.own (cx.ts _ hlink) (hsame _ hi) (u_facts hfc hkC (u_lays cx.ts hin hk) hi).1 q1 qu (v := v) ?_ rfl rfl hd (kk H locs ls cells slots h1 h2 hP hD hS hl)
  rw [hsl, q4 k hk]
  simp [vp_V, hv]
/-- a field of a nest mate read -/
theorem wg_getN (cx : CX ev f cc nL C rt rm) {ref C9 host : String} {T : u_T} {N ci index a : Nat} {fs : List Value} (hr : RD ev f own a (ob ci fs)) (hc : vwCl[ci]? = some (C9, T, N)) (hin : ∀ w ∈ u_ws C9 T N, w ∈ lw_all) (k : Nat) (hk : k < N) (hlink : Cond.fieldLinkNest C index ref (T k).2.1 (T k).2.2.1 host ∈ lw_tbl) (hsame : ∀ x, f.s.fieldFound? (T k).1 (T k).2.1 (T k).2.2.1 = some x → f.s.fieldFound? ref (T k).2.1 (T k).2.2.1 = some x) {v : Value} (hv : fs[k]? = some v) (hd : decode cc pc = .ok (.getfield index, 3))
    (kk : WG ev f nL Q own lv (v :: st) (pc + 3) kc ks) : WG ev f nL Q own lv (.ref a :: st) pc kc ks := by
  obtain ⟨b0, hE⟩ := cx.E
  have hw : va_Nw (.fieldLinkNest C index ref (T k).2.1 (T k).2.2.1 host) f.s := va_Nw.warmF cx.warm (va_Nw.of rfl (hE.1 _ hlink))
  intro H locs ls cells slots h1 h2 hP hD hS hl
  obtain ⟨r, g1, cell, q1, q2, qu, qs, q4⟩ := hr H locs hP hS
  have hr9 : r = (C9, T, N) := Option.some.inj (g1.symm.trans hc)
  subst hr9
  obtain ⟨hS9, hfc, kC, hkC, hkind⟩ := cx.K.1 ci _ hc
  obtain ⟨cf, kf, fi, fd, hi, hsl⟩ := hS9 k hk
  refine va_Wgetf cx.x cx.b cx.own (hw.use rfl) (hsame _ hi) (u_facts hfc hkC (u_lays cx.ts hin hk) hi).1 q1 qu (v := v) ?_ rfl rfl hd (kk H locs ls cells slots h1 h2 hP hD hS hl)
  rw [hsl, q4 k hk]
  simp [vp_V, hv]
/-- a field write -/
theorem wg_put (cx : CX ev f cc nL C rt rm) {ref C9 : String} {T : u_T} {ty0 : Nat → FieldType} {N ci index a : Nat} {fs : List Value} {own9 : va_W} (q0 : Nat) (he : own[q0]? = some (a, ob ci fs)) (hc : vwCl[ci]? = some (C9, T, N)) (hin : ∀ w ∈ u_ws C9 T N, w ∈ lw_all) (hty : ∀ k, k < N → parseFieldDescriptor (T k).2.2.1 = some (ty0 k)) (hnm : ∀ a, a < N → ∀ b, b < N → a ≠ b → (T a).2.1 ≠ (T b).2.1) (k : Nat) (hk : k < N) (hlink : Cond.fieldLink C index ref (T k).2.1 (T k).2.2.1 ∈ lw_all) (hsame : ∀ x, f.s.fieldFound? (T k).1 (T k).2.1 (T k).2.2.1 = some x → f.s.fieldFound? ref (T k).2.1 (T k).2.2.1 = some x) (hfin : (T k).2.2.2 = false) {ty : FieldType} {v : Value} (hd1 : ty0 k = ty) (hn : narrow ty v = v) (hfit : fits ty v = true) (hl9 : k < fs.length) (h9 : own.set q0 (a, ob ci (fs.set k v)) = own9) (hd : decode cc pc = .ok (.putfield index, 3))
    (kk : WG ev f nL Q own9 lv st (pc + 3) kc ks) : WG ev f nL Q own lv (v :: .ref a :: st) pc kc ks := by
  subst h9
  exact fun H locs ls cells slots h1 h2 hP hD hS hl => va_put cx.x cx.b cx.ts hin ty0 hty hnm cx.own cx.K hP hD hS q0 he hc k hk (cx.ts _ hlink) hsame hfin (by rw [hty k hk, hd1]) hn hfit hl9 hd (fun H1 locs1 hP1 hD1 hS1 => kk H1 locs1 ls cells slots h1 h2 hP1 hD1 hS1 hl)
theorem wg_putN (cx : CX ev f cc nL C rt rm) {ref C9 host : String} {T : u_T} {ty0 : Nat → FieldType} {N ci index a : Nat} {fs : List Value} {own9 : va_W} (q0 : Nat) (he : own[q0]? = some (a, ob ci fs)) (hc : vwCl[ci]? = some (C9, T, N)) (hin : ∀ w ∈ u_ws C9 T N, w ∈ lw_all) (hty : ∀ k, k < N → parseFieldDescriptor (T k).2.2.1 = some (ty0 k)) (hnm : ∀ a, a < N → ∀ b, b < N → a ≠ b → (T a).2.1 ≠ (T b).2.1) (k : Nat) (hk : k < N) (hlink : Cond.fieldLinkNest C index ref (T k).2.1 (T k).2.2.1 host ∈ lw_tbl) (hsame : ∀ x, f.s.fieldFound? (T k).1 (T k).2.1 (T k).2.2.1 = some x → f.s.fieldFound? ref (T k).2.1 (T k).2.2.1 = some x) (hfin : (T k).2.2.2 = false) {ty : FieldType} {v : Value} (hd1 : ty0 k = ty) (hn : narrow ty v = v) (hfit : fits ty v = true) (hl9 : k < fs.length) (h9 : own.set q0 (a, ob ci (fs.set k v)) = own9) (hd : decode cc pc = .ok (.putfield index, 3))
    (kk : WG ev f nL Q own9 lv st (pc + 3) kc ks) : WG ev f nL Q own lv (v :: .ref a :: st) pc kc ks := by
  subst h9
  obtain ⟨b0, hE⟩ := cx.E
  have hw : va_Nw (.fieldLinkNest C index ref (T k).2.1 (T k).2.2.1 host) f.s := va_Nw.warmF cx.warm (va_Nw.of rfl (hE.1 _ hlink))
  exact fun H locs ls cells slots h1 h2 hP hD hS hl => va_putN cx.x cx.b cx.ts hin ty0 hty hnm cx.own cx.K hP hD hS q0 he hc k hk (hw.use rfl) hsame hfin (by rw [hty k hk, hd1]) hn hfit hl9 hd (fun H1 locs1 hP1 hD1 hS1 => kk H1 locs1 ls cells slots h1 h2 hP1 hD1 hS1 hl)
/-- a final field's write, in a constructor -/
theorem wg_putF (cx : CX ev f cc nL C rt rm) {ref C9 : String} {T : u_T} {ty0 : Nat → FieldType} {N ci index a : Nat} {fs : List Value} {own9 : va_W} (q0 : Nat) (he : own[q0]? = some (a, ob ci fs)) (hc : vwCl[ci]? = some (C9, T, N)) (hin : ∀ w ∈ u_ws C9 T N, w ∈ lw_all) (hty : ∀ k, k < N → parseFieldDescriptor (T k).2.2.1 = some (ty0 k)) (hnm : ∀ a, a < N → ∀ b, b < N → a ≠ b → (T a).2.1 ≠ (T b).2.1) (k : Nat) (hk : k < N) (hlink : Cond.fieldLink C index ref (T k).2.1 (T k).2.2.1 ∈ lw_all) (hsame : ∀ x, f.s.fieldFound? (T k).1 (T k).2.1 (T k).2.2.1 = some x → f.s.fieldFound? ref (T k).2.1 (T k).2.2.1 = some x) (hfin : (T k).2.2.2 = true) (hin2 : f.meth.name = "<init>") (hdecl : (T k).1 = C) {ty : FieldType} {v : Value} (hd1 : ty0 k = ty) (hn : narrow ty v = v) (hfit : fits ty v = true) (hl9 : k < fs.length) (h9 : own.set q0 (a, ob ci (fs.set k v)) = own9) (hd : decode cc pc = .ok (.putfield index, 3))
    (kk : WG ev f nL Q own9 lv st (pc + 3) kc ks) : WG ev f nL Q own lv (v :: .ref a :: st) pc kc ks := by
  subst h9
  exact fun H locs ls cells slots h1 h2 hP hD hS hl => va_putF cx.x cx.b cx.ts hin ty0 hty hnm cx.own cx.K hP hD hS q0 he hc k hk (cx.ts _ hlink) hsame hfin hin2 hdecl (by rw [hty k hk, hd1]) hn hfit hl9 hd (fun H1 locs1 hP1 hD1 hS1 => kk H1 locs1 ls cells slots h1 h2 hP1 hD1 hS1 hl)
/-- an array's length -/
theorem wg_alen (cx : CX ev f cc nL C rt rm) {a : Nat} {cA : ClassId} {x : vp_A} (hr : RD ev f own a (.inl (cA, x))) (t0 : Nat) {ty : FieldType} (ht : (tysA ev)[t0]? = some (cA, ty)) (hd : decode cc pc = .ok (.arraylength, 1)) (kk : WG ev f nL Q own lv (.int (jI (x.1 : Int)) :: st) (pc + 1) kc ks) : WG ev f nL Q own lv (.ref a :: st) pc kc ks := by
  intro H locs ls cells slots h1 h2 hP hD hS hl
  obtain ⟨cell, q1, q2, qu, qs, qz, q4⟩ := hr H locs hP hS
  exact W.alen (n := jI (x.1 : Int)) cx.x cx.b q1 (arr_is cx t0 ht q2 qs) (by rw [qz, jI_nat]) rfl rfl hd (kk H locs ls cells slots h1 h2 hP hD hS hl)
theorem jI_inC {i n : Nat} (h : i < n ∧ n < 2147483648) {cell : Cell} (hz : cell.slots.size = n) : ¬ (jI (i : Int) < 0 ∨ cell.slots.size ≤ (jI (i : Int)).toNatClampNeg) := by
  rw [hz]; exact jI_in h.1 h.2
/-- an int array read -/
theorem wg_iald (cx : CX ev f cc nL C rt rm) {a n : Nat} {v : Nat → Int} (hr : RD ev f own a (arI ev n v)) {z : Int} (i : Nat) (hz : z = (i : Int)) (hi : i < n ∧ n < 2147483648) (hd : decode cc pc = .ok (.iaload, 1)) (kk : WG ev f nL Q own lv (.int (jI (v i)) :: st) (pc + 1) kc ks) : WG ev f nL Q own lv (.int (jI z) :: .ref a :: st) pc kc ks := by
  subst hz
  intro H locs ls cells slots h1 h2 hP hD hS hl
  obtain ⟨cell, q1, q2, qu, qs, qz, q4⟩ := hr H locs hP hS
  exact W.iald (v := .int (jI (v i))) cx.x cx.b q1 (arr_is cx 0 rfl q2 qs) qu (jI_inC hi qz) (by rw [jI_cl (by omega)]; exact q4 i hi.1) rfl rfl hd (kk H locs ls cells slots h1 h2 hP hD hS hl)
theorem wg_bald (cx : CX ev f cc nL C rt rm) {a n : Nat} {v : Nat → Int} (hr : RD ev f own a (arB ev n v)) {z : Int} (i : Nat) (hz : z = (i : Int)) (hi : i < n ∧ n < 2147483648) (hd : decode cc pc = .ok (.baload, 1)) (kk : WG ev f nL Q own lv (.int (jI (v i)) :: st) (pc + 1) kc ks) : WG ev f nL Q own lv (.int (jI z) :: .ref a :: st) pc kc ks := by
  subst hz
  intro H locs ls cells slots h1 h2 hP hD hS hl
  obtain ⟨cell, q1, q2, qu, qs, qz, q4⟩ := hr H locs hP hS
  exact W.bald (v := .int (jI (v i))) cx.x cx.b q1 (arr_is cx 4 rfl q2 qs) qu (jI_inC hi qz) (by rw [jI_cl (by omega)]; exact q4 i hi.1) rfl rfl hd (kk H locs ls cells slots h1 h2 hP hD hS hl)
/-- an array of references read -/
theorem wg_aald (cx : CX ev f cc nL C rt rm) {a n : Nat} {cA : ClassId} {g : Nat → Option Nat} (hr : RD ev f own a (.inl (cA, n, .inr (.inr (.inr (.inr g)))))) (t0 : Nat) {C9 : String} (ht : (tysA ev)[t0]? = some (cA, .object C9)) {z : Int} (i : Nat) (hz : z = (i : Int)) (hi : i < n ∧ n < 2147483648) (hd : decode cc pc = .ok (.aaload, 1)) (kk : WG ev f nL Q own lv (va_rf (g i) :: st) (pc + 1) kc ks) : WG ev f nL Q own lv (.int (jI z) :: .ref a :: st) pc kc ks := by
  subst hz
  intro H locs ls cells slots h1 h2 hP hD hS hl
  obtain ⟨cell, q1, q2, qu, qs, qz, q4⟩ := hr H locs hP hS
  exact W.aald (v := va_rf (g i)) (ty := .object C9) cx.x cx.b q1 (arr_is cx t0 ht q2 qs) rfl qu (jI_inC hi qz) (by rw [jI_cl (by omega)]; exact q4 i hi.1) rfl rfl hd (kk H locs ls cells slots h1 h2 hP hD hS hl)
/-- an int array written -/
theorem wg_iast (cx : CX ev f cc nL C rt rm) {a n : Nat} {v : Nat → Int} {own9 : va_W} {x z : Int} (q0 : Nat) (he : own[q0]? = some (a, arI ev n v)) (i : Nat) (hz : z = (i : Int)) (hi : i < n ∧ n < 2147483648) (h9 : own.set q0 (a, arI ev n (ups v i x)) = own9) (hd : decode cc pc = .ok (.iastore, 1)) (kk : WG ev f nL Q own9 lv st (pc + 1) kc ks) : WG ev f nL Q own lv (.int (jI x) :: .int (jI z) :: .ref a :: st) pc kc ks := by
  subst hz; subst h9
  refine fun H locs ls cells slots h1 h2 hP hD hS hl => va_iast cx.x cx.b cx.K hP hD hS q0 0 he rfl (jI_in hi.1 hi.2) hd (fun H1 locs1 hP1 hD1 hS1 => ?_)
  rw [jI_cl (by omega), ups_jI] at hP1 hD1
  exact kk H1 locs1 ls cells slots h1 h2 hP1 hD1 hS1 hl
/-- a new object -/
theorem wg_new (cx : CX ev f cc nL C rt rm) {C9 : String} {T : u_T} {ty0 : Nat → FieldType} {N index : Nat} (ci : Nat) (hc : vwCl[ci]? = some (C9, T, N)) (hin : ∀ w ∈ u_ws C9 T N, w ∈ lw_all) (hty : ∀ k, k < N → parseFieldDescriptor (T k).2.2.1 = some (ty0 k)) (hcl : Cond.classLink C index C9 ∈ lw_all) {M : Nat} (hinst : Cond.instantiable C9 M ∈ lw_all) (hM : M = N) (hini : Cond.initialized C9 ∈ lw_all) {fs : List Value} (hfs : (List.range N).map (fun j => defaultValue (ty0 j)) = fs) (hd : decode cc pc = .ok (.new index, 3))
    (kk : ∀ q : Nat, WG ev f nL Q (own ++ [(q, ob ci fs)]) lv (.ref q :: st) (pc + 3) kc ks) : WG ev f nL Q own lv st pc (kc + 1) (ks + N) := by
  subst hM
  refine fun H locs ls cells slots h1 h2 hP hD hS hl => va_new cx.x cx.b cx.ts hin ty0 hty cx.own (cx.ts _ hcl) (cx.ts _ hinst) (cx.ts _ hini) cx.K hP hD hS cx.new hc (fs := fs) (fun j hj => ?_) (by omega) (by omega) hd (fun q H1 hP1 hD1 hS1 => kk q H1 locs ls (cells + 1) (slots + M) (by omega) (by omega) hP1 hD1 hS1 hl)
  rw [← hfs]
  simp [vp_V, hj]
/-- ends -/
theorem wg_iret {Qp : Option Value → va_W → Prop} {Xp : String → va_W → Prop} (cx : CX ev f cc nL C (some .int) rm) {v : Int32} (hd : decode cc pc = .ok (.ireturn, 1)) (hq : Qp (some (.int v)) own) : WG ev f nL (QQ ev f Qp Xp) own lv [.int v] pc kc ks := by
  intro H locs ls cells slots h1 h2 hP hD hS hl
  refine vx_ret (W.widen (k := f.R.cells) (n := f.R.slots) (by omega) (by omega) ?_)
  exact W.iret cx.x cx.b cx.ret (fun t ht hW => ⟨⟨_, own, rfl, hq, by rw [ht]; exact hP, hD⟩, va_S.F (by rw [cx.heap]; exact hS) ht⟩) hS.2.2 hd cx.locks
theorem wg_zret {Qp : Option Value → va_W → Prop} {Xp : String → va_W → Prop} {ty : FieldType} (cx : CX ev f cc nL C (some ty) rm) {v : Int32} (hn : narrow ty (.int v) = .int v) (hd : decode cc pc = .ok (.ireturn, 1)) (hq : Qp (some (.int v)) own) : WG ev f nL (QQ ev f Qp Xp) own lv [.int v] pc kc ks := by
  intro H locs ls cells slots h1 h2 hP hD hS hl
  refine vx_ret (W.widen (k := f.R.cells) (n := f.R.slots) (by omega) (by omega) ?_)
  exact W.zret cx.x cx.b cx.ret hn (fun t ht hW => ⟨⟨_, own, rfl, hq, by rw [ht]; exact hP, hD⟩, va_S.F (by rw [cx.heap]; exact hS) ht⟩) hS.2.2 hd cx.locks
theorem wg_lret {Qp : Option Value → va_W → Prop} {Xp : String → va_W → Prop} (cx : CX ev f cc nL C (some .long) rm) {v : Int64} (hd : decode cc pc = .ok (.lreturn, 1)) (hq : Qp (some (.long v)) own) : WG ev f nL (QQ ev f Qp Xp) own lv [.long v] pc kc ks := by
  intro H locs ls cells slots h1 h2 hP hD hS hl
  refine vx_ret (W.widen (k := f.R.cells) (n := f.R.slots) (by omega) (by omega) ?_)
  exact W.lret cx.x cx.b cx.ret (fun t ht hW => ⟨⟨_, own, rfl, hq, by rw [ht]; exact hP, hD⟩, va_S.F (by rw [cx.heap]; exact hS) ht⟩) hS.2.2 hd cx.locks
theorem wg_vret {Qp : Option Value → va_W → Prop} {Xp : String → va_W → Prop} (cx : CX ev f cc nL C none rm) (hd : decode cc pc = .ok (.return_, 1)) (hq : Qp none own) : WG ev f nL (QQ ev f Qp Xp) own lv [] pc kc ks := by
  intro H locs ls cells slots h1 h2 hP hD hS hl
  refine vx_ret (W.widen (k := f.R.cells) (n := f.R.slots) (by omega) (by omega) ?_)
  exact W.vret cx.x cx.b cx.ret (fun t ht hW => ⟨⟨_, own, rfl, hq, by rw [ht]; exact hP, hD⟩, va_S.F (by rw [cx.heap]; exact hS) ht⟩) hS.2.2 hd cx.locks
theorem wg_aret {Qp : Option Value → va_W → Prop} {Xp : String → va_W → Prop} {ty : FieldType} (cx : CX ev f cc nL C (some ty) rm) (hrt : (∃ n, ty = .object n) ∨ ∃ t, ty = .array t) {v : Value} (hv : isRf v) (hd : decode cc pc = .ok (.areturn, 1)) (hq : Qp (some v) own) : WG ev f nL (QQ ev f Qp Xp) own lv [v] pc kc ks := by
  intro H locs ls cells slots h1 h2 hP hD hS hl
  refine vx_ret (W.widen (k := f.R.cells) (n := f.R.slots) (by omega) (by omega) ?_)
  refine W.aret cx.x cx.b cx.ret hrt ?_ (fun t ht hW => ⟨⟨_, own, rfl, hq, by rw [ht]; exact hP, hD⟩, va_S.F (by rw [cx.heap]; exact hS) ht⟩) hS.2.2 hd cx.locks
  obtain ⟨o, rfl⟩ := hv
  cases o with
  | none => exact Or.inl rfl
  | some a => exact Or.inr ⟨a, rfl⟩
/-- an exception that isn't caught here -/
theorem wx_out {Qp : Option Value → va_W → Prop} {Xp : String → va_W → Prop} (cx : CX ev f cc nL C rt rm) {E : String} (hno : ∀ x ∈ f.c.exceptionTable.toList, covers x pc = false) (hx : Xp E own) : WX ev f nL (QQ ev f Qp Xp) own lv E st pc kc ks := by
  intro H locs ls cells slots q ce h1 h2 hP hD hS hl hq hv hcl
  exact vx_out hno cx.locks hq hv hcl (fun t ht hal => ⟨⟨own, hx, by rw [ht]; exact hP, hD⟩, va_S.F (by rw [cx.heap]; exact hS) ht⟩) hS.2.2 (by omega) (by omega)
/-- an exception that is caught here -/
theorem wx_catch (cx : CX ev f cc nL C rt rm) {E name : String} (pre : List ExceptionTableEntry) (x : ExceptionTableEntry) (suf : List ExceptionTableEntry) (hsplit : f.c.exceptionTable.toList = pre ++ x :: suf) (hpass : ∀ z ∈ pre, covers z pc = false ∨ (z.catchType ≠ 0 ∧ ∃ nm : String, (Cond.classLink C z.catchType nm).before f.args f.s = true ∧ va_Nc E nm f.s)) (hx : covers x pc = true) (h0 : x.catchType ≠ 0) (hlink : Cond.classLink C x.catchType name ∈ lw_all) (hcast : Cond.castable E name ∈ lw_tbl)
    (kk : ∀ q : Nat, WG ev f nL Q own lv [.ref q] x.handlerPc kc ks) : WX ev f nL Q own lv E st pc kc ks := by
  intro H locs ls cells slots q ce h1 h2 hP hD hS hl hq hv hcl
  obtain ⟨b0, hE⟩ := cx.E
  have hw : va_Nw (.castable E name) f.s := va_Nw.warmC cx.warm (va_Nw.of rfl (hE.1 _ hcast))
  exact vx_catch cx.own pre x suf hsplit hpass hx h0 (cx.ts _ hlink) (hw.use rfl) hq hv hcl (kk q H locs ls cells slots h1 h2 hP hD hS hl)
/-- a call's run, whatever the kind of the call: len bytes long, the callee's cells wc among ours -/
def Rn (f : FxT) (len : Nat) (H : Heap) (locs : List Loc) (cells slots mc ms : Nat) (g : JFrame) (rest : List Value) (Qa : State → Outcome → State → Prop) (XC : String → State → State → Prop) (free : Addr → Prop) : Prop :=
  ∀ T : State, T.heap = H → Stand f.p f.l f.e f.R f.s f.m f.args f.below f.meth f.c T locs cells slots →
    (∃ (v : Option Value) (st₀ t T' : State) (L : List Loc), st₀.heap = H ∧ Stand f.p f.l f.e f.R f.s f.m f.args f.below f.meth f.c T' (locs ++ L) (cells + mc) (slots + ms) ∧ (∀ q ∈ L, free q.base) ∧ T'.heap = t.heap ∧ T'.vm = t.vm ∧ Qa st₀ (.returned v) t ∧
      Goes f.p f.e f.below T g T' { g with pc := g.pc + len, stack := v.toList ++ rest }) ∨
    (∃ (q : Addr) (st₀ t T' : State) (L : List Loc) (E : String) (ce : Cell), st₀.heap = H ∧ Stand f.p f.l f.e f.R f.s f.m f.args f.below f.meth f.c T' (locs ++ L) (cells + mc) (slots + ms) ∧ (∀ z ∈ L, free z.base) ∧ T'.heap = t.heap ∧ T'.vm = t.vm ∧ XC E st₀ t ∧ t.heap[q]? = some ce ∧ ce.vm = .none ∧ f.s.vm.findClass E = some ce.cls ∧
      Steps f.p.tables f.e f.below (T.setTop g) ((T'.setTop { g with stack := rest }).pushFrame (.throwing q)))
def CR (ev : EvT) (f : FxT) (len : Nat) (own wc : va_W) (nL : Nat) (rm1 : Room) (st0 rest : List Value) (pc : Nat) (Qp1 : Option Value → va_W → Prop) (Xp1 : String → va_W → Prop) : Prop :=
  ∀ (H : Heap) (locs : List Loc) (ls : Array Slot) (cells slots : Nat), ls.size = nL → PP ev own H → PP ev wc H → va_D f.A wc → va_S f.A f.H0 H locs → cells + rm1.cells ≤ f.R.cells → slots + rm1.slots ≤ f.R.slots →
    ∃ a : Array Value, Rn f len H locs cells slots rm1.cells rm1.slots (F0 f.m pc ls st0) rest (Qc9 ev (va_A wc H.size) Qp1 a) (Xc9 ev (va_A wc H.size) Xp1) (va_A wc H.size)
/-- behind a call -/
theorem wg_callX (cx : CX ev f cc nL C rt rm) {len : Nat} {wc wr : va_W} {rm1 : Room} {st0 rest : List Value} {Qp1 : Option Value → va_W → Prop} {Xp1 : String → va_W → Prop} (hcr : CR ev f len own wc nL rm1 st0 rest pc Qp1 Xp1) (isC isR : List Nat) (hC : isC.map (fun i => own[i]?) = wc.map some) (hR : isR.map (fun i => own[i]?) = wr.map some) (hnd : va_nd isC = true ∧ va_nd isR = true) (hdis : ∀ i ∈ isR, i ∉ isC)
    (kx : ∀ (E : String) (w1 : va_W), Xp1 E w1 → WX ev f nL Q (wr ++ w1) lv E rest pc kc ks)
    (kk : ∀ (v : Option Value) (w1 : va_W), Qp1 v w1 → WG ev f nL Q (wr ++ w1) lv (v.toList ++ rest) (pc + len) kc ks) : WG ev f nL Q own lv st0 pc (kc + rm1.cells) (ks + rm1.slots) := by
  intro H locs ls cells slots h1 h2 hP hD hS hl T hT X
  have hPc : PP ev wc H := va_P.sub hP isC (fm_of_map _ _ _ hC)
  have hDc : va_D f.A wc := va_D.sub hD isC hnd.1 hC
  have hF := va_free (wc := wc) hD hS cx.new isC hC
  obtain ⟨a, hr⟩ := hcr H locs ls cells slots hl.1 hP hPc hDc hS (by omega) (by omega)
  have keep : ∀ {st₀ t T' : State} {L : List Loc}, st₀.heap = H → T'.heap = t.heap → (∀ q ∈ L, va_A wc H.size q.base) → va_F (va_A wc H.size) st₀ t → (∀ q : Nat, q < H.size → ¬ va_A wc H.size q → T'.heap[q]? = H[q]?) ∧ va_S f.A f.H0 T'.heap (locs ++ L) := by
    intro st₀ t T' L h0 e1 hL ⟨hz, hk⟩
    rw [h0] at hz hk
    refine ⟨fun q g1 g2 => by rw [e1]; exact hk q g1 g2, Nat.le_trans hS.1 (by rw [e1]; exact hz), fun q g1 g2 => by rw [e1, hk q (Nat.lt_of_lt_of_le g1 hS.1) (fun z => g2 (hF q z))]; exact hS.2.1 q g1 g2, fun q hq => ?_⟩
    rcases List.mem_append.mp hq with h | h
    · exact hS.2.2 q h
    · exact hF _ (hL q h)
  rcases hr T hT X with ⟨v, st₀, t, T', L, h0, X', hL, e1, e2, ⟨⟨v9, w1, hv, hq, hP1, hD1⟩, hfr⟩, go⟩ | ⟨q, st₀, t, T', L, E, ce, h0, X', hL, e1, e2, ⟨⟨w1, hq, hP1, hD1⟩, hfr⟩, hce, hcv, hcl, go⟩
  · cases hv
    obtain ⟨hun, hS1⟩ := keep h0 e1 hL hfr
    have hD1 : va_D (va_A wc H.size) w1 := hD1
    have hP1 : PP ev w1 T'.heap := by rw [e1]; exact hP1
    obtain ⟨hP2, hD2⟩ := va_join (wc := wc) (wr := wr) hP hD isC isR hC hR hnd.2 hdis hun hF hP1 hD1
    obtain ⟨t2, a1, b1⟩ := kk v w1 hq T'.heap (locs ++ L) ls (cells + rm1.cells) (slots + rm1.slots) (by omega) (by omega) hP2 hD2 hS1 hl T' rfl X'
    exact ⟨t2, go t2 a1, b1⟩
  · obtain ⟨hun, hS1⟩ := keep h0 e1 hL hfr
    have hP1 : PP ev w1 T'.heap := by rw [e1]; exact hP1
    obtain ⟨hP2, hD2⟩ := va_join (wc := wc) (wr := wr) hP hD isC isR hC hR hnd.2 hdis hun hF hP1 hD1
    obtain ⟨t2, a1, b1⟩ := kx E w1 hq T'.heap (locs ++ L) ls (cells + rm1.cells) (slots + rm1.slots) q ce (by omega) (by omega) hP2 hD2 hS1 hl (by rw [e1]; exact hce) hcv hcl T' rfl X'
    exact ⟨t2, go.trans a1, b1⟩
theorem wg_call (cx : CX ev f cc nL C rt rm) {len : Nat} {wc wr : va_W} {rm1 : Room} {st0 rest : List Value} {Qp1 : Option Value → va_W → Prop} (hcr : CR ev f len own wc nL rm1 st0 rest pc Qp1 nX) (isC isR : List Nat) (hC : isC.map (fun i => own[i]?) = wc.map some) (hR : isR.map (fun i => own[i]?) = wr.map some) (hnd : va_nd isC = true ∧ va_nd isR = true) (hdis : ∀ i ∈ isR, i ∉ isC)
    (kk : ∀ (v : Option Value) (w1 : va_W), Qp1 v w1 → WG ev f nL Q (wr ++ w1) lv (v.toList ++ rest) (pc + len) kc ks) : WG ev f nL Q own lv st0 pc (kc + rm1.cells) (ks + rm1.slots) :=
  wg_callX cx hcr isC isR hC hR hnd hdis (fun _ _ h => h.elim) kk
/-- the premises of a callee's contract, at the heap as it stands -/
theorem ct_pre (cx : CX ev f cc nL C rt rm) {y : MethodName} {wd : Cond} {rm1 : Room} {As : List Value} {ro : Heap → Prop} {wc : va_W} {Qp1 : Option Value → va_W → Prop} {Xp1 : String → va_W → Prop} (hM : Ct ev f.l y wd rm1 As ro wc Qp1 Xp1) (hro : PC ev f own ro) {H : Heap} {locs : List Loc} (hP : PP ev own H) (hPc : PP ev wc H) (hDc : va_D f.A wc) (hS : va_S f.A f.H0 H locs) :
    vx_Met f.l y (wd :: lw_all) rm1 (va_Pc As (fun U => ev.s0.WarmedH U.vm ∧ U.heap = H)) (Qc9 ev (va_A wc H.size) Qp1) (Xc9 ev (va_A wc H.size) Xp1) rm1.cells rm1.slots (va_A wc H.size) :=
  hM cx.E cx.notr H (cx.fzH hS) (hro H locs hP hS) hPc (va_D.weaken hDc (fun _ q _ h => cx.base q.1 h))
theorem ct_blind {s0 : State} {As : List Value} {H : Heap} : FrameBlind (va_Pc As (fun U => s0.WarmedH U.vm ∧ U.heap = H)) := fun _ _ _ _ h => h
theorem ct_at (cx : CX ev f cc nL C rt rm) {As : List Value} {H : Heap} : ∀ U : State, U.heap = H → f.s.WarmedH U.vm → va_Pc As (fun U => ev.s0.WarmedH U.vm ∧ U.heap = H) As.toArray U := fun _ hU hW => ⟨rfl, State.WarmedH.trans cx.warm hW, hU⟩
theorem ct_recv (cx : CX ev f cc nL C rt rm) {b ci : Nat} {fs : List Value} {q : vw_C} (hr : RD ev f own b (ob ci fs)) (hc : vwCl[ci]? = some q) {H : Heap} {locs : List Loc} (hP : PP ev own H) (hS : va_S f.A f.H0 H locs) : ∃ cell : Cell, H[b]? = some cell ∧ cell.vm.isStatics = false ∧ f.s.vm.findClass q.1 = some cell.cls := by
  obtain ⟨r, g1, cell, q1, q2, qu, qs, q4⟩ := hr H locs hP hS
  exact ⟨cell, q1, qs, by rw [q2]; exact (cx.K.1 ci q hc).2.1⟩
end WGH
