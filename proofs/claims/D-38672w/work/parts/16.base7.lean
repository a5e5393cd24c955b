/-! MY BASE 7: the constants' rows -/
set_option maxRecDepth 100000
section WGS
variable {ev : EvT} {f : FxT} {nL : Nat} {Q : State → Prop} {own : va_W} {lv : List (Nat × Value)} {st : List Value} {pc kc ks : Nat} {cc : ByteArray} {C : String} {rt : Option FieldType} {rm : Room}
theorem cx_A (cx : CX ev f cc nL C rt rm) {q : Nat} (h : ¬ bs ev q) : ¬ f.A q := fun z => h (cx.base q z)
/-- a static that nobody writes -/
theorem wg_gets (cx : CX ev f cc nL C rt rm) {C9 n d ref : String} {v : Value} {index : Nat} (hZ : va_Z C9 n d v (bs ev) ev.s0 ev.s0.heap) (hlink : Cond.fieldLink C index ref n d ∈ lw_all) (hsame : ∀ x, f.s.fieldFound? C9 n d = some x → f.s.fieldFound? ref n d = some x) (hd : decode cc pc = .ok (.getstatic index, 3)) (k : WG ev f nL Q own lv (v :: st) (pc + 3) kc ks) : WG ev f nL Q own lv st pc kc ks := by
  intro H locs ls cells slots h1 h2 hP hD hS hl
  have hZ9 := va_Z.moved (U := f.s) cx.warm.alike hZ
  obtain ⟨cf, kf, fi, fd, a, cell, g1, g2, g3, g4, g5, g6, g7, g8⟩ := hZ9
  have ha := (Array.getElem?_eq_some_iff.mp g5).1
  exact W.gets (g := F0 f.m pc ls st) cx.x cx.b cx.own (cx.ts _ hlink) (hsame _ g1) g2 g3 g4 (by rw [(cx.fzH hS).2 a ha]; exact g5) (fun e => by rw [e] at g6; cases g6) g7 rfl hd (k H locs ls cells slots h1 h2 hP hD hS hl)
theorem wg_getsN (cx : CX ev f cc nL C rt rm) {C9 n d ref host : String} {v : Value} {index : Nat} (hZ : va_Z C9 n d v (bs ev) ev.s0 ev.s0.heap) (hlink : Cond.fieldLinkNest C index ref n d host ∈ lw_tbl) (hsame : ∀ x, f.s.fieldFound? C9 n d = some x → f.s.fieldFound? ref n d = some x) (hd : decode cc pc = .ok (.getstatic index, 3)) (k : WG ev f nL Q own lv (v :: st) (pc + 3) kc ks) : WG ev f nL Q own lv st pc kc ks := by
  obtain ⟨b0, hE⟩ := cx.E
  have hw : va_Nw (.fieldLinkNest C index ref n d host) f.s := va_Nw.warmF cx.warm (va_Nw.of rfl (hE.1 _ hlink))
  intro H locs ls cells slots h1 h2 hP hD hS hl
  have hZ9 : va_Z C9 n d v f.A f.s f.s.heap := by
    rw [cx.heap]
    exact va_Z.kept (va_Z.narrow (va_Z.moved (U := f.s) cx.warm.alike hZ) (fun q z => cx.base q z)) (fun a ha _ => cx.fz.2 a ha)
  exact va_getsN cx.x cx.b hZ9 (by rw [cx.heap]; exact hS) cx.own (hw.use rfl) hsame hd (k H locs ls cells slots h1 h2 hP hD hS hl)
/-- a String constant -/
theorem wg_ldcS (cx : CX ev f cc nL C rt rm) {index : Nat} (i : Nat) {q : String × Nat × String × List Nat} (hq : sK[i]? = some q) (hC : q.1 = C ∧ q.2.1 = index) (hd : decode cc pc = .ok (.ldc index, 2)) (k : WG ev f nL Q own lv (.ref (ev.sc (10 + i)) :: st) (pc + 2) kc ks) : WG ev f nL Q own lv st pc kc ks := by
  obtain ⟨rfl, rfl⟩ := hC
  intro H locs ls cells slots h1 h2 hP hD hS hl
  have hR := (cx.c.2.2.2.2.2.2.2.2.2.2.2 i q hq).1
  exact va_ldcS cx.x cx.b cx.own (vk_R.warm cx.warm hR) hd (k H locs ls cells slots h1 h2 hP hD hS hl)
theorem rd_sK (cx : CX ev f cc nL C rt rm) (i : Nat) {q : String × Nat × String × List Nat} (hq : sK[i]? = some q) : ∀ own9, RD ev f own9 (ev.sc (10 + i)) (ob 18 [.ref (ev.sc (30 + i)), .int (jI 0)]) := fun own9 => RD.fz cx (cx.c.2.2.2.2.2.2.2.2.2.2.2 i q hq).2.1 own9
theorem rd_sB (cx : CX ev f cc nL C rt rm) (i : Nat) {q : String × Nat × String × List Nat} (hq : sK[i]? = some q) : ∀ own9, RD ev f own9 (ev.sc (30 + i)) (arB ev q.2.2.2.length (fun k => ((q.2.2.2.getD k 0 : Nat) : Int))) := fun own9 => RD.fz cx (cx.c.2.2.2.2.2.2.2.2.2.2.2 i q hq).2.2 own9
/-- a box's cell -/
theorem rd_bx (cx : CX ev f cc nL C rt rm) {z : Int} (h : -128 ≤ z ∧ z ≤ 127) : ∀ own9, RD ev f own9 (ev.ad (z + 128).toNat) (ob 17 [.int (jI z)]) := fun own9 => by
  have h1 := cx.c.1 (z + 128).toNat (by omega)
  have e : (((z + 128).toNat : Nat) : Int) - 128 = z := by omega
  rw [e] at h1
  exact RD.fz cx h1 own9
/-- the cache's place: the box of z -/
theorem wg_cache (cx : CX ev f cc nL C rt rm) {z z9 : Int} (h : -128 ≤ z ∧ z ≤ 127) (hz : z9 = z + 128) (hd : decode cc pc = .ok (.aaload, 1)) (k : WG ev f nL Q own lv (.ref (ev.ad (z + 128).toNat) :: st) (pc + 1) kc ks) : WG ev f nL Q own lv (.int (jI z9) :: .ref (ev.sc 0) :: st) pc kc ks := by
  intro H locs ls cells slots h1 h2 hP hD hS hl
  have hT : va_T (.object "java/lang/Integer") (ev.sc 0) 256 (fun k => .ref (ev.ad k)) f.A f.s f.s.heap := by
    obtain ⟨cell, g1, g2, g3, g4, g5, g6, g7⟩ := va_T.moved (U := f.s) cx.warm.alike cx.c.2.1
    have ha := (Array.getElem?_eq_some_iff.mp g1).1
    exact ⟨cell, by rw [cx.heap, cx.fz.2 _ ha]; exact g1, g2, g3, g4, g5, g6, fun z => g7 (cx.base _ z)⟩
  obtain ⟨n, hn⟩ : ∃ n : Nat, z + 128 = (n : Int) := ⟨(z + 128).toNat, by omega⟩
  subst hz
  rw [hn]
  have hn2 : n < 256 := by omega
  refine vb_tq cx.x cx.b hT (by rw [cx.heap]; exact hS) (jI_in hn2 (by omega)) (v := .ref (ev.ad n)) (by rw [jI_cl (by omega)]) hd ?_
  have e : ((n : Int)).toNat = n := Int.toNat_natCast n
  rw [hn, e] at k
  exact k H locs ls cells slots h1 h2 hP hD hS hl
end WGS
