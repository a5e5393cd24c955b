/-! MY BASE 2: a row an instruction (printed by gen/mkrows.py) -/
set_option maxRecDepth 100000
theorem lk_mem : ∀ (lv : List (Nat × Value)) (i : Nat) (v : Value), lv.lookup i = some v → (i, v) ∈ lv
  | [], i, v, h => by simp at h
  | (j, w) :: t, i, v, h => by
    simp only [List.lookup] at h
    split at h
    · rename_i e
      have e2 : i = j := by simpa using e
      cases h
      rw [e2]
      exact List.mem_cons_self
    · exact List.mem_cons_of_mem _ (lk_mem t i v h)
theorem lk_at {ls : Array Slot} {nL : Nat} {lv : List (Nat × Value)} (h : lv_has ls nL lv) {i : Nat} {v : Value} (hk : lv.lookup i = some v) : ls[i]? = some (.val v) := h.2.2 (i, v) (lk_mem lv i v hk)
def isRf (v : Value) : Prop := ∃ o : Option Nat, v = va_rf o
theorem va_rf_cat (o : Option Nat) : (va_rf o).category = 1 := by cases o <;> rfl
theorem isRf_ref (a : Nat) : isRf (.ref a) := ⟨some a, rfl⟩
theorem isRf_null : isRf .null := ⟨none, rfl⟩
theorem isRf_rf (o : Option Nat) : isRf (va_rf o) := ⟨o, rfl⟩
section WGR
variable {ev : EvT} {f : FxT} {nL : Nat} {Q : State → Prop} {own : va_W} {lv : List (Nat × Value)} {st : List Value} {pc kc ks : Nat} {cc : ByteArray} {C : String} {rt : Option FieldType} {rm : Room}
theorem wg_iconst (cx : CX ev f cc nL C rt rm) {n : Int}  (hd : decode cc pc = .ok (.iconst n, 1)) (k : WG ev f nL Q own lv (.int (jI n) :: st) (pc + 1) kc ks) : WG ev f nL Q own lv st pc kc ks := by
  exact fun H locs ls cells slots h1 h2 hP hD hS hl => lv_iconst cx.x cx.b hd rfl (k H locs ls cells slots h1 h2 hP hD hS hl)
theorem wg_bipush (cx : CX ev f cc nL C rt rm) {n : Int} (hv : (Int8.ofInt n).toInt32 = jI n)  (hd : decode cc pc = .ok (.bipush n, 2)) (k : WG ev f nL Q own lv (.int (jI n) :: st) (pc + 2) kc ks) : WG ev f nL Q own lv st pc kc ks := by
  exact fun H locs ls cells slots h1 h2 hP hD hS hl => lv_bipush cx.x cx.b hd hv (k H locs ls cells slots h1 h2 hP hD hS hl)
theorem wg_sipush (cx : CX ev f cc nL C rt rm) {n : Int} (hv : (Int16.ofInt n).toInt32 = jI n)  (hd : decode cc pc = .ok (.sipush n, 3)) (k : WG ev f nL Q own lv (.int (jI n) :: st) (pc + 3) kc ks) : WG ev f nL Q own lv st pc kc ks := by
  exact fun H locs ls cells slots h1 h2 hP hD hS hl => lv_sipush cx.x cx.b hd hv (k H locs ls cells slots h1 h2 hP hD hS hl)
theorem wg_lconst (cx : CX ev f cc nL C rt rm) {n : Fin 2} {v : Int64} (hv : Int64.ofNat (n : Nat) = v)  (hd : decode cc pc = .ok (.lconst n, 1)) (k : WG ev f nL Q own lv (.long v :: st) (pc + 1) kc ks) : WG ev f nL Q own lv st pc kc ks := by
  exact fun H locs ls cells slots h1 h2 hP hD hS hl => lv_lconst cx.x cx.b hd hv (k H locs ls cells slots h1 h2 hP hD hS hl)
theorem wg_null (cx : CX ev f cc nL C rt rm)  (hd : decode cc pc = .ok (.aconst_null, 1)) (k : WG ev f nL Q own lv (.null :: st) (pc + 1) kc ks) : WG ev f nL Q own lv st pc kc ks := by
  exact fun H locs ls cells slots h1 h2 hP hD hS hl => lv_null cx.x cx.b hd  (k H locs ls cells slots h1 h2 hP hD hS hl)
theorem wg_iload_n (cx : CX ev f cc nL C rt rm) {i : Fin 4} {x : Int32} (hv : lv.lookup (i : Nat) = some (.int x))  (hd : decode cc pc = .ok (.iload_n i, 1)) (k : WG ev f nL Q own lv (.int x :: st) (pc + 1) kc ks) : WG ev f nL Q own lv st pc kc ks := by
  exact fun H locs ls cells slots h1 h2 hP hD hS hl => lv_iload_n cx.x cx.b hd rfl (lk_at hl hv) (k H locs ls cells slots h1 h2 hP hD hS hl)
theorem wg_iload (cx : CX ev f cc nL C rt rm) {i : Nat} {x : Int32} (hv : lv.lookup i = some (.int x))  (hd : decode cc pc = .ok (.iload i, 2)) (k : WG ev f nL Q own lv (.int x :: st) (pc + 2) kc ks) : WG ev f nL Q own lv st pc kc ks := by
  exact fun H locs ls cells slots h1 h2 hP hD hS hl => lv_iload cx.x cx.b hd (lk_at hl hv) (k H locs ls cells slots h1 h2 hP hD hS hl)
theorem wg_lload_n (cx : CX ev f cc nL C rt rm) {i : Fin 4} {x : Int64} (hv : lv.lookup (i : Nat) = some (.long x))  (hd : decode cc pc = .ok (.lload_n i, 1)) (k : WG ev f nL Q own lv (.long x :: st) (pc + 1) kc ks) : WG ev f nL Q own lv st pc kc ks := by
  exact fun H locs ls cells slots h1 h2 hP hD hS hl => lv_lload_n cx.x cx.b hd rfl (lk_at hl hv) (k H locs ls cells slots h1 h2 hP hD hS hl)
theorem wg_lload (cx : CX ev f cc nL C rt rm) {i : Nat} {x : Int64} (hv : lv.lookup i = some (.long x))  (hd : decode cc pc = .ok (.lload i, 2)) (k : WG ev f nL Q own lv (.long x :: st) (pc + 2) kc ks) : WG ev f nL Q own lv st pc kc ks := by
  exact fun H locs ls cells slots h1 h2 hP hD hS hl => lv_lload cx.x cx.b hd (lk_at hl hv) (k H locs ls cells slots h1 h2 hP hD hS hl)
theorem wg_aload_n (cx : CX ev f cc nL C rt rm) {i : Fin 4} {v : Value} (hr : isRf v) (hv : lv.lookup (i : Nat) = some v)  (hd : decode cc pc = .ok (.aload_n i, 1)) (k : WG ev f nL Q own lv (v :: st) (pc + 1) kc ks) : WG ev f nL Q own lv st pc kc ks := by
  intro H locs ls cells slots h1 h2 hP hD hS hl
  have kk := k H locs ls cells slots h1 h2 hP hD hS hl
  obtain ⟨o, rfl⟩ := hr
  cases o with
  | none => exact lv_aload_nN cx.x cx.b hd rfl (lk_at hl hv) kk
  | some a => exact lv_aload_n cx.x cx.b hd rfl (lk_at hl hv) kk
theorem wg_aload (cx : CX ev f cc nL C rt rm) {i : Nat} {v : Value} (hr : isRf v) (hv : lv.lookup (i : Nat) = some v)  (hd : decode cc pc = .ok (.aload i, 2)) (k : WG ev f nL Q own lv (v :: st) (pc + 2) kc ks) : WG ev f nL Q own lv st pc kc ks := by
  intro H locs ls cells slots h1 h2 hP hD hS hl
  have kk := k H locs ls cells slots h1 h2 hP hD hS hl
  obtain ⟨o, rfl⟩ := hr
  cases o with
  | none => exact lv_aloadN cx.x cx.b hd (lk_at hl hv) kk
  | some a => exact lv_aload cx.x cx.b hd (lk_at hl hv) kk
theorem wg_istore_n (cx : CX ev f cc nL C rt rm) {i : Fin 4} {x : Int32} {lv' : List (Nat × Value)} (hd : decode cc pc = .ok (.istore_n i, 1)) (hn : (i : Nat) < nL) (hl9 : ((i : Nat), Value.int x) :: lv.filter (fun q => !(q.1 == (i : Nat)) && !(q.1 + 1 == (i : Nat) && q.2.category == 2)) = lv') (k : WG ev f nL Q own lv' st (pc + 1) kc ks) : WG ev f nL Q own lv (Value.int x :: st) pc kc ks := by
  exact fun H locs ls cells slots h1 h2 hP hD hS hl => lv_istore_n cx.x cx.b hd rfl hl hn hl9 (fun ls9 hl8 => k H locs ls9 cells slots h1 h2 hP hD hS hl8)
theorem wg_istore (cx : CX ev f cc nL C rt rm) {i : Nat} {x : Int32} {lv' : List (Nat × Value)} (hd : decode cc pc = .ok (.istore i, 2)) (hn : (i : Nat) < nL) (hl9 : ((i : Nat), Value.int x) :: lv.filter (fun q => !(q.1 == (i : Nat)) && !(q.1 + 1 == (i : Nat) && q.2.category == 2)) = lv') (k : WG ev f nL Q own lv' st (pc + 2) kc ks) : WG ev f nL Q own lv (Value.int x :: st) pc kc ks := by
  exact fun H locs ls cells slots h1 h2 hP hD hS hl => lv_istore cx.x cx.b hd hl hn hl9 (fun ls9 hl8 => k H locs ls9 cells slots h1 h2 hP hD hS hl8)
theorem wg_astore_n (cx : CX ev f cc nL C rt rm) {i : Fin 4} {v : Value} {lv' : List (Nat × Value)} (hr : isRf v) (hd : decode cc pc = .ok (.astore_n i, 1)) (hn : (i : Nat) < nL) (hl9 : ((i : Nat), v) :: lv.filter (fun q => !(q.1 == (i : Nat)) && !(q.1 + 1 == (i : Nat) && q.2.category == 2)) = lv') (k : WG ev f nL Q own lv' st (pc + 1) kc ks) : WG ev f nL Q own lv (v :: st) pc kc ks := by
  intro H locs ls cells slots h1 h2 hP hD hS hl
  obtain ⟨o, rfl⟩ := hr
  cases o with
  | none => exact lv_astore_nN cx.x cx.b hd rfl hl hn hl9 (fun ls9 hl8 => k H locs ls9 cells slots h1 h2 hP hD hS hl8)
  | some a => exact lv_astore_n cx.x cx.b hd rfl hl hn hl9 (fun ls9 hl8 => k H locs ls9 cells slots h1 h2 hP hD hS hl8)
theorem wg_astore (cx : CX ev f cc nL C rt rm) {i : Nat} {v : Value} {lv' : List (Nat × Value)} (hr : isRf v) (hd : decode cc pc = .ok (.astore i, 2)) (hn : (i : Nat) < nL) (hl9 : ((i : Nat), v) :: lv.filter (fun q => !(q.1 == (i : Nat)) && !(q.1 + 1 == (i : Nat) && q.2.category == 2)) = lv') (k : WG ev f nL Q own lv' st (pc + 2) kc ks) : WG ev f nL Q own lv (v :: st) pc kc ks := by
  intro H locs ls cells slots h1 h2 hP hD hS hl
  obtain ⟨o, rfl⟩ := hr
  cases o with
  | none => exact lv_astoreN cx.x cx.b hd hl hn hl9 (fun ls9 hl8 => k H locs ls9 cells slots h1 h2 hP hD hS hl8)
  | some a => exact lv_astore cx.x cx.b hd hl hn hl9 (fun ls9 hl8 => k H locs ls9 cells slots h1 h2 hP hD hS hl8)
theorem wg_dup (cx : CX ev f cc nL C rt rm) {v : Value} (hc : v.category = 1)  (hd : decode cc pc = .ok (.dup, 1)) (k : WG ev f nL Q own lv (v :: v :: st) (pc + 1) kc ks) : WG ev f nL Q own lv (v :: st) pc kc ks := by
  exact fun H locs ls cells slots h1 h2 hP hD hS hl => lv_dup cx.x cx.b hd hc (k H locs ls cells slots h1 h2 hP hD hS hl)
theorem wg_pop (cx : CX ev f cc nL C rt rm) {v : Value} (hc : v.category = 1)  (hd : decode cc pc = .ok (.pop, 1)) (k : WG ev f nL Q own lv st (pc + 1) kc ks) : WG ev f nL Q own lv (v :: st) pc kc ks := by
  exact fun H locs ls cells slots h1 h2 hP hD hS hl => lv_pop cx.x cx.b hd hc (k H locs ls cells slots h1 h2 hP hD hS hl)
theorem wg_dup_x1 (cx : CX ev f cc nL C rt rm) {v w : Value} (hc : v.category = 1) (hc2 : w.category = 1)  (hd : decode cc pc = .ok (.dup_x1, 1)) (k : WG ev f nL Q own lv (v :: w :: v :: st) (pc + 1) kc ks) : WG ev f nL Q own lv (v :: w :: st) pc kc ks := by
  exact fun H locs ls cells slots h1 h2 hP hD hS hl => lv_dup_x1 cx.x cx.b hd hc hc2 (k H locs ls cells slots h1 h2 hP hD hS hl)
theorem wg_dup_x2 (cx : CX ev f cc nL C rt rm) {v w u : Value} (hc : v.category = 1) (hc2 : w.category = 1) (hc3 : u.category = 1)  (hd : decode cc pc = .ok (.dup_x2, 1)) (k : WG ev f nL Q own lv (v :: w :: u :: v :: st) (pc + 1) kc ks) : WG ev f nL Q own lv (v :: w :: u :: st) pc kc ks := by
  exact fun H locs ls cells slots h1 h2 hP hD hS hl => lv_dup_x2 cx.x cx.b hd hc hc2 hc3 (k H locs ls cells slots h1 h2 hP hD hS hl)
theorem wg_iadd (cx : CX ev f cc nL C rt rm) {a b : Int}  (hd : decode cc pc = .ok (.iadd, 1)) (k : WG ev f nL Q own lv (.int (jI (a + b)) :: st) (pc + 1) kc ks) : WG ev f nL Q own lv (.int (jI b) :: .int (jI a) :: st) pc kc ks := by
  intro H locs ls cells slots h1 h2 hP hD hS hl
  refine lv_iadd cx.x cx.b hd ?_
  rw [jI_add]
  exact k H locs ls cells slots h1 h2 hP hD hS hl
theorem wg_isub (cx : CX ev f cc nL C rt rm) {a b : Int}  (hd : decode cc pc = .ok (.isub, 1)) (k : WG ev f nL Q own lv (.int (jI (a - b)) :: st) (pc + 1) kc ks) : WG ev f nL Q own lv (.int (jI b) :: .int (jI a) :: st) pc kc ks := by
  intro H locs ls cells slots h1 h2 hP hD hS hl
  refine lv_isub cx.x cx.b hd ?_
  rw [jI_sub]
  exact k H locs ls cells slots h1 h2 hP hD hS hl
theorem wg_imul (cx : CX ev f cc nL C rt rm) {a b : Int}  (hd : decode cc pc = .ok (.imul, 1)) (k : WG ev f nL Q own lv (.int (jI (a * b)) :: st) (pc + 1) kc ks) : WG ev f nL Q own lv (.int (jI b) :: .int (jI a) :: st) pc kc ks := by
  intro H locs ls cells slots h1 h2 hP hD hS hl
  refine lv_imul cx.x cx.b hd ?_
  rw [jI_mul]
  exact k H locs ls cells slots h1 h2 hP hD hS hl
theorem wg_ineg (cx : CX ev f cc nL C rt rm) {a : Int}  (hd : decode cc pc = .ok (.ineg, 1)) (k : WG ev f nL Q own lv (.int (jI (-a)) :: st) (pc + 1) kc ks) : WG ev f nL Q own lv (.int (jI a) :: st) pc kc ks := by
  intro H locs ls cells slots h1 h2 hP hD hS hl
  refine lv_ineg cx.x cx.b hd ?_
  rw [jI_neg]
  exact k H locs ls cells slots h1 h2 hP hD hS hl
theorem wg_ladd (cx : CX ev f cc nL C rt rm) {a b : Int}  (hd : decode cc pc = .ok (.ladd, 1)) (k : WG ev f nL Q own lv (.long (lI (a + b)) :: st) (pc + 1) kc ks) : WG ev f nL Q own lv (.long (lI b) :: .long (lI a) :: st) pc kc ks := by
  intro H locs ls cells slots h1 h2 hP hD hS hl
  refine lv_ladd cx.x cx.b hd ?_
  rw [lI_add]
  exact k H locs ls cells slots h1 h2 hP hD hS hl
theorem wg_lmul (cx : CX ev f cc nL C rt rm) {a b : Int}  (hd : decode cc pc = .ok (.lmul, 1)) (k : WG ev f nL Q own lv (.long (lI (a * b)) :: st) (pc + 1) kc ks) : WG ev f nL Q own lv (.long (lI b) :: .long (lI a) :: st) pc kc ks := by
  intro H locs ls cells slots h1 h2 hP hD hS hl
  refine lv_lmul cx.x cx.b hd ?_
  rw [lI_mul]
  exact k H locs ls cells slots h1 h2 hP hD hS hl
theorem wg_si {z : Int} (z9 : Int) (h : z = z9) (k : WG ev f nL Q own lv (.int (jI z9) :: st) pc kc ks) : WG ev f nL Q own lv (.int (jI z) :: st) pc kc ks := by
  rw [h]
  exact k
theorem wg_st {st9 : List Value} (h : st = st9) (k : WG ev f nL Q own lv st9 pc kc ks) : WG ev f nL Q own lv st pc kc ks := h ▸ k
theorem wg_lv {lv9 : List (Nat × Value)} (is : List Nat) (h : lv_pick lv is = lv9) (k : WG ev f nL Q own lv9 st pc kc ks) : WG ev f nL Q own lv st pc kc ks := fun H locs ls cells slots h1 h2 hP hD hS hl => k H locs ls cells slots h1 h2 hP hD hS (lv_sub hl is h)
theorem wg_lve {lv9 : List (Nat × Value)} (h : lv = lv9) (k : WG ev f nL Q own lv9 st pc kc ks) : WG ev f nL Q own lv st pc kc ks := h ▸ k
theorem wg_owe {own9 : va_W} (h : own = own9) (k : WG ev f nL Q own9 lv st pc kc ks) : WG ev f nL Q own lv st pc kc ks := h ▸ k
theorem wg_cr {kc9 ks9 : Nat} (h : kc9 ≤ kc ∧ ks9 ≤ ks) (k : WG ev f nL Q own lv st pc kc9 ks9) : WG ev f nL Q own lv st pc kc ks := fun H locs ls cells slots h1 h2 hP hD hS hl => k H locs ls cells slots (by omega) (by omega) hP hD hS hl
theorem wg_pc {pc9 : Nat} (h : pc = pc9) (k : WG ev f nL Q own lv st pc9 kc ks) : WG ev f nL Q own lv st pc kc ks := h ▸ k
theorem wg_icmp_eq (cx : CX ev f cc nL C rt rm) {a b : Int} (hr : (-2147483648 ≤ a ∧ a < 2147483648) ∧ -2147483648 ≤ b ∧ b < 2147483648) {off : Int} (tgt : Nat) (hd : decode cc pc = .ok (.if_icmp .eq off, 3)) (ht : (pc : Int) + off = (tgt : Int)) (kt : a = b → WG ev f nL Q own lv st tgt kc ks) (kf : ¬ a = b → WG ev f nL Q own lv st (pc + 3) kc ks) : WG ev f nL Q own lv (.int (jI b) :: .int (jI a) :: st) pc kc ks := by
  intro H locs ls cells slots h1 h2 hP hD hS hl
  refine lv_icmp_eq (tgt := tgt) cx.x cx.b hd ht (fun q => ?_) (fun q => ?_)
  · exact kt ((jI_inj hr).mp q) H locs ls cells slots h1 h2 hP hD hS hl
  · exact kf (fun z => q ((jI_inj hr).mpr z)) H locs ls cells slots h1 h2 hP hD hS hl
theorem wg_icmp_ne (cx : CX ev f cc nL C rt rm) {a b : Int} (hr : (-2147483648 ≤ a ∧ a < 2147483648) ∧ -2147483648 ≤ b ∧ b < 2147483648) {off : Int} (tgt : Nat) (hd : decode cc pc = .ok (.if_icmp .ne off, 3)) (ht : (pc : Int) + off = (tgt : Int)) (kt : ¬ a = b → WG ev f nL Q own lv st tgt kc ks) (kf : a = b → WG ev f nL Q own lv st (pc + 3) kc ks) : WG ev f nL Q own lv (.int (jI b) :: .int (jI a) :: st) pc kc ks := by
  intro H locs ls cells slots h1 h2 hP hD hS hl
  refine lv_icmp_ne (tgt := tgt) cx.x cx.b hd ht (fun q => ?_) (fun q => ?_)
  · exact kt (fun z => q ((jI_inj hr).mpr z)) H locs ls cells slots h1 h2 hP hD hS hl
  · exact kf ((jI_inj hr).mp q) H locs ls cells slots h1 h2 hP hD hS hl
theorem wg_icmp_lt (cx : CX ev f cc nL C rt rm) {a b : Int} (hr : (-2147483648 ≤ a ∧ a < 2147483648) ∧ -2147483648 ≤ b ∧ b < 2147483648) {off : Int} (tgt : Nat) (hd : decode cc pc = .ok (.if_icmp .lt off, 3)) (ht : (pc : Int) + off = (tgt : Int)) (kt : a < b → WG ev f nL Q own lv st tgt kc ks) (kf : ¬ a < b → WG ev f nL Q own lv st (pc + 3) kc ks) : WG ev f nL Q own lv (.int (jI b) :: .int (jI a) :: st) pc kc ks := by
  intro H locs ls cells slots h1 h2 hP hD hS hl
  refine lv_icmp_lt (tgt := tgt) cx.x cx.b hd ht (fun q => ?_) (fun q => ?_)
  · exact kt ((jI_lt hr).mp q) H locs ls cells slots h1 h2 hP hD hS hl
  · exact kf (fun z => q ((jI_lt hr).mpr z)) H locs ls cells slots h1 h2 hP hD hS hl
theorem wg_icmp_ge (cx : CX ev f cc nL C rt rm) {a b : Int} (hr : (-2147483648 ≤ a ∧ a < 2147483648) ∧ -2147483648 ≤ b ∧ b < 2147483648) {off : Int} (tgt : Nat) (hd : decode cc pc = .ok (.if_icmp .ge off, 3)) (ht : (pc : Int) + off = (tgt : Int)) (kt : b ≤ a → WG ev f nL Q own lv st tgt kc ks) (kf : ¬ b ≤ a → WG ev f nL Q own lv st (pc + 3) kc ks) : WG ev f nL Q own lv (.int (jI b) :: .int (jI a) :: st) pc kc ks := by
  intro H locs ls cells slots h1 h2 hP hD hS hl
  refine lv_icmp_ge (tgt := tgt) cx.x cx.b hd ht (fun q => ?_) (fun q => ?_)
  · exact kt ((jI_le ⟨hr.2, hr.1⟩).mp q) H locs ls cells slots h1 h2 hP hD hS hl
  · exact kf (fun z => q ((jI_le ⟨hr.2, hr.1⟩).mpr z)) H locs ls cells slots h1 h2 hP hD hS hl
theorem wg_icmp_gt (cx : CX ev f cc nL C rt rm) {a b : Int} (hr : (-2147483648 ≤ a ∧ a < 2147483648) ∧ -2147483648 ≤ b ∧ b < 2147483648) {off : Int} (tgt : Nat) (hd : decode cc pc = .ok (.if_icmp .gt off, 3)) (ht : (pc : Int) + off = (tgt : Int)) (kt : b < a → WG ev f nL Q own lv st tgt kc ks) (kf : ¬ b < a → WG ev f nL Q own lv st (pc + 3) kc ks) : WG ev f nL Q own lv (.int (jI b) :: .int (jI a) :: st) pc kc ks := by
  intro H locs ls cells slots h1 h2 hP hD hS hl
  refine lv_icmp_gt (tgt := tgt) cx.x cx.b hd ht (fun q => ?_) (fun q => ?_)
  · exact kt ((jI_lt ⟨hr.2, hr.1⟩).mp q) H locs ls cells slots h1 h2 hP hD hS hl
  · exact kf (fun z => q ((jI_lt ⟨hr.2, hr.1⟩).mpr z)) H locs ls cells slots h1 h2 hP hD hS hl
theorem wg_icmp_le (cx : CX ev f cc nL C rt rm) {a b : Int} (hr : (-2147483648 ≤ a ∧ a < 2147483648) ∧ -2147483648 ≤ b ∧ b < 2147483648) {off : Int} (tgt : Nat) (hd : decode cc pc = .ok (.if_icmp .le off, 3)) (ht : (pc : Int) + off = (tgt : Int)) (kt : a ≤ b → WG ev f nL Q own lv st tgt kc ks) (kf : ¬ a ≤ b → WG ev f nL Q own lv st (pc + 3) kc ks) : WG ev f nL Q own lv (.int (jI b) :: .int (jI a) :: st) pc kc ks := by
  intro H locs ls cells slots h1 h2 hP hD hS hl
  refine lv_icmp_le (tgt := tgt) cx.x cx.b hd ht (fun q => ?_) (fun q => ?_)
  · exact kt ((jI_le hr).mp q) H locs ls cells slots h1 h2 hP hD hS hl
  · exact kf (fun z => q ((jI_le hr).mpr z)) H locs ls cells slots h1 h2 hP hD hS hl
theorem wg_if_eq (cx : CX ev f cc nL C rt rm) {a : Int} (hr : -2147483648 ≤ a ∧ a < 2147483648) {off : Int} (tgt : Nat) (hd : decode cc pc = .ok (.ifCond .eq off, 3)) (ht : (pc : Int) + off = (tgt : Int)) (kt : a = 0 → WG ev f nL Q own lv st tgt kc ks) (kf : ¬ a = 0 → WG ev f nL Q own lv st (pc + 3) kc ks) : WG ev f nL Q own lv (.int (jI a) :: st) pc kc ks := by
  intro H locs ls cells slots h1 h2 hP hD hS hl
  refine lv_if_eq (tgt := tgt) cx.x cx.b hd ht (fun q => ?_) (fun q => ?_)
  · exact kt ((jI_inj (show (-2147483648 ≤ a ∧ a < 2147483648) ∧ -2147483648 ≤ (0 : Int) ∧ (0 : Int) < 2147483648 by omega)).mp q) H locs ls cells slots h1 h2 hP hD hS hl
  · exact kf (fun z => q ((jI_inj (show (-2147483648 ≤ a ∧ a < 2147483648) ∧ -2147483648 ≤ (0 : Int) ∧ (0 : Int) < 2147483648 by omega)).mpr z)) H locs ls cells slots h1 h2 hP hD hS hl
theorem wg_if_ne (cx : CX ev f cc nL C rt rm) {a : Int} (hr : -2147483648 ≤ a ∧ a < 2147483648) {off : Int} (tgt : Nat) (hd : decode cc pc = .ok (.ifCond .ne off, 3)) (ht : (pc : Int) + off = (tgt : Int)) (kt : ¬ a = 0 → WG ev f nL Q own lv st tgt kc ks) (kf : a = 0 → WG ev f nL Q own lv st (pc + 3) kc ks) : WG ev f nL Q own lv (.int (jI a) :: st) pc kc ks := by
  intro H locs ls cells slots h1 h2 hP hD hS hl
  refine lv_if_ne (tgt := tgt) cx.x cx.b hd ht (fun q => ?_) (fun q => ?_)
  · exact kt (fun z => q ((jI_inj (show (-2147483648 ≤ a ∧ a < 2147483648) ∧ -2147483648 ≤ (0 : Int) ∧ (0 : Int) < 2147483648 by omega)).mpr z)) H locs ls cells slots h1 h2 hP hD hS hl
  · exact kf ((jI_inj (show (-2147483648 ≤ a ∧ a < 2147483648) ∧ -2147483648 ≤ (0 : Int) ∧ (0 : Int) < 2147483648 by omega)).mp q) H locs ls cells slots h1 h2 hP hD hS hl
theorem wg_if_lt (cx : CX ev f cc nL C rt rm) {a : Int} (hr : -2147483648 ≤ a ∧ a < 2147483648) {off : Int} (tgt : Nat) (hd : decode cc pc = .ok (.ifCond .lt off, 3)) (ht : (pc : Int) + off = (tgt : Int)) (kt : a < 0 → WG ev f nL Q own lv st tgt kc ks) (kf : ¬ a < 0 → WG ev f nL Q own lv st (pc + 3) kc ks) : WG ev f nL Q own lv (.int (jI a) :: st) pc kc ks := by
  intro H locs ls cells slots h1 h2 hP hD hS hl
  refine lv_if_lt (tgt := tgt) cx.x cx.b hd ht (fun q => ?_) (fun q => ?_)
  · exact kt ((jI_lt (show (-2147483648 ≤ a ∧ a < 2147483648) ∧ -2147483648 ≤ (0 : Int) ∧ (0 : Int) < 2147483648 by omega)).mp q) H locs ls cells slots h1 h2 hP hD hS hl
  · exact kf (fun z => q ((jI_lt (show (-2147483648 ≤ a ∧ a < 2147483648) ∧ -2147483648 ≤ (0 : Int) ∧ (0 : Int) < 2147483648 by omega)).mpr z)) H locs ls cells slots h1 h2 hP hD hS hl
theorem wg_if_ge (cx : CX ev f cc nL C rt rm) {a : Int} (hr : -2147483648 ≤ a ∧ a < 2147483648) {off : Int} (tgt : Nat) (hd : decode cc pc = .ok (.ifCond .ge off, 3)) (ht : (pc : Int) + off = (tgt : Int)) (kt : 0 ≤ a → WG ev f nL Q own lv st tgt kc ks) (kf : ¬ 0 ≤ a → WG ev f nL Q own lv st (pc + 3) kc ks) : WG ev f nL Q own lv (.int (jI a) :: st) pc kc ks := by
  intro H locs ls cells slots h1 h2 hP hD hS hl
  refine lv_if_ge (tgt := tgt) cx.x cx.b hd ht (fun q => ?_) (fun q => ?_)
  · exact kt ((jI_le (show (-2147483648 ≤ (0 : Int) ∧ (0 : Int) < 2147483648) ∧ -2147483648 ≤ a ∧ a < 2147483648 by omega)).mp q) H locs ls cells slots h1 h2 hP hD hS hl
  · exact kf (fun z => q ((jI_le (show (-2147483648 ≤ (0 : Int) ∧ (0 : Int) < 2147483648) ∧ -2147483648 ≤ a ∧ a < 2147483648 by omega)).mpr z)) H locs ls cells slots h1 h2 hP hD hS hl
theorem wg_if_gt (cx : CX ev f cc nL C rt rm) {a : Int} (hr : -2147483648 ≤ a ∧ a < 2147483648) {off : Int} (tgt : Nat) (hd : decode cc pc = .ok (.ifCond .gt off, 3)) (ht : (pc : Int) + off = (tgt : Int)) (kt : 0 < a → WG ev f nL Q own lv st tgt kc ks) (kf : ¬ 0 < a → WG ev f nL Q own lv st (pc + 3) kc ks) : WG ev f nL Q own lv (.int (jI a) :: st) pc kc ks := by
  intro H locs ls cells slots h1 h2 hP hD hS hl
  refine lv_if_gt (tgt := tgt) cx.x cx.b hd ht (fun q => ?_) (fun q => ?_)
  · exact kt ((jI_lt (show (-2147483648 ≤ (0 : Int) ∧ (0 : Int) < 2147483648) ∧ -2147483648 ≤ a ∧ a < 2147483648 by omega)).mp q) H locs ls cells slots h1 h2 hP hD hS hl
  · exact kf (fun z => q ((jI_lt (show (-2147483648 ≤ (0 : Int) ∧ (0 : Int) < 2147483648) ∧ -2147483648 ≤ a ∧ a < 2147483648 by omega)).mpr z)) H locs ls cells slots h1 h2 hP hD hS hl
theorem wg_if_le (cx : CX ev f cc nL C rt rm) {a : Int} (hr : -2147483648 ≤ a ∧ a < 2147483648) {off : Int} (tgt : Nat) (hd : decode cc pc = .ok (.ifCond .le off, 3)) (ht : (pc : Int) + off = (tgt : Int)) (kt : a ≤ 0 → WG ev f nL Q own lv st tgt kc ks) (kf : ¬ a ≤ 0 → WG ev f nL Q own lv st (pc + 3) kc ks) : WG ev f nL Q own lv (.int (jI a) :: st) pc kc ks := by
  intro H locs ls cells slots h1 h2 hP hD hS hl
  refine lv_if_le (tgt := tgt) cx.x cx.b hd ht (fun q => ?_) (fun q => ?_)
  · exact kt ((jI_le (show (-2147483648 ≤ a ∧ a < 2147483648) ∧ -2147483648 ≤ (0 : Int) ∧ (0 : Int) < 2147483648 by omega)).mp q) H locs ls cells slots h1 h2 hP hD hS hl
  · exact kf (fun z => q ((jI_le (show (-2147483648 ≤ a ∧ a < 2147483648) ∧ -2147483648 ≤ (0 : Int) ∧ (0 : Int) < 2147483648 by omega)).mpr z)) H locs ls cells slots h1 h2 hP hD hS hl
theorem wg_goto (cx : CX ev f cc nL C rt rm) {off : Int} (tgt : Nat) (hd : decode cc pc = .ok (.goto off, 3)) (ht : (pc : Int) + off = (tgt : Int)) (k : WG ev f nL Q own lv st tgt kc ks) : WG ev f nL Q own lv st pc kc ks := fun H locs ls cells slots h1 h2 hP hD hS hl => lv_goto (tgt := tgt) cx.x cx.b hd ht (k H locs ls cells slots h1 h2 hP hD hS hl)
theorem wg_ifnonnull (cx : CX ev f cc nL C rt rm) {o : Option Nat} {off : Int} (tgt : Nat) (hd : decode cc pc = .ok (.ifnonnull off, 3)) (ht : (pc : Int) + off = (tgt : Int)) (kt : ∀ a : Nat, o = some a → WG ev f nL Q own lv st tgt kc ks) (kf : o = none → WG ev f nL Q own lv st (pc + 3) kc ks) : WG ev f nL Q own lv (va_rf o :: st) pc kc ks := by
  intro H locs ls cells slots h1 h2 hP hD hS hl
  cases o with
  | none => exact lv_ifnonnullN cx.x cx.b hd (kf rfl H locs ls cells slots h1 h2 hP hD hS hl)
  | some a => exact lv_ifnonnull (tgt := tgt) cx.x cx.b hd ht (kt a rfl H locs ls cells slots h1 h2 hP hD hS hl)
theorem wg_ifnull (cx : CX ev f cc nL C rt rm) {o : Option Nat} {off : Int} (tgt : Nat) (hd : decode cc pc = .ok (.ifnull off, 3)) (ht : (pc : Int) + off = (tgt : Int)) (kt : o = none → WG ev f nL Q own lv st tgt kc ks) (kf : ∀ a : Nat, o = some a → WG ev f nL Q own lv st (pc + 3) kc ks) : WG ev f nL Q own lv (va_rf o :: st) pc kc ks := by
  intro H locs ls cells slots h1 h2 hP hD hS hl
  cases o with
  | none => exact lv_ifnullN (tgt := tgt) cx.x cx.b hd ht (kt rfl H locs ls cells slots h1 h2 hP hD hS hl)
  | some a => exact lv_ifnull cx.x cx.b hd (kf a rfl H locs ls cells slots h1 h2 hP hD hS hl)
theorem wg_ifnonnull_r (cx : CX ev f cc nL C rt rm) {a : Nat} {off : Int} (tgt : Nat) (hd : decode cc pc = .ok (.ifnonnull off, 3)) (ht : (pc : Int) + off = (tgt : Int)) (k : WG ev f nL Q own lv st tgt kc ks) : WG ev f nL Q own lv (.ref a :: st) pc kc ks := fun H locs ls cells slots h1 h2 hP hD hS hl => lv_ifnonnull (tgt := tgt) cx.x cx.b hd ht (k H locs ls cells slots h1 h2 hP hD hS hl)
theorem wg_ifnull_r (cx : CX ev f cc nL C rt rm) {a : Nat} {off : Int} (hd : decode cc pc = .ok (.ifnull off, 3)) (k : WG ev f nL Q own lv st (pc + 3) kc ks) : WG ev f nL Q own lv (.ref a :: st) pc kc ks := fun H locs ls cells slots h1 h2 hP hD hS hl => lv_ifnull cx.x cx.b hd (k H locs ls cells slots h1 h2 hP hD hS hl)
theorem wg_ifnonnull_n (cx : CX ev f cc nL C rt rm) {off : Int} (hd : decode cc pc = .ok (.ifnonnull off, 3)) (k : WG ev f nL Q own lv st (pc + 3) kc ks) : WG ev f nL Q own lv (.null :: st) pc kc ks := fun H locs ls cells slots h1 h2 hP hD hS hl => lv_ifnonnullN cx.x cx.b hd (k H locs ls cells slots h1 h2 hP hD hS hl)
theorem wg_ifnull_n (cx : CX ev f cc nL C rt rm) {off : Int} (tgt : Nat) (hd : decode cc pc = .ok (.ifnull off, 3)) (ht : (pc : Int) + off = (tgt : Int)) (k : WG ev f nL Q own lv st tgt kc ks) : WG ev f nL Q own lv (.null :: st) pc kc ks := fun H locs ls cells slots h1 h2 hP hD hS hl => lv_ifnullN (tgt := tgt) cx.x cx.b hd ht (k H locs ls cells slots h1 h2 hP hD hS hl)
theorem wg_acmp_eq (cx : CX ev f cc nL C rt rm) {rx ry : Option Nat} {off : Int} (tgt : Nat) (hd : decode cc pc = .ok (.if_acmp .eq off, 3)) (ht : (pc : Int) + off = (tgt : Int)) (kt : rx = ry → WG ev f nL Q own lv st tgt kc ks) (kf : ¬ rx = ry → WG ev f nL Q own lv st (pc + 3) kc ks) : WG ev f nL Q own lv (va_rf ry :: va_rf rx :: st) pc kc ks := fun H locs ls cells slots h1 h2 hP hD hS hl => lv_acmp_eq (tgt := tgt) cx.x cx.b hd ht (fun q => kt q H locs ls cells slots h1 h2 hP hD hS hl) (fun q => kf q H locs ls cells slots h1 h2 hP hD hS hl)
theorem wg_acmp_ne (cx : CX ev f cc nL C rt rm) {rx ry : Option Nat} {off : Int} (tgt : Nat) (hd : decode cc pc = .ok (.if_acmp .ne off, 3)) (ht : (pc : Int) + off = (tgt : Int)) (kt : ¬ rx = ry → WG ev f nL Q own lv st tgt kc ks) (kf : rx = ry → WG ev f nL Q own lv st (pc + 3) kc ks) : WG ev f nL Q own lv (va_rf ry :: va_rf rx :: st) pc kc ks := fun H locs ls cells slots h1 h2 hP hD hS hl => lv_acmp_ne (tgt := tgt) cx.x cx.b hd ht (fun q => kt q H locs ls cells slots h1 h2 hP hD hS hl) (fun q => kf q H locs ls cells slots h1 h2 hP hD hS hl)
theorem wg_i2l (cx : CX ev f cc nL C rt rm) {a : Int} (hd : decode cc pc = .ok (.i2l, 1)) (hr : -2147483648 ≤ a ∧ a < 2147483648) (k : WG ev f nL Q own lv (.long (lI a) :: st) (pc + 1) kc ks) : WG ev f nL Q own lv (.int (jI a) :: st) pc kc ks := by
  intro H locs ls cells slots h1 h2 hP hD hS hl
  refine lv_i2l cx.x cx.b hd (jI_l hr.1 hr.2) ?_
  exact k H locs ls cells slots h1 h2 hP hD hS hl
theorem wg_i2lW (cx : CX ev f cc nL C rt rm) {x : Int32} (hd : decode cc pc = .ok (.i2l, 1)) (k : WG ev f nL Q own lv (.long (lI x.toInt) :: st) (pc + 1) kc ks) : WG ev f nL Q own lv (.int x :: st) pc kc ks := by
  intro H locs ls cells slots h1 h2 hP hD hS hl
  refine lv_i2l cx.x cx.b hd (jI_lW x) ?_
  exact k H locs ls cells slots h1 h2 hP hD hS hl
theorem wg_iinc (cx : CX ev f cc nL C rt rm) {i : Nat} {n a : Int} {lv' : List (Nat × Value)} (hd : decode cc pc = .ok (.iinc i n, 3)) (hv : lv.lookup i = some (.int (jI a))) (hn : i < nL) (hl9 : (i, Value.int (jI (a + n))) :: lv.filter (fun q => !(q.1 == i) && !(q.1 + 1 == i && q.2.category == 2)) = lv') (k : WG ev f nL Q own lv' st (pc + 3) kc ks) : WG ev f nL Q own lv st pc kc ks := by
  intro H locs ls cells slots h1 h2 hP hD hS hl
  obtain ⟨k9, hk9⟩ := List.getElem?_of_mem (lk_mem _ _ _ hv)
  exact lv_iinc (v := jI (a + n)) cx.x cx.b hd hl hk9 (jI_add a n) hn hl9 (fun ls9 hl8 => k H locs ls9 cells slots h1 h2 hP hD hS hl8)
end WGR
