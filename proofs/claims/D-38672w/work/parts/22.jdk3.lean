set_option maxHeartbeats 4000000 in
theorem ct_valueOf (ev : EvT) (l : Launch) (z : Int) (hz : -128 ≤ z ∧ z ≤ 127) : Ct ev l yJ4_valueOf (.code yJ4_valueOf cJ4_valueOf 1 (some (Jvm.ClassFile.FieldType.object "java/lang/Integer"))) ({ frames := 0, cells := 0, slots := 0, locals := 0 } : Room) [.int (jI (z))] (fun _ => True) [] (fun v9 w9 => v9 = some (.ref (ev.ad (z + 128).toNat)) ∧ w9 = []) nX := by
  refine ct_of rfl (Nat.le_of_ble_eq_true rfl) ?_
  intro f hfl cx hA hro hP0 hD0 hnm hno
  show WG ev f 1 _ [] [(0, .int (jI (z)))] [] 0 0 0
  refine wg_iload_n cx rfl dJ4_valueOf_0 ?_
  refine wg_bipush cx (by decide) dJ4_valueOf_1 ?_
  refine wg_icmp_lt cx (by omega) 23 dJ4_valueOf_3 (by decide) (fun c_1 => ?_) (fun c_1 => ?_)
  · skip
    exact absurd c_1 (by omega)
  · skip
    refine wg_iload_n cx rfl dJ4_valueOf_6 ?_
    refine wg_gets cx cx.c.2.2.2.1 q168 (fun _ h9 => h9) dJ4_valueOf_7 ?_
    refine wg_icmp_gt cx (by omega) 23 dJ4_valueOf_10 (by decide) (fun c_2 => ?_) (fun c_2 => ?_)
    · skip
      exact absurd c_2 (by omega)
    · skip
      refine wg_gets cx cx.c.2.2.1 q170 (fun _ h9 => h9) dJ4_valueOf_13 ?_
      refine wg_iload_n cx rfl dJ4_valueOf_16 ?_
      refine wg_sipush cx (by decide) dJ4_valueOf_17 ?_
      refine wg_iadd cx dJ4_valueOf_20 ?_
      refine wg_cache (z := z) cx (by omega) (by omega) dJ4_valueOf_21 ?_
      exact wg_aret cx (Or.inl ⟨_, rfl⟩) (isRf_ref _) dJ4_valueOf_22 ⟨rfl, rfl⟩
set_option maxHeartbeats 4000000 in
theorem ct_intValue (ev : EvT) (l : Launch) (z : Int) (hz : -128 ≤ z ∧ z ≤ 127) : Ct ev l yJ4_intValue (.code yJ4_intValue cJ4_intValue 1 (some Jvm.ClassFile.FieldType.int)) ({ frames := 0, cells := 0, slots := 0, locals := 0 } : Room) [.ref (ev.ad (z + 128).toNat)] (fun _ => True) [] (fun v9 w9 => v9 = some (.int (jI (z))) ∧ w9 = []) nX := by
  refine ct_of rfl (Nat.le_of_ble_eq_true rfl) ?_
  intro f hfl cx hA hro hP0 hD0 hnm hno
  show WG ev f 1 _ [] [(0, .ref (ev.ad (z + 128).toNat))] [] 0 0 0
  refine wg_aload_n cx (isRf_ref _) rfl dJ4_intValue_0 ?_
  refine wg_get cx (rd_bx cx (by omega) _) rfl in_J4 0 (by decide) q181 (fun _ h9 => h9) rfl dJ4_intValue_1 ?_
  exact wg_iret cx dJ4_intValue_4 ⟨rfl, rfl⟩
set_option maxHeartbeats 4000000 in
theorem ct_iequals (ev : EvT) (l : Launch) (z : Int) (x : Int) (hz : (-128 ≤ z ∧ z ≤ 127) ∧ (x = -1000 ∨ (-128 ≤ x ∧ x ≤ 127))) : Ct ev l yJ4_equals (.code yJ4_equals cJ4_equals 2 (some Jvm.ClassFile.FieldType.boolean)) ({ frames := 1, cells := 0, slots := 0, locals := 20 } : Room) [.ref (ev.ad (z + 128).toNat), va_rf (bx ev (x))] (fun _ => True) [] (fun v9 w9 => v9 = some (.int (jI (bI (z = x)))) ∧ w9 = []) nX := by
  refine ct_of rfl (by simp [lg_sl, va_rf_cat, cat_i, cat_r, cat_l, cat_n]) ?_
  intro f hfl cx hA hro hP0 hD0 hnm hno
  rw [show lv_args 0 [.ref (ev.ad (z + 128).toNat), va_rf (bx ev (x))] = [(0, .ref (ev.ad (z + 128).toNat)), (1, va_rf (bx ev (x)))] by simp [lv_args, va_rf_cat, cat_i, cat_r, cat_l, cat_n]]
  show WG ev f 2 _ [] [(0, .ref (ev.ad (z + 128).toNat)), (1, va_rf (bx ev (x)))] [] 0 0 0
  refine wg_aload_n cx (isRf_rf _) rfl dJ4_equals_0 ?_
  refine wg_instB cx (by omega) q172 dJ4_equals_1 ?_
  refine wg_ifb_eq cx 27 dJ4_equals_4 (by decide) (fun c_1 => ?_) (fun c_1 => ?_)
  · skip
    refine wg_iconst cx dJ4_equals_27 ?_
    exact wg_zret cx rfl dJ4_equals_28 ⟨(by rw [bI_f (by omega)]), rfl⟩
  · skip
    refine wg_aload_n cx (isRf_ref _) rfl dJ4_equals_7 ?_
    refine wg_get cx (rd_bx cx (by omega) _) rfl in_J4 0 (by decide) q181 (fun _ h9 => h9) rfl dJ4_equals_8 ?_
    refine wg_aload_n cx (isRf_rf _) rfl dJ4_equals_11 ?_
    refine wg_castB cx (by omega) q172 dJ4_equals_12 ?_
    refine wg_st (st9 := [.ref (ev.ad (x + 128).toNat), .int (jI (z))]) (by rw [bx_some ev (by omega)]; rfl) ?_
    refine wg_call cx (wc := []) (wr := []) (cr_V (As := []) (rest := [.int (jI (z))]) cx (ct_intValue ev f.l x (by omega)) (mk_V (n := 0) cx q1120 q1121 (cx.ts _ q1122) q61 q1123 ⟨by decide, by decide⟩ (by decide +kernel) ⟨Nat.le_of_ble_eq_true rfl, Nat.le_of_ble_eq_true rfl⟩) (rd_bx cx (by omega) _) rfl PC.no rfl rfl (Nat.le_of_ble_eq_true rfl) dJ4_equals_15) [] [] rfl rfl ⟨rfl, rfl⟩ (by decide) (fun v w1 hq_2 => ?_)
    obtain ⟨rfl, rfl⟩ := hq_2
    refine wg_nm (own9 := []) (lv9 := [(0, .ref (ev.ad (z + 128).toNat)), (1, va_rf (bx ev (x)))]) (st9 := [.int (jI (x)), .int (jI (z))]) rfl rfl rfl ?_
    refine wg_icmp_ne cx (by omega) 25 dJ4_equals_18 (by decide) (fun c_3 => ?_) (fun c_3 => ?_)
    · skip
      refine wg_iconst cx dJ4_equals_25 ?_
      exact wg_zret cx rfl dJ4_equals_26 ⟨(by rw [bI_f (by omega)]), rfl⟩
    · skip
      refine wg_iconst cx dJ4_equals_21 ?_
      refine wg_goto cx 26 dJ4_equals_22 (by decide) ?_
      exact wg_zret cx rfl dJ4_equals_26 ⟨(by rw [bI_t (by omega)]), rfl⟩
set_option maxHeartbeats 4000000 in
theorem ct_ihash2 (ev : EvT) (l : Launch) (z : Int) : Ct ev l yJ4_hashCode_2 (.code yJ4_hashCode_2 cJ4_hashCode_2 1 (some Jvm.ClassFile.FieldType.int)) ({ frames := 0, cells := 0, slots := 0, locals := 0 } : Room) [.int (jI (z))] (fun _ => True) [] (fun v9 w9 => v9 = some (.int (jI (z))) ∧ w9 = []) nX := by
  refine ct_of rfl (Nat.le_of_ble_eq_true rfl) ?_
  intro f hfl cx hA hro hP0 hD0 hnm hno
  show WG ev f 1 _ [] [(0, .int (jI (z)))] [] 0 0 0
  refine wg_iload_n cx rfl dJ4_hashCode_2_0 ?_
  exact wg_iret cx dJ4_hashCode_2_1 ⟨rfl, rfl⟩
set_option maxHeartbeats 4000000 in
theorem ct_ihash (ev : EvT) (l : Launch) (z : Int) (hz : -128 ≤ z ∧ z ≤ 127) : Ct ev l yJ4_hashCode (.code yJ4_hashCode cJ4_hashCode 1 (some Jvm.ClassFile.FieldType.int)) ({ frames := 1, cells := 0, slots := 0, locals := 20 } : Room) [.ref (ev.ad (z + 128).toNat)] (fun _ => True) [] (fun v9 w9 => v9 = some (.int (jI (z))) ∧ w9 = []) nX := by
  refine ct_of rfl (Nat.le_of_ble_eq_true rfl) ?_
  intro f hfl cx hA hro hP0 hD0 hnm hno
  show WG ev f 1 _ [] [(0, .ref (ev.ad (z + 128).toNat))] [] 0 0 0
  refine wg_aload_n cx (isRf_ref _) rfl dJ4_hashCode_0 ?_
  refine wg_get cx (rd_bx cx (by omega) _) rfl in_J4 0 (by decide) q181 (fun _ h9 => h9) rfl dJ4_hashCode_1 ?_
  refine wg_call cx (wc := []) (wr := []) (cr_S (As := [.int (jI (z))]) (rest := []) cx (ct_ihash2 ev f.l z) (mk_S (n := 1) cx q1308 q1309 q61 q1310 ⟨by decide, by decide⟩ (by decide +kernel) ⟨Nat.le_of_ble_eq_true rfl, Nat.le_of_ble_eq_true rfl⟩) PC.no rfl rfl (Nat.le_of_ble_eq_true rfl) dJ4_hashCode_4) [] [] rfl rfl ⟨rfl, rfl⟩ (by decide) (fun v w1 hq_1 => ?_)
  obtain ⟨rfl, rfl⟩ := hq_1
  refine wg_nm (own9 := []) (lv9 := [(0, .ref (ev.ad (z + 128).toNat))]) (st9 := [.int (jI (z))]) rfl rfl rfl ?_
  exact wg_iret cx dJ4_hashCode_7 ⟨rfl, rfl⟩
