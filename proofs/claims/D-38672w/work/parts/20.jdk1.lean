set_option maxHeartbeats 4000000 in
theorem ct_checkIndexP (ev : EvT) (l : Launch) (i : Nat) (n : Nat) (o : Option Nat) (hi : i < n ∧ n < 2147483648) : Ct ev l yJ9_checkIndex (.code yJ9_checkIndex cJ9_checkIndex 3 (some Jvm.ClassFile.FieldType.int)) ({ frames := 0, cells := 0, slots := 0, locals := 0 } : Room) [.int (jI ((i : Int))), .int (jI ((n : Int))), va_rf (o)] (fun _ => True) [] (fun v9 w9 => v9 = some (.int (jI ((i : Int)))) ∧ w9 = []) nX := by
  refine ct_of rfl (by simp [lg_sl, va_rf_cat, cat_i, cat_r, cat_l, cat_n]) ?_
  intro f hfl cx hA hro hP0 hD0 hnm hno
  rw [show lv_args 0 [.int (jI ((i : Int))), .int (jI ((n : Int))), va_rf (o)] = [(0, .int (jI ((i : Int)))), (1, .int (jI ((n : Int)))), (2, va_rf (o))] by simp [lv_args, va_rf_cat, cat_i, cat_r, cat_l, cat_n]]
  show WG ev f 3 _ [] [(0, .int (jI ((i : Int)))), (1, .int (jI ((n : Int)))), (2, va_rf (o))] [] 0 0 0
  refine wg_iload_n cx rfl dJ9_checkIndex_0 ?_
  refine wg_if_lt cx (by omega) 9 dJ9_checkIndex_1 (by decide) (fun c_1 => ?_) (fun c_1 => ?_)
  · skip
    exact absurd c_1 (by omega)
  · skip
    refine wg_iload_n cx rfl dJ9_checkIndex_4 ?_
    refine wg_iload_n cx rfl dJ9_checkIndex_5 ?_
    refine wg_icmp_lt cx (by omega) 16 dJ9_checkIndex_6 (by decide) (fun c_2 => ?_) (fun c_2 => ?_)
    · skip
      refine wg_iload_n cx rfl dJ9_checkIndex_16 ?_
      exact wg_iret cx dJ9_checkIndex_17 ⟨rfl, rfl⟩
    · skip
      exact absurd c_2 (by omega)
set_option maxHeartbeats 4000000 in
theorem ct_checkIndex (ev : EvT) (l : Launch) (i : Nat) (n : Nat) (hi : i < n ∧ n < 2147483648) : Ct ev l yJ8_checkIndex (.code yJ8_checkIndex cJ8_checkIndex 2 (some Jvm.ClassFile.FieldType.int)) ({ frames := 1, cells := 0, slots := 0, locals := 22 } : Room) [.int (jI ((i : Int))), .int (jI ((n : Int)))] (fun _ => True) [] (fun v9 w9 => v9 = some (.int (jI ((i : Int)))) ∧ w9 = []) nX := by
  refine ct_of rfl (Nat.le_of_ble_eq_true rfl) ?_
  intro f hfl cx hA hro hP0 hD0 hnm hno
  show WG ev f 2 _ [] [(0, .int (jI ((i : Int)))), (1, .int (jI ((n : Int))))] [] 0 0 0
  refine wg_iload_n cx rfl dJ8_checkIndex_0 ?_
  refine wg_iload_n cx rfl dJ8_checkIndex_1 ?_
  refine wg_null cx dJ8_checkIndex_2 ?_
  refine wg_call cx (wc := []) (wr := []) (cr_S (As := [.int (jI ((i : Int))), .int (jI ((n : Int))), .null]) (rest := []) cx (ct_checkIndexP ev f.l i n none (by omega)) (mk_S (n := 3) cx q272 q273 q68 q274 ⟨by decide, by decide⟩ (by decide +kernel) ⟨Nat.le_of_ble_eq_true rfl, Nat.le_of_ble_eq_true rfl⟩) PC.no rfl rfl (Nat.le_of_ble_eq_true rfl) dJ8_checkIndex_3) [] [] rfl rfl ⟨rfl, rfl⟩ (by decide) (fun v w1 hq_1 => ?_)
  obtain ⟨rfl, rfl⟩ := hq_1
  refine wg_nm (own9 := []) (lv9 := [(0, .int (jI ((i : Int)))), (1, .int (jI ((n : Int))))]) (st9 := [.int (jI ((i : Int)))]) rfl rfl rfl ?_
  exact wg_iret cx dJ8_checkIndex_6 ⟨rfl, rfl⟩
set_option maxHeartbeats 4000000 in
theorem ct_S_comod (ev : EvT) (l : Launch) (a : Nat) (t : Nat) (r : Nat) (p : Option Nat) (o : Nat) (n : Nat) (m : Nat) (v : Nat → Int) : Ct ev l yJ18_checkForComodification (.code yJ18_checkForComodification cJ18_checkForComodification 1 none) ({ frames := 0, cells := 0, slots := 0, locals := 0 } : Room) [.ref a] (fun H => AT ev a (ob 4 [.int (jI (0)), .ref t, va_rf (p), .int (jI ((o : Int))), .int (jI ((n : Int)))]) H ∧ AT ev t (ob 3 [.int (jI (0)), .ref r]) H ∧ AT ev r (arR ev m v) H ∧ True) [] (fun v9 w9 => v9 = none ∧ w9 = []) nX := by
  refine ct_of rfl (Nat.le_of_ble_eq_true rfl) ?_
  intro f hfl cx hA hro hP0 hD0 hnm hno
  obtain ⟨h_s, h_st, h_r_, -⟩ := hro
  have r_s : ∀ own9, RD ev f own9 a (ob 4 [.int (jI (0)), .ref t, va_rf (p), .int (jI ((o : Int))), .int (jI ((n : Int)))]) := RD.nil hA h_s
  have r_st : ∀ own9, RD ev f own9 t (ob 3 [.int (jI (0)), .ref r]) := RD.nil hA h_st
  have r_r_ : ∀ own9, RD ev f own9 r (arR ev m v) := RD.nil hA h_r_
  show WG ev f 1 _ [] [(0, .ref a)] [] 0 0 0
  refine wg_aload_n cx (isRf_ref _) rfl dJ18_checkForComodification_0 ?_
  refine wg_get cx (r_s _) rfl in_J19 1 (by decide) q2082 (fun _ h9 => h9) rfl dJ18_checkForComodification_1 ?_
  refine wg_get cx (r_st _) rfl in_J10 0 (by decide) q143 (fun _ h9 => h9) rfl dJ18_checkForComodification_4 ?_
  refine wg_aload_n cx (isRf_ref _) rfl dJ18_checkForComodification_7 ?_
  refine wg_get cx (r_s _) rfl in_J19 0 (by decide) q146 (fun x9 h9 => u_same (cx.ts _ q147) x9 h9) rfl dJ18_checkForComodification_8 ?_
  refine wg_icmp_eq cx (by omega) 22 dJ18_checkForComodification_11 (by decide) (fun c_1 => ?_) (fun c_1 => ?_)
  · skip
    exact wg_vret cx dJ18_checkForComodification_22 ⟨rfl, rfl⟩
  · skip
    exact absurd c_1 (by omega)
set_option maxHeartbeats 4000000 in
theorem ct_S_size (ev : EvT) (l : Launch) (a : Nat) (t : Nat) (r : Nat) (p : Option Nat) (o : Nat) (n : Nat) (m : Nat) (v : Nat → Int) : Ct ev l yJ18_size (.code yJ18_size cJ18_size 1 (some Jvm.ClassFile.FieldType.int)) ({ frames := 1, cells := 0, slots := 0, locals := 20 } : Room) [.ref a] (fun H => AT ev a (ob 4 [.int (jI (0)), .ref t, va_rf (p), .int (jI ((o : Int))), .int (jI ((n : Int)))]) H ∧ AT ev t (ob 3 [.int (jI (0)), .ref r]) H ∧ AT ev r (arR ev m v) H ∧ True) [] (fun v9 w9 => v9 = some (.int (jI ((n : Int)))) ∧ w9 = []) nX := by
  refine ct_of rfl (Nat.le_of_ble_eq_true rfl) ?_
  intro f hfl cx hA hro hP0 hD0 hnm hno
  obtain ⟨h_s, h_st, h_r_, -⟩ := hro
  have r_s : ∀ own9, RD ev f own9 a (ob 4 [.int (jI (0)), .ref t, va_rf (p), .int (jI ((o : Int))), .int (jI ((n : Int)))]) := RD.nil hA h_s
  have r_st : ∀ own9, RD ev f own9 t (ob 3 [.int (jI (0)), .ref r]) := RD.nil hA h_st
  have r_r_ : ∀ own9, RD ev f own9 r (arR ev m v) := RD.nil hA h_r_
  show WG ev f 1 _ [] [(0, .ref a)] [] 0 0 0
  refine wg_aload_n cx (isRf_ref _) rfl dJ18_size_0 ?_
  refine wg_call cx (wc := []) (wr := []) (cr_V (As := []) (rest := []) cx (ct_S_comod ev f.l a t r p o n m v) (mk_V (n := 0) cx q355 q357 (sel_priv cx (C9 := "java/util/AbstractList$RandomAccessSubList") q2074 q356 q361 rfl q357 ⟨by decide, by decide⟩) q79 q359 ⟨by decide, by decide⟩ (by decide +kernel) ⟨Nat.le_of_ble_eq_true rfl, Nat.le_of_ble_eq_true rfl⟩) (r_s _) rfl (PC.and (r_s _) (PC.and (r_st _) (PC.and (r_r_ _) PC.no))) rfl rfl (Nat.le_of_ble_eq_true rfl) dJ18_size_1) [] [] rfl rfl ⟨rfl, rfl⟩ (by decide) (fun v w1 hq_1 => ?_)
  obtain ⟨rfl, rfl⟩ := hq_1
  refine wg_nm (own9 := []) (lv9 := [(0, .ref a)]) (st9 := []) rfl rfl rfl ?_
  refine wg_aload_n cx (isRf_ref _) rfl dJ18_size_4 ?_
  refine wg_get cx (r_s _) rfl in_J19 4 (by decide) q2087 (fun _ h9 => h9) rfl dJ18_size_5 ?_
  exact wg_iret cx dJ18_size_8 ⟨rfl, rfl⟩
set_option maxHeartbeats 4000000 in
theorem ct_T_size (ev : EvT) (l : Launch) (a : Nat) (r : Nat) (n : Nat) (v : Nat → Int) : Ct ev l yJ10_size (.code yJ10_size cJ10_size 1 (some Jvm.ClassFile.FieldType.int)) ({ frames := 0, cells := 0, slots := 0, locals := 0 } : Room) [.ref a] (fun H => AT ev a (ob 3 [.int (jI (0)), .ref r]) H ∧ AT ev r (arR ev n v) H ∧ True) [] (fun v9 w9 => v9 = some (.int (jI ((n : Int)))) ∧ w9 = []) nX := by
  refine ct_of rfl (Nat.le_of_ble_eq_true rfl) ?_
  intro f hfl cx hA hro hP0 hD0 hnm hno
  obtain ⟨h_t, h_r_, -⟩ := hro
  have r_t : ∀ own9, RD ev f own9 a (ob 3 [.int (jI (0)), .ref r]) := RD.nil hA h_t
  have r_r_ : ∀ own9, RD ev f own9 r (arR ev n v) := RD.nil hA h_r_
  show WG ev f 1 _ [] [(0, .ref a)] [] 0 0 0
  refine wg_aload_n cx (isRf_ref _) rfl dJ10_size_0 ?_
  refine wg_get cx (r_t _) rfl in_J10 1 (by decide) q293 (fun _ h9 => h9) rfl dJ10_size_1 ?_
  refine wg_alen cx (r_r_ _) 3 rfl dJ10_size_4 ?_
  exact wg_iret cx dJ10_size_5 ⟨rfl, rfl⟩
set_option maxHeartbeats 4000000 in
theorem ct_T_get (ev : EvT) (l : Launch) (a : Nat) (r : Nat) (n : Nat) (v : Nat → Int) (i : Nat) (hi : i < n ∧ n < 2147483648) : Ct ev l yJ10_get (.code yJ10_get cJ10_get 2 (some (Jvm.ClassFile.FieldType.object "java/lang/Object"))) ({ frames := 0, cells := 0, slots := 0, locals := 0 } : Room) [.ref a, .int (jI ((i : Int)))] (fun H => AT ev a (ob 3 [.int (jI (0)), .ref r]) H ∧ AT ev r (arR ev n v) H ∧ True) [] (fun v9 w9 => v9 = some (va_rf (bx ev (v i))) ∧ w9 = []) nX := by
  refine ct_of rfl (Nat.le_of_ble_eq_true rfl) ?_
  intro f hfl cx hA hro hP0 hD0 hnm hno
  obtain ⟨h_t, h_r_, -⟩ := hro
  have r_t : ∀ own9, RD ev f own9 a (ob 3 [.int (jI (0)), .ref r]) := RD.nil hA h_t
  have r_r_ : ∀ own9, RD ev f own9 r (arR ev n v) := RD.nil hA h_r_
  show WG ev f 2 _ [] [(0, .ref a), (1, .int (jI ((i : Int))))] [] 0 0 0
  refine wg_aload_n cx (isRf_ref _) rfl dJ10_get_0 ?_
  refine wg_get cx (r_t _) rfl in_J10 1 (by decide) q293 (fun _ h9 => h9) rfl dJ10_get_1 ?_
  refine wg_iload_n cx rfl dJ10_get_4 ?_
  refine wg_aald cx (r_r_ _) 3 rfl i (by omega) (by omega) dJ10_get_5 ?_
  exact wg_aret cx (Or.inl ⟨_, rfl⟩) (isRf_rf _) dJ10_get_6 ⟨rfl, rfl⟩
set_option maxHeartbeats 4000000 in
theorem ct_S_get (ev : EvT) (l : Launch) (a : Nat) (t : Nat) (r : Nat) (p : Option Nat) (o : Nat) (n : Nat) (m : Nat) (v : Nat → Int) (i : Nat) (hi : i < n ∧ o + n ≤ m ∧ m < 2147483648) : Ct ev l yJ18_get (.code yJ18_get cJ18_get 2 (some (Jvm.ClassFile.FieldType.object "java/lang/Object"))) ({ frames := 2, cells := 0, slots := 0, locals := 43 } : Room) [.ref a, .int (jI ((i : Int)))] (fun H => AT ev a (ob 4 [.int (jI (0)), .ref t, va_rf (p), .int (jI ((o : Int))), .int (jI ((n : Int)))]) H ∧ AT ev t (ob 3 [.int (jI (0)), .ref r]) H ∧ AT ev r (arR ev m v) H ∧ True) [] (fun v9 w9 => v9 = some (va_rf (bx ev (sh v o i))) ∧ w9 = []) nX := by
  refine ct_of rfl (Nat.le_of_ble_eq_true rfl) ?_
  intro f hfl cx hA hro hP0 hD0 hnm hno
  obtain ⟨h_s, h_st, h_r_, -⟩ := hro
  have r_s : ∀ own9, RD ev f own9 a (ob 4 [.int (jI (0)), .ref t, va_rf (p), .int (jI ((o : Int))), .int (jI ((n : Int)))]) := RD.nil hA h_s
  have r_st : ∀ own9, RD ev f own9 t (ob 3 [.int (jI (0)), .ref r]) := RD.nil hA h_st
  have r_r_ : ∀ own9, RD ev f own9 r (arR ev m v) := RD.nil hA h_r_
  show WG ev f 2 _ [] [(0, .ref a), (1, .int (jI ((i : Int))))] [] 0 0 0
  refine wg_iload_n cx rfl dJ18_get_0 ?_
  refine wg_aload_n cx (isRf_ref _) rfl dJ18_get_1 ?_
  refine wg_get cx (r_s _) rfl in_J19 4 (by decide) q2087 (fun _ h9 => h9) rfl dJ18_get_2 ?_
  refine wg_call cx (wc := []) (wr := []) (cr_S (As := [.int (jI ((i : Int))), .int (jI ((n : Int)))]) (rest := []) cx (ct_checkIndex ev f.l i n (by omega)) (mk_S (n := 2) cx q1000 q270 q67 q271 ⟨by decide, by decide⟩ (by decide +kernel) ⟨Nat.le_of_ble_eq_true rfl, Nat.le_of_ble_eq_true rfl⟩) PC.no rfl rfl (Nat.le_of_ble_eq_true rfl) dJ18_get_5) [] [] rfl rfl ⟨rfl, rfl⟩ (by decide) (fun v w1 hq_1 => ?_)
  obtain ⟨rfl, rfl⟩ := hq_1
  refine wg_nm (own9 := []) (lv9 := [(0, .ref a), (1, .int (jI ((i : Int))))]) (st9 := [.int (jI ((i : Int)))]) rfl rfl rfl ?_
  refine wg_pop cx rfl dJ18_get_8 ?_
  refine wg_aload_n cx (isRf_ref _) rfl dJ18_get_9 ?_
  refine wg_call cx (wc := []) (wr := []) (cr_V (As := []) (rest := []) cx (ct_S_comod ev f.l a t r p o n m v) (mk_V (n := 0) cx q355 q357 (sel_priv cx (C9 := "java/util/AbstractList$RandomAccessSubList") q2074 q356 q361 rfl q357 ⟨by decide, by decide⟩) q79 q359 ⟨by decide, by decide⟩ (by decide +kernel) ⟨Nat.le_of_ble_eq_true rfl, Nat.le_of_ble_eq_true rfl⟩) (r_s _) rfl (PC.and (r_s _) (PC.and (r_st _) (PC.and (r_r_ _) PC.no))) rfl rfl (Nat.le_of_ble_eq_true rfl) dJ18_get_10) [] [] rfl rfl ⟨rfl, rfl⟩ (by decide) (fun v w1 hq_2 => ?_)
  obtain ⟨rfl, rfl⟩ := hq_2
  refine wg_nm (own9 := []) (lv9 := [(0, .ref a), (1, .int (jI ((i : Int))))]) (st9 := []) rfl rfl rfl ?_
  refine wg_aload_n cx (isRf_ref _) rfl dJ18_get_13 ?_
  refine wg_get cx (r_s _) rfl in_J19 1 (by decide) q2082 (fun _ h9 => h9) rfl dJ18_get_14 ?_
  refine wg_aload_n cx (isRf_ref _) rfl dJ18_get_17 ?_
  refine wg_get cx (r_s _) rfl in_J19 3 (by decide) q2085 (fun _ h9 => h9) rfl dJ18_get_18 ?_
  refine wg_iload_n cx rfl dJ18_get_21 ?_
  refine wg_iadd cx dJ18_get_22 ?_
  refine wg_call cx (wc := []) (wr := []) (cr_U (As := [.int (jI ((o : Int) + (i : Int)))]) (rest := []) cx (ct_T_get ev f.l t r m v (o + i) (by omega)) (mk_U (n := 1) cx (x := ⟨"java/util/AbstractList", "get", "(I)Ljava/lang/Object;"⟩) (owner := "java/util/AbstractList") q1001 (cx.ts _ q996) (decl_abs cx q995) q1011 q1006 q69 q1007 ⟨by decide, by decide⟩ (by decide +kernel) ⟨Nat.le_of_ble_eq_true rfl, Nat.le_of_ble_eq_true rfl⟩) (r_st _) rfl (PC.and (r_st _) (PC.and (r_r_ _) PC.no)) rfl rfl (Nat.le_of_ble_eq_true rfl) dJ18_get_23) [] [] rfl rfl ⟨rfl, rfl⟩ (by decide) (fun v w1 hq_3 => ?_)
  obtain ⟨rfl, rfl⟩ := hq_3
  refine wg_nm (own9 := []) (lv9 := [(0, .ref a), (1, .int (jI ((i : Int))))]) (st9 := [va_rf (bx ev (v (o + i)))]) rfl rfl rfl ?_
  exact wg_aret cx (Or.inl ⟨_, rfl⟩) (isRf_rf _) dJ18_get_26 ⟨rfl, rfl⟩
