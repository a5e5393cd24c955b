set_option maxHeartbeats 4000000 in
theorem ct_AI_init (ev : EvT) (l : Launch) (it : Nat) (r : Nat) : Ct ev l yJ32_init (.code yJ32_init cJ32_init 2 none) ({ frames := 1, cells := 0, slots := 0, locals := 12 } : Room) [.ref it, .ref r] (fun _ => True) [(it, ob 5 [.int (jI (0)), .null])] (fun v9 w9 => v9 = none ∧ w9 = [(it, ob 5 [.int (jI (0)), .ref r])]) nX := by
  refine ct_of rfl (Nat.le_of_ble_eq_true rfl) ?_
  intro f hfl cx hA hro hP0 hD0 hnm hno
  show WG ev f 2 _ [(it, ob 5 [.int (jI (0)), .null])] [(0, .ref it), (1, .ref r)] [] 0 0 0
  refine wg_aload_n cx (isRf_ref _) rfl dJ32_init_0 ?_
  refine wg_objInit cx q1209 ⟨⟨q114, q115⟩, Nat.le_of_ble_eq_true rfl, (Nat.le_of_ble_eq_true rfl)⟩ dJ32_init_1 ?_
  refine wg_aload_n cx (isRf_ref _) rfl dJ32_init_4 ?_
  refine wg_aload_n cx (isRf_ref _) rfl dJ32_init_5 ?_
  refine wg_putF (own9 := [(it, ob 5 [.int (jI (0)), .ref r])]) cx 0 rfl rfl in_J32 tyJ32_ok nmJ32 1 (by decide) q1211 (fun _ h9 => h9) rfl hnm rfl rfl (narrow_ref (isRf_ref _)) (fits_arr (isRf_ref _)) (Nat.le_of_ble_eq_true rfl) rfl dJ32_init_6 ?_
  exact wg_vret cx dJ32_init_9 ⟨rfl, rfl⟩
set_option maxHeartbeats 4000000 in
theorem ct_T_iterator (ev : EvT) (l : Launch) (a : Nat) (r : Nat) (n : Nat) (v : Nat → Int) : Ct ev l yJ10_iterator (.code yJ10_iterator cJ10_iterator 1 (some (Jvm.ClassFile.FieldType.object "java/util/Iterator"))) ({ frames := 2, cells := 1, slots := 2, locals := 33 } : Room) [.ref a] (fun H => AT ev a (ob 3 [.int (jI (0)), .ref r]) H ∧ AT ev r (arR ev n v) H ∧ True) [] (fun v9 w9 => ∃ q : Nat, v9 = some (.ref q) ∧ w9 = [(q, ob 5 [.int (jI (0)), .ref r])]) nX := by
  refine ct_of rfl (Nat.le_of_ble_eq_true rfl) ?_
  intro f hfl cx hA hro hP0 hD0 hnm hno
  obtain ⟨h_t, h_r_, -⟩ := hro
  have r_t : ∀ own9, RD ev f own9 a (ob 3 [.int (jI (0)), .ref r]) := RD.nil hA h_t
  have r_r_ : ∀ own9, RD ev f own9 r (arR ev n v) := RD.nil hA h_r_
  show WG ev f 1 _ [] [(0, .ref a)] [] 0 1 2
  refine wg_new cx 5 rfl in_J32 tyJ32_ok q1204 q1205 rfl q93 (fs := [.int (jI (0)), .null]) rfl dJ10_iterator_0 (fun q_1 => ?_)
  refine wg_nm (own9 := [(q_1, ob 5 [.int (jI (0)), .null])]) (lv9 := [(0, .ref a)]) (st9 := [.ref q_1]) rfl rfl rfl ?_
  refine wg_dup cx rfl dJ10_iterator_3 ?_
  refine wg_aload_n cx (isRf_ref _) rfl dJ10_iterator_4 ?_
  refine wg_get cx (r_t _) rfl in_J10 1 (by decide) q293 (fun _ h9 => h9) rfl dJ10_iterator_5 ?_
  refine wg_call cx (wc := [(q_1, ob 5 [.int (jI (0)), .null])]) (wr := []) (cr_I (As := [.ref r]) (rest := [.ref q_1]) cx (ct_AI_init ev f.l q_1 r) (mk_I (n := 1) cx q1206 q1207 rfl q93 q1208 ⟨by decide, by decide⟩ (by decide +kernel) ⟨Nat.le_of_ble_eq_true rfl, Nat.le_of_ble_eq_true rfl⟩) PC.no rfl rfl (Nat.le_of_ble_eq_true rfl) dJ10_iterator_8) [0] [] rfl rfl ⟨rfl, rfl⟩ (by decide) (fun v w1 hq_2 => ?_)
  obtain ⟨rfl, rfl⟩ := hq_2
  refine wg_nm (own9 := [(q_1, ob 5 [.int (jI (0)), .ref r])]) (lv9 := [(0, .ref a)]) (st9 := [.ref q_1]) rfl rfl rfl ?_
  exact wg_aret cx (Or.inl ⟨_, rfl⟩) (isRf_ref _) dJ10_iterator_11 ⟨q_1, rfl, rfl⟩
set_option maxHeartbeats 4000000 in
theorem ct_AI_hasNext (ev : EvT) (l : Launch) (it : Nat) (c : Nat) (r : Nat) (n : Nat) (v : Nat → Int) (hc : c ≤ n ∧ n < 2147483648) : Ct ev l yJ32_hasNext (.code yJ32_hasNext cJ32_hasNext 1 (some Jvm.ClassFile.FieldType.boolean)) ({ frames := 0, cells := 0, slots := 0, locals := 0 } : Room) [.ref it] (fun H => AT ev it (ob 5 [.int (jI ((c : Int))), .ref r]) H ∧ AT ev r (arR ev n v) H ∧ True) [] (fun v9 w9 => v9 = some (.int (jI (bI (c < n)))) ∧ w9 = []) nX := by
  refine ct_of rfl (Nat.le_of_ble_eq_true rfl) ?_
  intro f hfl cx hA hro hP0 hD0 hnm hno
  obtain ⟨h_it, h_r_, -⟩ := hro
  have r_it : ∀ own9, RD ev f own9 it (ob 5 [.int (jI ((c : Int))), .ref r]) := RD.nil hA h_it
  have r_r_ : ∀ own9, RD ev f own9 r (arR ev n v) := RD.nil hA h_r_
  show WG ev f 1 _ [] [(0, .ref it)] [] 0 0 0
  refine wg_aload_n cx (isRf_ref _) rfl dJ32_hasNext_0 ?_
  refine wg_get cx (r_it _) rfl in_J32 0 (by decide) q1210 (fun _ h9 => h9) rfl dJ32_hasNext_1 ?_
  refine wg_aload_n cx (isRf_ref _) rfl dJ32_hasNext_4 ?_
  refine wg_get cx (r_it _) rfl in_J32 1 (by decide) q1211 (fun _ h9 => h9) rfl dJ32_hasNext_5 ?_
  refine wg_alen cx (r_r_ _) 3 rfl dJ32_hasNext_8 ?_
  refine wg_icmp_ge cx (by omega) 16 dJ32_hasNext_9 (by decide) (fun c_1 => ?_) (fun c_1 => ?_)
  · skip
    refine wg_iconst cx dJ32_hasNext_16 ?_
    exact wg_zret cx rfl dJ32_hasNext_17 ⟨(by rw [bI_f (by omega)]), rfl⟩
  · skip
    refine wg_iconst cx dJ32_hasNext_12 ?_
    refine wg_goto cx 17 dJ32_hasNext_13 (by decide) ?_
    exact wg_zret cx rfl dJ32_hasNext_17 ⟨(by rw [bI_t (by omega)]), rfl⟩
set_option maxHeartbeats 4000000 in
theorem ct_AI_next (ev : EvT) (l : Launch) (it : Nat) (c : Nat) (r : Nat) (n : Nat) (v : Nat → Int) (hc : c < n ∧ n < 2147483648) : Ct ev l yJ32_next (.code yJ32_next cJ32_next 2 (some (Jvm.ClassFile.FieldType.object "java/lang/Object"))) ({ frames := 0, cells := 0, slots := 0, locals := 0 } : Room) [.ref it] (fun H => AT ev r (arR ev n v) H ∧ True) [(it, ob 5 [.int (jI ((c : Int))), .ref r])] (fun v9 w9 => v9 = some (va_rf (bx ev (v c))) ∧ w9 = [(it, ob 5 [.int (jI ((c + 1 : Int))), .ref r])]) nX := by
  refine ct_of rfl (Nat.le_of_ble_eq_true rfl) ?_
  intro f hfl cx hA hro hP0 hD0 hnm hno
  obtain ⟨h_r_, -⟩ := hro
  have r_r_ : ∀ own9, RD ev f own9 r (arR ev n v) := RD.ne hA h_r_ (all_c (at_oa cx (AT.of (hP0 0 _ rfl)) h_r_ 3 rfl) all_n)
  show WG ev f 2 _ [(it, ob 5 [.int (jI ((c : Int))), .ref r])] [(0, .ref it)] [] 0 0 0
  refine wg_aload_n cx (isRf_ref _) rfl dJ32_next_0 ?_
  refine wg_get cx (RD.own 0 rfl) rfl in_J32 0 (by decide) q1210 (fun _ h9 => h9) rfl dJ32_next_1 ?_
  refine wg_istore_n (lv' := [(1, .int (jI ((c : Int)))), (0, .ref it)]) cx dJ32_next_4 (by decide) rfl ?_
  refine wg_iload_n cx rfl dJ32_next_5 ?_
  refine wg_aload_n cx (isRf_ref _) rfl dJ32_next_6 ?_
  refine wg_get cx (RD.own 0 rfl) rfl in_J32 1 (by decide) q1211 (fun _ h9 => h9) rfl dJ32_next_7 ?_
  refine wg_alen cx (r_r_ _) 3 rfl dJ32_next_10 ?_
  refine wg_icmp_lt cx (by omega) 22 dJ32_next_11 (by decide) (fun c_1 => ?_) (fun c_1 => ?_)
  · skip
    refine wg_aload_n cx (isRf_ref _) rfl dJ32_next_22 ?_
    refine wg_iload_n cx rfl dJ32_next_23 ?_
    refine wg_iconst cx dJ32_next_24 ?_
    refine wg_iadd cx dJ32_next_25 ?_
    refine wg_put (own9 := [(it, ob 5 [.int (jI ((c : Int) + 1)), .ref r])]) cx 0 rfl rfl in_J32 tyJ32_ok nmJ32 0 (by decide) q1210 (fun _ h9 => h9) rfl rfl rfl rfl (Nat.le_of_ble_eq_true rfl) rfl dJ32_next_26 ?_
    refine wg_aload_n cx (isRf_ref _) rfl dJ32_next_29 ?_
    refine wg_get cx (RD.own 0 rfl) rfl in_J32 1 (by decide) q1211 (fun _ h9 => h9) rfl dJ32_next_30 ?_
    refine wg_iload_n cx rfl dJ32_next_33 ?_
    refine wg_aald cx (r_r_ _) 3 rfl c (by omega) (by omega) dJ32_next_34 ?_
    exact wg_aret cx (Or.inl ⟨_, rfl⟩) (isRf_rf _) dJ32_next_35 ⟨rfl, rfl⟩
  · skip
    exact absurd c_1 (by omega)
set_option maxHeartbeats 4000000 in
theorem ct_Itr_init (ev : EvT) (l : Launch) (j : Nat) (t : Nat) (r : Nat) : Ct ev l yJ26_init (.code yJ26_init cJ26_init 2 none) ({ frames := 1, cells := 0, slots := 0, locals := 12 } : Room) [.ref j, .ref t] (fun H => AT ev t (ob 3 [.int (jI (0)), .ref r]) H ∧ True) [(j, ob 6 [.int (jI (0)), .int (jI (0)), .int (jI (0)), .null, .ref t])] (fun v9 w9 => v9 = none ∧ w9 = [(j, ob 6 [.int (jI (0)), .int (jI (-1)), .int (jI (0)), .ref t, .ref t])]) nX := by
  refine ct_of rfl (Nat.le_of_ble_eq_true rfl) ?_
  intro f hfl cx hA hro hP0 hD0 hnm hno
  obtain ⟨h_t, -⟩ := hro
  have r_t : ∀ own9, RD ev f own9 t (ob 3 [.int (jI (0)), .ref r]) := RD.ne hA h_t (all_c (at_oo cx (AT.of (hP0 0 _ rfl)) h_t rfl rfl (by decide)) all_n)
  show WG ev f 2 _ [(j, ob 6 [.int (jI (0)), .int (jI (0)), .int (jI (0)), .null, .ref t])] [(0, .ref j), (1, .ref t)] [] 0 0 0
  refine wg_aload_n cx (isRf_ref _) rfl dJ26_init_0 ?_
  refine wg_aload_n cx (isRf_ref _) rfl dJ26_init_1 ?_
  refine wg_putF9 (own9 := [(j, ob 6 [.int (jI (0)), .int (jI (0)), .int (jI (0)), .ref t, .ref t])]) cx 0 rfl rfl in_J27 tyJ27_ok (by decide +kernel) 3 (by decide) q896 (fun _ h9 => h9) rfl hnm rfl rfl (narrow_ref (isRf_ref _)) (fits_obj (isRf_ref _)) (Nat.le_of_ble_eq_true rfl) rfl dJ26_init_2 ?_
  refine wg_aload_n cx (isRf_ref _) rfl dJ26_init_5 ?_
  refine wg_objInit cx q885 ⟨⟨q114, q115⟩, Nat.le_of_ble_eq_true rfl, (Nat.le_of_ble_eq_true rfl)⟩ dJ26_init_6 ?_
  refine wg_aload_n cx (isRf_ref _) rfl dJ26_init_9 ?_
  refine wg_iconst cx dJ26_init_10 ?_
  refine wg_put9 (own9 := [(j, ob 6 [.int (jI (0)), .int (jI (0)), .int (jI (0)), .ref t, .ref t])]) cx 0 rfl rfl in_J27 tyJ27_ok (by decide +kernel) 0 (by decide) q887 (fun _ h9 => h9) rfl rfl rfl rfl (Nat.le_of_ble_eq_true rfl) rfl dJ26_init_11 ?_
  refine wg_aload_n cx (isRf_ref _) rfl dJ26_init_14 ?_
  refine wg_iconst cx dJ26_init_15 ?_
  refine wg_put9 (own9 := [(j, ob 6 [.int (jI (0)), .int (jI (-1)), .int (jI (0)), .ref t, .ref t])]) cx 0 rfl rfl in_J27 tyJ27_ok (by decide +kernel) 1 (by decide) q890 (fun _ h9 => h9) rfl rfl rfl rfl (Nat.le_of_ble_eq_true rfl) rfl dJ26_init_16 ?_
  refine wg_aload_n cx (isRf_ref _) rfl dJ26_init_19 ?_
  refine wg_aload_n cx (isRf_ref _) rfl dJ26_init_20 ?_
  refine wg_get cx (RD.own 0 rfl) rfl in_J27 3 (by decide) q896 (fun _ h9 => h9) rfl dJ26_init_21 ?_
  refine wg_get cx (r_t _) rfl in_J10 0 (by decide) q141 (fun _ h9 => h9) rfl dJ26_init_24 ?_
  refine wg_put9 (own9 := [(j, ob 6 [.int (jI (0)), .int (jI (-1)), .int (jI (0)), .ref t, .ref t])]) cx 0 rfl rfl in_J27 tyJ27_ok (by decide +kernel) 2 (by decide) q893 (fun _ h9 => h9) rfl rfl rfl rfl (Nat.le_of_ble_eq_true rfl) rfl dJ26_init_27 ?_
  exact wg_vret cx dJ26_init_30 ⟨rfl, rfl⟩
set_option maxHeartbeats 4000000 in
theorem ct_LI_init (ev : EvT) (l : Launch) (j : Nat) (t : Nat) (r : Nat) (i : Nat) : Ct ev l yJ27_init (.code yJ27_init cJ27_init 3 none) ({ frames := 2, cells := 0, slots := 0, locals := 33 } : Room) [.ref j, .ref t, .int (jI ((i : Int)))] (fun H => AT ev t (ob 3 [.int (jI (0)), .ref r]) H ∧ True) [(j, ob 6 [.int (jI (0)), .int (jI (0)), .int (jI (0)), .null, .null])] (fun v9 w9 => v9 = none ∧ w9 = [(j, ob 6 [.int (jI ((i : Int))), .int (jI (-1)), .int (jI (0)), .ref t, .ref t])]) nX := by
  refine ct_of rfl (Nat.le_of_ble_eq_true rfl) ?_
  intro f hfl cx hA hro hP0 hD0 hnm hno
  obtain ⟨h_t, -⟩ := hro
  have r_t : ∀ own9, RD ev f own9 t (ob 3 [.int (jI (0)), .ref r]) := RD.ne hA h_t (all_c (at_oo cx (AT.of (hP0 0 _ rfl)) h_t rfl rfl (by decide)) all_n)
  show WG ev f 3 _ [(j, ob 6 [.int (jI (0)), .int (jI (0)), .int (jI (0)), .null, .null])] [(0, .ref j), (1, .ref t), (2, .int (jI ((i : Int))))] [] 0 0 0
  refine wg_aload_n cx (isRf_ref _) rfl dJ27_init_0 ?_
  refine wg_aload_n cx (isRf_ref _) rfl dJ27_init_1 ?_
  refine wg_putF9 (own9 := [(j, ob 6 [.int (jI (0)), .int (jI (0)), .int (jI (0)), .null, .ref t])]) cx 0 rfl rfl in_J27 tyJ27_ok (by decide +kernel) 4 (by decide) q886 (fun _ h9 => h9) rfl hnm rfl rfl (narrow_ref (isRf_ref _)) (fits_obj (isRf_ref _)) (Nat.le_of_ble_eq_true rfl) rfl dJ27_init_2 ?_
  refine wg_aload_n cx (isRf_ref _) rfl dJ27_init_5 ?_
  refine wg_aload_n cx (isRf_ref _) rfl dJ27_init_6 ?_
  refine wg_call cx (wc := [(j, ob 6 [.int (jI (0)), .int (jI (0)), .int (jI (0)), .null, .ref t])]) (wr := []) (cr_IN (As := [.ref t]) (rest := []) cx (ct_Itr_init ev f.l j t r) (mk_IN (n := 1) cx q882 q883 rfl q87 q884 ⟨by decide, by decide⟩ (by decide +kernel) ⟨Nat.le_of_ble_eq_true rfl, Nat.le_of_ble_eq_true rfl⟩) (PC.and (r_t _) PC.no) rfl rfl (Nat.le_of_ble_eq_true rfl) dJ27_init_7) [0] [] rfl rfl ⟨rfl, rfl⟩ (by decide) (fun v w1 hq_1 => ?_)
  obtain ⟨rfl, rfl⟩ := hq_1
  refine wg_nm (own9 := [(j, ob 6 [.int (jI (0)), .int (jI (-1)), .int (jI (0)), .ref t, .ref t])]) (lv9 := [(0, .ref j), (1, .ref t), (2, .int (jI ((i : Int))))]) (st9 := []) rfl rfl rfl ?_
  refine wg_aload_n cx (isRf_ref _) rfl dJ27_init_10 ?_
  refine wg_iload_n cx rfl dJ27_init_11 ?_
  refine wg_put9 (own9 := [(j, ob 6 [.int (jI ((i : Int))), .int (jI (-1)), .int (jI (0)), .ref t, .ref t])]) cx 0 rfl rfl in_J27 tyJ27_ok (by decide +kernel) 0 (by decide) q888 (fun x9 h9 => u_same (cx.ts _ q889) x9 h9) rfl rfl rfl rfl (Nat.le_of_ble_eq_true rfl) rfl dJ27_init_12 ?_
  exact wg_vret cx dJ27_init_15 ⟨rfl, rfl⟩
set_option maxHeartbeats 4000000 in
theorem ct_T_rangeAdd (ev : EvT) (l : Launch) (a : Nat) (r : Nat) (n : Nat) (v : Nat → Int) (i : Nat) (hi : i ≤ n ∧ n < 2147483648) : Ct ev l yJ1_rangeCheckForAdd (.code yJ1_rangeCheckForAdd cJ1_rangeCheckForAdd 2 none) ({ frames := 1, cells := 0, slots := 0, locals := 20 } : Room) [.ref a, .int (jI ((i : Int)))] (fun H => AT ev a (ob 3 [.int (jI (0)), .ref r]) H ∧ AT ev r (arR ev n v) H ∧ True) [] (fun v9 w9 => v9 = none ∧ w9 = []) nX := by
  refine ct_of rfl (Nat.le_of_ble_eq_true rfl) ?_
  intro f hfl cx hA hro hP0 hD0 hnm hno
  obtain ⟨h_t, h_r_, -⟩ := hro
  have r_t : ∀ own9, RD ev f own9 a (ob 3 [.int (jI (0)), .ref r]) := RD.nil hA h_t
  have r_r_ : ∀ own9, RD ev f own9 r (arR ev n v) := RD.nil hA h_r_
  show WG ev f 2 _ [] [(0, .ref a), (1, .int (jI ((i : Int))))] [] 0 0 0
  refine wg_iload_n cx rfl dJ1_rangeCheckForAdd_0 ?_
  refine wg_if_lt cx (by omega) 12 dJ1_rangeCheckForAdd_1 (by decide) (fun c_1 => ?_) (fun c_1 => ?_)
  · skip
    exact absurd c_1 (by omega)
  · skip
    refine wg_iload_n cx rfl dJ1_rangeCheckForAdd_4 ?_
    refine wg_aload_n cx (isRf_ref _) rfl dJ1_rangeCheckForAdd_5 ?_
    refine wg_call cx (wc := []) (wr := []) (cr_U (As := []) (rest := [.int (jI ((i : Int)))]) cx (ct_T_size ev f.l a r n v) (mk_U (n := 0) cx (x := ⟨"java/util/AbstractList", "size", "()I"⟩) (owner := "java/util/AbstractCollection") q856 (cx.ts _ q857) (decl_abs cx q858) q863 q383 q69 q385 ⟨by decide, by decide⟩ (by decide +kernel) ⟨Nat.le_of_ble_eq_true rfl, Nat.le_of_ble_eq_true rfl⟩) (r_t _) rfl (PC.and (r_t _) (PC.and (r_r_ _) PC.no)) rfl rfl (Nat.le_of_ble_eq_true rfl) dJ1_rangeCheckForAdd_6) [] [] rfl rfl ⟨rfl, rfl⟩ (by decide) (fun v w1 hq_2 => ?_)
    obtain ⟨rfl, rfl⟩ := hq_2
    refine wg_nm (own9 := []) (lv9 := [(0, .ref a), (1, .int (jI ((i : Int))))]) (st9 := [.int (jI ((n : Int))), .int (jI ((i : Int)))]) rfl rfl rfl ?_
    refine wg_icmp_le cx (by omega) 25 dJ1_rangeCheckForAdd_9 (by decide) (fun c_3 => ?_) (fun c_3 => ?_)
    · skip
      exact wg_vret cx dJ1_rangeCheckForAdd_25 ⟨rfl, rfl⟩
    · skip
      exact absurd c_3 (by omega)
set_option maxHeartbeats 4000000 in
theorem ct_T_listIt (ev : EvT) (l : Launch) (a : Nat) (r : Nat) (n : Nat) (v : Nat → Int) (i : Nat) (hi : i ≤ n ∧ n < 2147483648) : Ct ev l yJ1_listIterator_2 (.code yJ1_listIterator_2 cJ1_listIterator_2 2 (some (Jvm.ClassFile.FieldType.object "java/util/ListIterator"))) ({ frames := 3, cells := 1, slots := 5, locals := 55 } : Room) [.ref a, .int (jI ((i : Int)))] (fun H => AT ev a (ob 3 [.int (jI (0)), .ref r]) H ∧ AT ev r (arR ev n v) H ∧ True) [] (fun v9 w9 => ∃ q : Nat, v9 = some (.ref q) ∧ w9 = [(q, ob 6 [.int (jI ((i : Int))), .int (jI (-1)), .int (jI (0)), .ref a, .ref a])]) nX := by
  refine ct_of rfl (Nat.le_of_ble_eq_true rfl) ?_
  intro f hfl cx hA hro hP0 hD0 hnm hno
  obtain ⟨h_t, h_r_, -⟩ := hro
  have r_t : ∀ own9, RD ev f own9 a (ob 3 [.int (jI (0)), .ref r]) := RD.nil hA h_t
  have r_r_ : ∀ own9, RD ev f own9 r (arR ev n v) := RD.nil hA h_r_
  show WG ev f 2 _ [] [(0, .ref a), (1, .int (jI ((i : Int))))] [] 0 1 5
  refine wg_aload_n cx (isRf_ref _) rfl dJ1_listIterator_2_0 ?_
  refine wg_iload_n cx rfl dJ1_listIterator_2_1 ?_
  refine wg_call cx (wc := []) (wr := []) (cr_V (As := [.int (jI ((i : Int)))]) (rest := []) cx (ct_T_rangeAdd ev f.l a r n v i (by omega)) (mk_V (n := 1) cx q852 q854 (sel_priv cx (C9 := "java/util/Arrays$ArrayList") q284 q853 q437 rfl q854 ⟨by decide, by decide⟩) q58 q855 ⟨by decide, by decide⟩ (by decide +kernel) ⟨Nat.le_of_ble_eq_true rfl, Nat.le_of_ble_eq_true rfl⟩) (r_t _) rfl (PC.and (r_t _) (PC.and (r_r_ _) PC.no)) rfl rfl (Nat.le_of_ble_eq_true rfl) dJ1_listIterator_2_2) [] [] rfl rfl ⟨rfl, rfl⟩ (by decide) (fun v w1 hq_1 => ?_)
  obtain ⟨rfl, rfl⟩ := hq_1
  refine wg_nm (own9 := []) (lv9 := [(0, .ref a), (1, .int (jI ((i : Int))))]) (st9 := []) rfl rfl rfl ?_
  refine wg_new cx 6 rfl in_J27 tyJ27_ok q877 q878 rfl q88 (fs := [.int (jI (0)), .int (jI (0)), .int (jI (0)), .null, .null]) rfl dJ1_listIterator_2_5 (fun q_2 => ?_)
  refine wg_nm (own9 := [(q_2, ob 6 [.int (jI (0)), .int (jI (0)), .int (jI (0)), .null, .null])]) (lv9 := [(0, .ref a), (1, .int (jI ((i : Int))))]) (st9 := [.ref q_2]) rfl rfl rfl ?_
  refine wg_dup cx rfl dJ1_listIterator_2_8 ?_
  refine wg_aload_n cx (isRf_ref _) rfl dJ1_listIterator_2_9 ?_
  refine wg_iload_n cx rfl dJ1_listIterator_2_10 ?_
  refine wg_call cx (wc := [(q_2, ob 6 [.int (jI (0)), .int (jI (0)), .int (jI (0)), .null, .null])]) (wr := []) (cr_I (As := [.ref a, .int (jI ((i : Int)))]) (rest := [.ref q_2]) cx (ct_LI_init ev f.l q_2 a r i) (mk_I (n := 2) cx q879 q880 rfl q88 q881 ⟨by decide, by decide⟩ (by decide +kernel) ⟨Nat.le_of_ble_eq_true rfl, Nat.le_of_ble_eq_true rfl⟩) (PC.and (r_t _) PC.no) rfl rfl (Nat.le_of_ble_eq_true rfl) dJ1_listIterator_2_11) [0] [] rfl rfl ⟨rfl, rfl⟩ (by decide) (fun v w1 hq_3 => ?_)
  obtain ⟨rfl, rfl⟩ := hq_3
  refine wg_nm (own9 := [(q_2, ob 6 [.int (jI ((i : Int))), .int (jI (-1)), .int (jI (0)), .ref a, .ref a])]) (lv9 := [(0, .ref a), (1, .int (jI ((i : Int))))]) (st9 := [.ref q_2]) rfl rfl rfl ?_
  exact wg_aret cx (Or.inl ⟨_, rfl⟩) (isRf_ref _) dJ1_listIterator_2_14 ⟨q_2, rfl, rfl⟩
set_option maxHeartbeats 4000000 in
theorem ct_T_listIt0 (ev : EvT) (l : Launch) (a : Nat) (r : Nat) (n : Nat) (v : Nat → Int) (hi : n < 2147483648) : Ct ev l yJ1_listIterator (.code yJ1_listIterator cJ1_listIterator 1 (some (Jvm.ClassFile.FieldType.object "java/util/ListIterator"))) ({ frames := 4, cells := 1, slots := 5, locals := 76 } : Room) [.ref a] (fun H => AT ev a (ob 3 [.int (jI (0)), .ref r]) H ∧ AT ev r (arR ev n v) H ∧ True) [] (fun v9 w9 => ∃ q : Nat, v9 = some (.ref q) ∧ w9 = [(q, ob 6 [.int (jI (0)), .int (jI (-1)), .int (jI (0)), .ref a, .ref a])]) nX := by
  refine ct_of rfl (Nat.le_of_ble_eq_true rfl) ?_
  intro f hfl cx hA hro hP0 hD0 hnm hno
  obtain ⟨h_t, h_r_, -⟩ := hro
  have r_t : ∀ own9, RD ev f own9 a (ob 3 [.int (jI (0)), .ref r]) := RD.nil hA h_t
  have r_r_ : ∀ own9, RD ev f own9 r (arR ev n v) := RD.nil hA h_r_
  show WG ev f 1 _ [] [(0, .ref a)] [] 0 1 5
  refine wg_aload_n cx (isRf_ref _) rfl dJ1_listIterator_0 ?_
  refine wg_iconst cx dJ1_listIterator_1 ?_
  refine wg_call cx (wc := []) (wr := []) (cr_V (As := [.int (jI (0))]) (rest := []) cx (ct_T_listIt ev f.l a r n v 0 (by omega)) (mk_V (n := 1) cx q439 q440 (cx.ts _ q850) q58 q851 ⟨by decide, by decide⟩ (by decide +kernel) ⟨Nat.le_of_ble_eq_true rfl, Nat.le_of_ble_eq_true rfl⟩) (r_t _) rfl (PC.and (r_t _) (PC.and (r_r_ _) PC.no)) rfl rfl (Nat.le_of_ble_eq_true rfl) dJ1_listIterator_2) [] [] rfl rfl ⟨rfl, rfl⟩ (by decide) (fun v w1 hq_1 => ?_)
  obtain ⟨q_2, rfl, rfl⟩ := hq_1
  refine wg_nm (own9 := [(q_2, ob 6 [.int (jI ((0 : Int))), .int (jI (-1)), .int (jI (0)), .ref a, .ref a])]) (lv9 := [(0, .ref a)]) (st9 := [.ref q_2]) rfl rfl rfl ?_
  exact wg_aret cx (Or.inl ⟨_, rfl⟩) (isRf_ref _) dJ1_listIterator_5 ⟨q_2, rfl, rfl⟩
set_option maxHeartbeats 4000000 in
theorem ct_LI_comod (ev : EvT) (l : Launch) (j : Nat) (c : Nat) (la : Int) (a : Nat) (r : Nat) (n : Nat) (v : Nat → Int) : Ct ev l yJ26_checkForComodification (.code yJ26_checkForComodification cJ26_checkForComodification 1 none) ({ frames := 0, cells := 0, slots := 0, locals := 0 } : Room) [.ref j] (fun H => AT ev j (ob 6 [.int (jI ((c : Int))), .int (jI (la)), .int (jI (0)), .ref a, .ref a]) H ∧ AT ev a (ob 3 [.int (jI (0)), .ref r]) H ∧ AT ev r (arR ev n v) H ∧ True) [] (fun v9 w9 => v9 = none ∧ w9 = []) nX := by
  refine ct_of rfl (Nat.le_of_ble_eq_true rfl) ?_
  intro f hfl cx hA hro hP0 hD0 hnm hno
  obtain ⟨h_j, h_t, h_r_, -⟩ := hro
  have r_j : ∀ own9, RD ev f own9 j (ob 6 [.int (jI ((c : Int))), .int (jI (la)), .int (jI (0)), .ref a, .ref a]) := RD.nil hA h_j
  have r_t : ∀ own9, RD ev f own9 a (ob 3 [.int (jI (0)), .ref r]) := RD.nil hA h_t
  have r_r_ : ∀ own9, RD ev f own9 r (arR ev n v) := RD.nil hA h_r_
  show WG ev f 1 _ [] [(0, .ref j)] [] 0 0 0
  refine wg_aload_n cx (isRf_ref _) rfl dJ26_checkForComodification_0 ?_
  refine wg_get cx (r_j _) rfl in_J27 3 (by decide) q896 (fun _ h9 => h9) rfl dJ26_checkForComodification_1 ?_
  refine wg_get cx (r_t _) rfl in_J10 0 (by decide) q141 (fun _ h9 => h9) rfl dJ26_checkForComodification_4 ?_
  refine wg_aload_n cx (isRf_ref _) rfl dJ26_checkForComodification_7 ?_
  refine wg_get cx (r_j _) rfl in_J27 2 (by decide) q893 (fun _ h9 => h9) rfl dJ26_checkForComodification_8 ?_
  refine wg_icmp_eq cx (by omega) 22 dJ26_checkForComodification_11 (by decide) (fun c_1 => ?_) (fun c_1 => ?_)
  · skip
    exact wg_vret cx dJ26_checkForComodification_22 ⟨rfl, rfl⟩
  · skip
    exact absurd c_1 (by omega)
set_option maxHeartbeats 4000000 in
theorem ct_LI_hasNext (ev : EvT) (l : Launch) (j : Nat) (c : Nat) (la : Int) (a : Nat) (r : Nat) (n : Nat) (v : Nat → Int) (hc : c ≤ n ∧ n < 2147483648) : Ct ev l yJ26_hasNext (.code yJ26_hasNext cJ26_hasNext 1 (some Jvm.ClassFile.FieldType.boolean)) ({ frames := 1, cells := 0, slots := 0, locals := 20 } : Room) [.ref j] (fun H => AT ev j (ob 6 [.int (jI ((c : Int))), .int (jI (la)), .int (jI (0)), .ref a, .ref a]) H ∧ AT ev a (ob 3 [.int (jI (0)), .ref r]) H ∧ AT ev r (arR ev n v) H ∧ True) [] (fun v9 w9 => v9 = some (.int (jI (bI (c < n)))) ∧ w9 = []) nX := by
  refine ct_of rfl (Nat.le_of_ble_eq_true rfl) ?_
  intro f hfl cx hA hro hP0 hD0 hnm hno
  obtain ⟨h_j, h_t, h_r_, -⟩ := hro
  have r_j : ∀ own9, RD ev f own9 j (ob 6 [.int (jI ((c : Int))), .int (jI (la)), .int (jI (0)), .ref a, .ref a]) := RD.nil hA h_j
  have r_t : ∀ own9, RD ev f own9 a (ob 3 [.int (jI (0)), .ref r]) := RD.nil hA h_t
  have r_r_ : ∀ own9, RD ev f own9 r (arR ev n v) := RD.nil hA h_r_
  show WG ev f 1 _ [] [(0, .ref j)] [] 0 0 0
  refine wg_aload_n cx (isRf_ref _) rfl dJ26_hasNext_0 ?_
  refine wg_get cx (r_j _) rfl in_J27 0 (by decide) q887 (fun _ h9 => h9) rfl dJ26_hasNext_1 ?_
  refine wg_aload_n cx (isRf_ref _) rfl dJ26_hasNext_4 ?_
  refine wg_get cx (r_j _) rfl in_J27 3 (by decide) q896 (fun _ h9 => h9) rfl dJ26_hasNext_5 ?_
  refine wg_call cx (wc := []) (wr := []) (cr_U (As := []) (rest := [.int (jI ((c : Int)))]) cx (ct_T_size ev f.l a r n v) (mk_U (n := 0) cx (x := ⟨"java/util/AbstractList", "size", "()I"⟩) (owner := "java/util/AbstractCollection") q934 (cx.ts _ q857) (decl_abs cx q858) q863 q383 q69 q385 ⟨by decide, by decide⟩ (by decide +kernel) ⟨Nat.le_of_ble_eq_true rfl, Nat.le_of_ble_eq_true rfl⟩) (r_t _) rfl (PC.and (r_t _) (PC.and (r_r_ _) PC.no)) rfl rfl (Nat.le_of_ble_eq_true rfl) dJ26_hasNext_8) [] [] rfl rfl ⟨rfl, rfl⟩ (by decide) (fun v w1 hq_1 => ?_)
  obtain ⟨rfl, rfl⟩ := hq_1
  refine wg_nm (own9 := []) (lv9 := [(0, .ref j)]) (st9 := [.int (jI ((n : Int))), .int (jI ((c : Int)))]) rfl rfl rfl ?_
  refine wg_icmp_eq cx (by omega) 18 dJ26_hasNext_11 (by decide) (fun c_2 => ?_) (fun c_2 => ?_)
  · skip
    refine wg_iconst cx dJ26_hasNext_18 ?_
    exact wg_zret cx rfl dJ26_hasNext_19 ⟨(by rw [bI_f (by omega)]), rfl⟩
  · skip
    refine wg_iconst cx dJ26_hasNext_14 ?_
    refine wg_goto cx 19 dJ26_hasNext_15 (by decide) ?_
    exact wg_zret cx rfl dJ26_hasNext_19 ⟨(by rw [bI_t (by omega)]), rfl⟩
set_option maxHeartbeats 4000000 in
theorem ct_LI_next (ev : EvT) (l : Launch) (j : Nat) (c : Nat) (la : Int) (a : Nat) (r : Nat) (n : Nat) (v : Nat → Int) (hc : c < n ∧ n < 2147483648) : Ct ev l yJ26_next (.codeWith yJ26_next cJ26_next 3 (some (Jvm.ClassFile.FieldType.object "java/lang/Object")) [(4, 31, 32, 39)]) ({ frames := 1, cells := 0, slots := 0, locals := 21 } : Room) [.ref j] (fun H => AT ev a (ob 3 [.int (jI (0)), .ref r]) H ∧ AT ev r (arR ev n v) H ∧ True) [(j, ob 6 [.int (jI ((c : Int))), .int (jI (la)), .int (jI (0)), .ref a, .ref a])] (fun v9 w9 => v9 = some (va_rf (bx ev (v c))) ∧ w9 = [(j, ob 6 [.int (jI ((c + 1 : Int))), .int (jI (c)), .int (jI (0)), .ref a, .ref a])]) nX := by
  refine ct_ofH rfl (Nat.le_of_ble_eq_true rfl) q987 ?_
  intro f hfl cx hA hro hP0 hD0 hnm hno
  obtain ⟨h_t, h_r_, -⟩ := hro
  have r_t : ∀ own9, RD ev f own9 a (ob 3 [.int (jI (0)), .ref r]) := RD.ne hA h_t (all_c (at_oo cx (AT.of (hP0 0 _ rfl)) h_t rfl rfl (by decide)) all_n)
  have r_r_ : ∀ own9, RD ev f own9 r (arR ev n v) := RD.ne hA h_r_ (all_c (at_oa cx (AT.of (hP0 0 _ rfl)) h_r_ 3 rfl) all_n)
  show WG ev f 3 _ [(j, ob 6 [.int (jI ((c : Int))), .int (jI (la)), .int (jI (0)), .ref a, .ref a])] [(0, .ref j)] [] 0 0 0
  refine wg_aload_n cx (isRf_ref _) rfl dJ26_next_0 ?_
  refine wg_call cx (wc := []) (wr := [(j, ob 6 [.int (jI ((c : Int))), .int (jI (la)), .int (jI (0)), .ref a, .ref a])]) (cr_V (As := []) (rest := []) cx (ct_LI_comod ev f.l j c la a r n v) (mk_V (n := 0) cx q988 q989 (cx.ts _ q992) q87 q993 ⟨by decide, by decide⟩ (by decide +kernel) ⟨Nat.le_of_ble_eq_true rfl, Nat.le_of_ble_eq_true rfl⟩) (RD.own 0 rfl) rfl (PC.and (RD.own 0 rfl) (PC.and (r_t _) (PC.and (r_r_ _) PC.no))) rfl rfl (Nat.le_of_ble_eq_true rfl) dJ26_next_1) [] [0] rfl rfl ⟨rfl, rfl⟩ (by decide) (fun v w1 hq_1 => ?_)
  obtain ⟨rfl, rfl⟩ := hq_1
  refine wg_nm (own9 := [(j, ob 6 [.int (jI ((c : Int))), .int (jI (la)), .int (jI (0)), .ref a, .ref a])]) (lv9 := [(0, .ref j)]) (st9 := []) rfl rfl rfl ?_
  refine wg_aload_n cx (isRf_ref _) rfl dJ26_next_4 ?_
  refine wg_get cx (RD.own 0 rfl) rfl in_J27 0 (by decide) q887 (fun _ h9 => h9) rfl dJ26_next_5 ?_
  refine wg_istore_n (lv' := [(1, .int (jI ((c : Int)))), (0, .ref j)]) cx dJ26_next_8 (by decide) rfl ?_
  refine wg_aload_n cx (isRf_ref _) rfl dJ26_next_9 ?_
  refine wg_get cx (RD.own 0 rfl) rfl in_J27 3 (by decide) q896 (fun _ h9 => h9) rfl dJ26_next_10 ?_
  refine wg_iload_n cx rfl dJ26_next_13 ?_
  refine wg_call cx (wc := []) (wr := [(j, ob 6 [.int (jI ((c : Int))), .int (jI (la)), .int (jI (0)), .ref a, .ref a])]) (cr_U (As := [.int (jI ((c : Int)))]) (rest := []) cx (ct_T_get ev f.l a r n v c (by omega)) (mk_U (n := 1) cx (x := ⟨"java/util/AbstractList", "get", "(I)Ljava/lang/Object;"⟩) (owner := "java/util/AbstractList") q994 (cx.ts _ q996) (decl_abs cx q995) q1011 q1006 q69 q1007 ⟨by decide, by decide⟩ (by decide +kernel) ⟨Nat.le_of_ble_eq_true rfl, Nat.le_of_ble_eq_true rfl⟩) (r_t _) rfl (PC.and (r_t _) (PC.and (r_r_ _) PC.no)) rfl rfl (Nat.le_of_ble_eq_true rfl) dJ26_next_14) [] [0] rfl rfl ⟨rfl, rfl⟩ (by decide) (fun v w1 hq_2 => ?_)
  obtain ⟨rfl, rfl⟩ := hq_2
  refine wg_nm (own9 := [(j, ob 6 [.int (jI ((c : Int))), .int (jI (la)), .int (jI (0)), .ref a, .ref a])]) (lv9 := [(1, .int (jI ((c : Int)))), (0, .ref j)]) (st9 := [va_rf (bx ev (v c))]) rfl rfl rfl ?_
  refine wg_astore_n (lv' := [(2, va_rf (bx ev (v c))), (1, .int (jI ((c : Int)))), (0, .ref j)]) cx (isRf_rf _) dJ26_next_17 (by decide) rfl ?_
  refine wg_aload_n cx (isRf_ref _) rfl dJ26_next_18 ?_
  refine wg_iload_n cx rfl dJ26_next_19 ?_
  refine wg_put9 (own9 := [(j, ob 6 [.int (jI ((c : Int))), .int (jI ((c : Int))), .int (jI (0)), .ref a, .ref a])]) cx 0 rfl rfl in_J27 tyJ27_ok (by decide +kernel) 1 (by decide) q890 (fun _ h9 => h9) rfl rfl rfl rfl (Nat.le_of_ble_eq_true rfl) rfl dJ26_next_20 ?_
  refine wg_aload_n cx (isRf_ref _) rfl dJ26_next_23 ?_
  refine wg_iload_n cx rfl dJ26_next_24 ?_
  refine wg_iconst cx dJ26_next_25 ?_
  refine wg_iadd cx dJ26_next_26 ?_
  refine wg_put9 (own9 := [(j, ob 6 [.int (jI ((c : Int) + 1)), .int (jI ((c : Int))), .int (jI (0)), .ref a, .ref a])]) cx 0 rfl rfl in_J27 tyJ27_ok (by decide +kernel) 0 (by decide) q887 (fun _ h9 => h9) rfl rfl rfl rfl (Nat.le_of_ble_eq_true rfl) rfl dJ26_next_27 ?_
  refine wg_aload_n cx (isRf_rf _) rfl dJ26_next_30 ?_
  exact wg_aret cx (Or.inl ⟨_, rfl⟩) (isRf_rf _) dJ26_next_31 ⟨rfl, rfl⟩
set_option maxHeartbeats 4000000 in
theorem ct_LI_hasPrev (ev : EvT) (l : Launch) (j : Nat) (c : Nat) (la : Int) (a : Nat) (r : Nat) (n : Nat) (v : Nat → Int) (hc : c ≤ n ∧ n < 2147483648) : Ct ev l yJ27_hasPrevious (.code yJ27_hasPrevious cJ27_hasPrevious 1 (some Jvm.ClassFile.FieldType.boolean)) ({ frames := 0, cells := 0, slots := 0, locals := 0 } : Room) [.ref j] (fun H => AT ev j (ob 6 [.int (jI ((c : Int))), .int (jI (la)), .int (jI (0)), .ref a, .ref a]) H ∧ AT ev a (ob 3 [.int (jI (0)), .ref r]) H ∧ AT ev r (arR ev n v) H ∧ True) [] (fun v9 w9 => v9 = some (.int (jI (bI (0 < c)))) ∧ w9 = []) nX := by
  refine ct_of rfl (Nat.le_of_ble_eq_true rfl) ?_
  intro f hfl cx hA hro hP0 hD0 hnm hno
  obtain ⟨h_j, h_t, h_r_, -⟩ := hro
  have r_j : ∀ own9, RD ev f own9 j (ob 6 [.int (jI ((c : Int))), .int (jI (la)), .int (jI (0)), .ref a, .ref a]) := RD.nil hA h_j
  have r_t : ∀ own9, RD ev f own9 a (ob 3 [.int (jI (0)), .ref r]) := RD.nil hA h_t
  have r_r_ : ∀ own9, RD ev f own9 r (arR ev n v) := RD.nil hA h_r_
  show WG ev f 1 _ [] [(0, .ref j)] [] 0 0 0
  refine wg_aload_n cx (isRf_ref _) rfl dJ27_hasPrevious_0 ?_
  refine wg_get cx (r_j _) rfl in_J27 0 (by decide) q888 (fun x9 h9 => u_same (cx.ts _ q889) x9 h9) rfl dJ27_hasPrevious_1 ?_
  refine wg_if_eq cx (by omega) 11 dJ27_hasPrevious_4 (by decide) (fun c_1 => ?_) (fun c_1 => ?_)
  · skip
    refine wg_iconst cx dJ27_hasPrevious_11 ?_
    exact wg_zret cx rfl dJ27_hasPrevious_12 ⟨(by rw [bI_f (by omega)]), rfl⟩
  · skip
    refine wg_iconst cx dJ27_hasPrevious_7 ?_
    refine wg_goto cx 12 dJ27_hasPrevious_8 (by decide) ?_
    exact wg_zret cx rfl dJ27_hasPrevious_12 ⟨(by rw [bI_t (by omega)]), rfl⟩
set_option maxHeartbeats 4000000 in
theorem ct_LI_prev (ev : EvT) (l : Launch) (j : Nat) (c : Nat) (la : Int) (a : Nat) (r : Nat) (n : Nat) (v : Nat → Int) (hc : c < n ∧ n < 2147483648) : Ct ev l yJ27_previous (.codeWith yJ27_previous cJ27_previous 3 (some (Jvm.ClassFile.FieldType.object "java/lang/Object")) [(4, 31, 32, 30)]) ({ frames := 1, cells := 0, slots := 0, locals := 21 } : Room) [.ref j] (fun H => AT ev a (ob 3 [.int (jI (0)), .ref r]) H ∧ AT ev r (arR ev n v) H ∧ True) [(j, ob 6 [.int (jI ((c + 1 : Int))), .int (jI (la)), .int (jI (0)), .ref a, .ref a])] (fun v9 w9 => v9 = some (va_rf (bx ev (v c))) ∧ w9 = [(j, ob 6 [.int (jI ((c : Int))), .int (jI (c)), .int (jI (0)), .ref a, .ref a])]) nX := by
  refine ct_ofH rfl (Nat.le_of_ble_eq_true rfl) q1514 ?_
  intro f hfl cx hA hro hP0 hD0 hnm hno
  obtain ⟨h_t, h_r_, -⟩ := hro
  have r_t : ∀ own9, RD ev f own9 a (ob 3 [.int (jI (0)), .ref r]) := RD.ne hA h_t (all_c (at_oo cx (AT.of (hP0 0 _ rfl)) h_t rfl rfl (by decide)) all_n)
  have r_r_ : ∀ own9, RD ev f own9 r (arR ev n v) := RD.ne hA h_r_ (all_c (at_oa cx (AT.of (hP0 0 _ rfl)) h_r_ 3 rfl) all_n)
  show WG ev f 3 _ [(j, ob 6 [.int (jI ((c + 1 : Int))), .int (jI (la)), .int (jI (0)), .ref a, .ref a])] [(0, .ref j)] [] 0 0 0
  refine wg_aload_n cx (isRf_ref _) rfl dJ27_previous_0 ?_
  refine wg_call cx (wc := []) (wr := [(j, ob 6 [.int (jI ((c + 1 : Int))), .int (jI (la)), .int (jI (0)), .ref a, .ref a])]) (cr_U (As := []) (rest := []) cx (ct_LI_comod ev f.l j (c + 1) la a r n v) (mk_U (n := 0) cx (x := ⟨"java/util/AbstractList$ListItr", "checkForComodification", "()V"⟩) (owner := "java/util/AbstractList$Itr") q1515 (cx.ts _ q1516) (decl_code cx q989 q993) q1518 q989 q87 q993 ⟨by decide, by decide⟩ (by decide +kernel) ⟨Nat.le_of_ble_eq_true rfl, Nat.le_of_ble_eq_true rfl⟩) (RD.own 0 rfl) rfl (PC.and (RD.own 0 rfl) (PC.and (r_t _) (PC.and (r_r_ _) PC.no))) rfl rfl (Nat.le_of_ble_eq_true rfl) dJ27_previous_1) [] [0] rfl rfl ⟨rfl, rfl⟩ (by decide) (fun v w1 hq_1 => ?_)
  obtain ⟨rfl, rfl⟩ := hq_1
  refine wg_nm (own9 := [(j, ob 6 [.int (jI ((c + 1 : Int))), .int (jI (la)), .int (jI (0)), .ref a, .ref a])]) (lv9 := [(0, .ref j)]) (st9 := []) rfl rfl rfl ?_
  refine wg_aload_n cx (isRf_ref _) rfl dJ27_previous_4 ?_
  refine wg_get cx (RD.own 0 rfl) rfl in_J27 0 (by decide) q888 (fun x9 h9 => u_same (cx.ts _ q889) x9 h9) rfl dJ27_previous_5 ?_
  refine wg_iconst cx dJ27_previous_8 ?_
  refine wg_isub cx dJ27_previous_9 ?_
  refine wg_si ((c : Nat) : Int) (by omega) ?_
  refine wg_istore_n (lv' := [(1, .int (jI ((c : Int)))), (0, .ref j)]) cx dJ27_previous_10 (by decide) rfl ?_
  refine wg_aload_n cx (isRf_ref _) rfl dJ27_previous_11 ?_
  refine wg_get cx (RD.own 0 rfl) rfl in_J27 4 (by decide) q886 (fun _ h9 => h9) rfl dJ27_previous_12 ?_
  refine wg_iload_n cx rfl dJ27_previous_15 ?_
  refine wg_call cx (wc := []) (wr := [(j, ob 6 [.int (jI ((c + 1 : Int))), .int (jI (la)), .int (jI (0)), .ref a, .ref a])]) (cr_U (As := [.int (jI ((c : Int)))]) (rest := []) cx (ct_T_get ev f.l a r n v c (by omega)) (mk_U (n := 1) cx (x := ⟨"java/util/AbstractList", "get", "(I)Ljava/lang/Object;"⟩) (owner := "java/util/AbstractList") q1519 (cx.ts _ q996) (decl_abs cx q995) q1011 q1006 q69 q1007 ⟨by decide, by decide⟩ (by decide +kernel) ⟨Nat.le_of_ble_eq_true rfl, Nat.le_of_ble_eq_true rfl⟩) (r_t _) rfl (PC.and (r_t _) (PC.and (r_r_ _) PC.no)) rfl rfl (Nat.le_of_ble_eq_true rfl) dJ27_previous_16) [] [0] rfl rfl ⟨rfl, rfl⟩ (by decide) (fun v w1 hq_2 => ?_)
  obtain ⟨rfl, rfl⟩ := hq_2
  refine wg_nm (own9 := [(j, ob 6 [.int (jI ((c + 1 : Int))), .int (jI (la)), .int (jI (0)), .ref a, .ref a])]) (lv9 := [(1, .int (jI ((c : Int)))), (0, .ref j)]) (st9 := [va_rf (bx ev (v c))]) rfl rfl rfl ?_
  refine wg_astore_n (lv' := [(2, va_rf (bx ev (v c))), (1, .int (jI ((c : Int)))), (0, .ref j)]) cx (isRf_rf _) dJ27_previous_19 (by decide) rfl ?_
  refine wg_aload_n cx (isRf_ref _) rfl dJ27_previous_20 ?_
  refine wg_aload_n cx (isRf_ref _) rfl dJ27_previous_21 ?_
  refine wg_iload_n cx rfl dJ27_previous_22 ?_
  refine wg_dup_x1 cx rfl rfl dJ27_previous_23 ?_
  refine wg_put9 (own9 := [(j, ob 6 [.int (jI ((c : Int))), .int (jI (la)), .int (jI (0)), .ref a, .ref a])]) cx 0 rfl rfl in_J27 tyJ27_ok (by decide +kernel) 0 (by decide) q888 (fun x9 h9 => u_same (cx.ts _ q889) x9 h9) rfl rfl rfl rfl (Nat.le_of_ble_eq_true rfl) rfl dJ27_previous_24 ?_
  refine wg_put9 (own9 := [(j, ob 6 [.int (jI ((c : Int))), .int (jI ((c : Int))), .int (jI (0)), .ref a, .ref a])]) cx 0 rfl rfl in_J27 tyJ27_ok (by decide +kernel) 1 (by decide) q891 (fun x9 h9 => u_same (cx.ts _ q892) x9 h9) rfl rfl rfl rfl (Nat.le_of_ble_eq_true rfl) rfl dJ27_previous_27 ?_
  refine wg_aload_n cx (isRf_rf _) rfl dJ27_previous_30 ?_
  exact wg_aret cx (Or.inl ⟨_, rfl⟩) (isRf_rf _) dJ27_previous_31 ⟨rfl, rfl⟩
set_option maxHeartbeats 4000000 in
theorem ct_LI_nextIdx (ev : EvT) (l : Launch) (j : Nat) (c : Nat) (la : Int) (a : Nat) : Ct ev l yJ27_nextIndex (.code yJ27_nextIndex cJ27_nextIndex 1 (some Jvm.ClassFile.FieldType.int)) ({ frames := 0, cells := 0, slots := 0, locals := 0 } : Room) [.ref j] (fun H => AT ev j (ob 6 [.int (jI ((c : Int))), .int (jI (la)), .int (jI (0)), .ref a, .ref a]) H ∧ True) [] (fun v9 w9 => v9 = some (.int (jI ((c : Int)))) ∧ w9 = []) nX := by
  refine ct_of rfl (Nat.le_of_ble_eq_true rfl) ?_
  intro f hfl cx hA hro hP0 hD0 hnm hno
  obtain ⟨h_j, -⟩ := hro
  have r_j : ∀ own9, RD ev f own9 j (ob 6 [.int (jI ((c : Int))), .int (jI (la)), .int (jI (0)), .ref a, .ref a]) := RD.nil hA h_j
  show WG ev f 1 _ [] [(0, .ref j)] [] 0 0 0
  refine wg_aload_n cx (isRf_ref _) rfl dJ27_nextIndex_0 ?_
  refine wg_get cx (r_j _) rfl in_J27 0 (by decide) q888 (fun x9 h9 => u_same (cx.ts _ q889) x9 h9) rfl dJ27_nextIndex_1 ?_
  exact wg_iret cx dJ27_nextIndex_4 ⟨rfl, rfl⟩
set_option maxHeartbeats 4000000 in
theorem ct_LI_prevIdx (ev : EvT) (l : Launch) (j : Nat) (c : Nat) (la : Int) (a : Nat) : Ct ev l yJ27_previousIndex (.code yJ27_previousIndex cJ27_previousIndex 1 (some Jvm.ClassFile.FieldType.int)) ({ frames := 0, cells := 0, slots := 0, locals := 0 } : Room) [.ref j] (fun H => AT ev j (ob 6 [.int (jI ((c : Int))), .int (jI (la)), .int (jI (0)), .ref a, .ref a]) H ∧ True) [] (fun v9 w9 => v9 = some (.int (jI ((c : Int) - 1))) ∧ w9 = []) nX := by
  refine ct_of rfl (Nat.le_of_ble_eq_true rfl) ?_
  intro f hfl cx hA hro hP0 hD0 hnm hno
  obtain ⟨h_j, -⟩ := hro
  have r_j : ∀ own9, RD ev f own9 j (ob 6 [.int (jI ((c : Int))), .int (jI (la)), .int (jI (0)), .ref a, .ref a]) := RD.nil hA h_j
  show WG ev f 1 _ [] [(0, .ref j)] [] 0 0 0
  refine wg_aload_n cx (isRf_ref _) rfl dJ27_previousIndex_0 ?_
  refine wg_get cx (r_j _) rfl in_J27 0 (by decide) q888 (fun x9 h9 => u_same (cx.ts _ q889) x9 h9) rfl dJ27_previousIndex_1 ?_
  refine wg_iconst cx dJ27_previousIndex_4 ?_
  refine wg_isub cx dJ27_previousIndex_5 ?_
  exact wg_iret cx dJ27_previousIndex_6 ⟨rfl, rfl⟩
set_option maxHeartbeats 4000000 in
theorem ct_S_rangeAdd (ev : EvT) (l : Launch) (a : Nat) (t : Nat) (r : Nat) (p : Option Nat) (o : Nat) (n : Nat) (m : Nat) (v : Nat → Int) (i : Nat) (hi : i ≤ n ∧ n < 2147483648) : Ct ev l yJ18_rangeCheckForAdd (.code yJ18_rangeCheckForAdd cJ18_rangeCheckForAdd 2 none) ({ frames := 0, cells := 0, slots := 0, locals := 0 } : Room) [.ref a, .int (jI ((i : Int)))] (fun H => AT ev a (ob 4 [.int (jI (0)), .ref t, va_rf (p), .int (jI ((o : Int))), .int (jI ((n : Int)))]) H ∧ AT ev t (ob 3 [.int (jI (0)), .ref r]) H ∧ AT ev r (arR ev m v) H ∧ True) [] (fun v9 w9 => v9 = none ∧ w9 = []) nX := by
  refine ct_of rfl (Nat.le_of_ble_eq_true rfl) ?_
  intro f hfl cx hA hro hP0 hD0 hnm hno
  obtain ⟨h_s, h_st, h_r_, -⟩ := hro
  have r_s : ∀ own9, RD ev f own9 a (ob 4 [.int (jI (0)), .ref t, va_rf (p), .int (jI ((o : Int))), .int (jI ((n : Int)))]) := RD.nil hA h_s
  have r_st : ∀ own9, RD ev f own9 t (ob 3 [.int (jI (0)), .ref r]) := RD.nil hA h_st
  have r_r_ : ∀ own9, RD ev f own9 r (arR ev m v) := RD.nil hA h_r_
  show WG ev f 2 _ [] [(0, .ref a), (1, .int (jI ((i : Int))))] [] 0 0 0
  refine wg_iload_n cx rfl dJ18_rangeCheckForAdd_0 ?_
  refine wg_if_lt cx (by omega) 12 dJ18_rangeCheckForAdd_1 (by decide) (fun c_1 => ?_) (fun c_1 => ?_)
  · skip
    exact absurd c_1 (by omega)
  · skip
    refine wg_iload_n cx rfl dJ18_rangeCheckForAdd_4 ?_
    refine wg_aload_n cx (isRf_ref _) rfl dJ18_rangeCheckForAdd_5 ?_
    refine wg_get cx (r_s _) rfl in_J19 4 (by decide) q2087 (fun _ h9 => h9) rfl dJ18_rangeCheckForAdd_6 ?_
    refine wg_icmp_le cx (by omega) 25 dJ18_rangeCheckForAdd_9 (by decide) (fun c_2 => ?_) (fun c_2 => ?_)
    · skip
      exact wg_vret cx dJ18_rangeCheckForAdd_25 ⟨rfl, rfl⟩
    · skip
      exact absurd c_2 (by omega)
set_option maxHeartbeats 4000000 in
theorem ct_S1_init (ev : EvT) (l : Launch) (q : Nat) (a : Nat) (t : Nat) (r : Nat) (p : Option Nat) (o : Nat) (n : Nat) (m : Nat) (v : Nat → Int) (i : Nat) (hi : i ≤ n ∧ o + n ≤ m ∧ m < 2147483648) : Ct ev l yJ28_init (.code yJ28_init cJ28_init 3 none) ({ frames := 4, cells := 1, slots := 5, locals := 76 } : Room) [.ref q, .ref a, .int (jI ((i : Int)))] (fun H => AT ev a (ob 4 [.int (jI (0)), .ref t, va_rf (p), .int (jI ((o : Int))), .int (jI ((n : Int)))]) H ∧ AT ev t (ob 3 [.int (jI (0)), .ref r]) H ∧ AT ev r (arR ev m v) H ∧ True) [(q, ob 7 [.null, .int (jI (0)), .null])] (fun v9 w9 => ∃ j : Nat, v9 = none ∧ w9 = [(q, ob 7 [.ref j, .int (jI ((i : Int))), .ref a]), (j, ob 6 [.int (jI ((o + i : Int))), .int (jI (-1)), .int (jI (0)), .ref t, .ref t])]) nX := by
  refine ct_of rfl (Nat.le_of_ble_eq_true rfl) ?_
  intro f hfl cx hA hro hP0 hD0 hnm hno
  obtain ⟨h_s, h_st, h_r_, -⟩ := hro
  have r_s : ∀ own9, RD ev f own9 a (ob 4 [.int (jI (0)), .ref t, va_rf (p), .int (jI ((o : Int))), .int (jI ((n : Int)))]) := RD.ne hA h_s (all_c (at_oo cx (AT.of (hP0 0 _ rfl)) h_s rfl rfl (by decide)) all_n)
  have r_st : ∀ own9, RD ev f own9 t (ob 3 [.int (jI (0)), .ref r]) := RD.ne hA h_st (all_c (at_oo cx (AT.of (hP0 0 _ rfl)) h_st rfl rfl (by decide)) all_n)
  have r_r_ : ∀ own9, RD ev f own9 r (arR ev m v) := RD.ne hA h_r_ (all_c (at_oa cx (AT.of (hP0 0 _ rfl)) h_r_ 3 rfl) all_n)
  show WG ev f 3 _ [(q, ob 7 [.null, .int (jI (0)), .null])] [(0, .ref q), (1, .ref a), (2, .int (jI ((i : Int))))] [] 0 1 5
  refine wg_aload_n cx (isRf_ref _) rfl dJ28_init_0 ?_
  refine wg_aload_n cx (isRf_ref _) rfl dJ28_init_1 ?_
  refine wg_putF (own9 := [(q, ob 7 [.null, .int (jI (0)), .ref a])]) cx 0 rfl rfl in_J28 tyJ28_ok nmJ28 2 (by decide) q839 (fun _ h9 => h9) rfl hnm rfl rfl (narrow_ref (isRf_ref _)) (fits_obj (isRf_ref _)) (Nat.le_of_ble_eq_true rfl) rfl dJ28_init_2 ?_
  refine wg_aload_n cx (isRf_ref _) rfl dJ28_init_5 ?_
  refine wg_iload_n cx rfl dJ28_init_6 ?_
  refine wg_putF (own9 := [(q, ob 7 [.null, .int (jI ((i : Int))), .ref a])]) cx 0 rfl rfl in_J28 tyJ28_ok nmJ28 1 (by decide) q838 (fun _ h9 => h9) rfl hnm rfl rfl rfl rfl (Nat.le_of_ble_eq_true rfl) rfl dJ28_init_7 ?_
  refine wg_aload_n cx (isRf_ref _) rfl dJ28_init_10 ?_
  refine wg_objInit cx q775 ⟨⟨q114, q115⟩, Nat.le_of_ble_eq_true rfl, (Nat.le_of_ble_eq_true rfl)⟩ dJ28_init_11 ?_
  refine wg_aload_n cx (isRf_ref _) rfl dJ28_init_14 ?_
  refine wg_aload_n cx (isRf_ref _) rfl dJ28_init_15 ?_
  refine wg_get cx (RD.own 0 rfl) rfl in_J28 2 (by decide) q839 (fun _ h9 => h9) rfl dJ28_init_16 ?_
  refine wg_getN cx (r_s _) rfl in_J19 1 (by decide) q2083 (fun _ h9 => h9) rfl dJ28_init_19 ?_
  refine wg_aload_n cx (isRf_ref _) rfl dJ28_init_22 ?_
  refine wg_get cx (RD.own 0 rfl) rfl in_J28 2 (by decide) q839 (fun _ h9 => h9) rfl dJ28_init_23 ?_
  refine wg_getN cx (r_s _) rfl in_J19 3 (by decide) q2086 (fun _ h9 => h9) rfl dJ28_init_26 ?_
  refine wg_aload_n cx (isRf_ref _) rfl dJ28_init_29 ?_
  refine wg_get cx (RD.own 0 rfl) rfl in_J28 1 (by decide) q838 (fun _ h9 => h9) rfl dJ28_init_30 ?_
  refine wg_iadd cx dJ28_init_33 ?_
  refine wg_call cx (wc := []) (wr := [(q, ob 7 [.null, .int (jI ((i : Int))), .ref a])]) (cr_V (As := [.int (jI ((o : Int) + (i : Int)))]) (rest := [.ref q]) cx (ct_T_listIt ev f.l t r m v (o + i) (by omega)) (mk_V (n := 1) cx q776 q440 (cx.ts _ q850) q58 q851 ⟨by decide, by decide⟩ (by decide +kernel) ⟨Nat.le_of_ble_eq_true rfl, Nat.le_of_ble_eq_true rfl⟩) (r_st _) rfl (PC.and (r_st _) (PC.and (r_r_ _) PC.no)) rfl rfl (Nat.le_of_ble_eq_true rfl) dJ28_init_34) [] [0] rfl rfl ⟨rfl, rfl⟩ (by decide) (fun v w1 hq_1 => ?_)
  obtain ⟨q_2, rfl, rfl⟩ := hq_1
  refine wg_nm (own9 := [(q, ob 7 [.null, .int (jI ((i : Int))), .ref a]), (q_2, ob 6 [.int (jI (((o + i) : Int))), .int (jI (-1)), .int (jI (0)), .ref t, .ref t])]) (lv9 := [(0, .ref q), (1, .ref a), (2, .int (jI ((i : Int))))]) (st9 := [.ref q_2, .ref q]) rfl rfl rfl ?_
  refine wg_putF (own9 := [(q, ob 7 [.ref q_2, .int (jI ((i : Int))), .ref a]), (q_2, ob 6 [.int (jI (((o + i) : Int))), .int (jI (-1)), .int (jI (0)), .ref t, .ref t])]) cx 0 rfl rfl in_J28 tyJ28_ok nmJ28 0 (by decide) q837 (fun _ h9 => h9) rfl hnm rfl rfl (narrow_ref (isRf_ref _)) (fits_obj (isRf_ref _)) (Nat.le_of_ble_eq_true rfl) rfl dJ28_init_37 ?_
  exact wg_vret cx dJ28_init_40 ⟨q_2, rfl, rfl⟩
set_option maxHeartbeats 4000000 in
theorem ct_S_listIt (ev : EvT) (l : Launch) (a : Nat) (t : Nat) (r : Nat) (p : Option Nat) (o : Nat) (n : Nat) (m : Nat) (v : Nat → Int) (i : Nat) (hi : i ≤ n ∧ o + n ≤ m ∧ m < 2147483648) : Ct ev l yJ18_listIterator (.code yJ18_listIterator cJ18_listIterator 2 (some (Jvm.ClassFile.FieldType.object "java/util/ListIterator"))) ({ frames := 5, cells := 2, slots := 8, locals := 98 } : Room) [.ref a, .int (jI ((i : Int)))] (fun H => AT ev a (ob 4 [.int (jI (0)), .ref t, va_rf (p), .int (jI ((o : Int))), .int (jI ((n : Int)))]) H ∧ AT ev t (ob 3 [.int (jI (0)), .ref r]) H ∧ AT ev r (arR ev m v) H ∧ True) [] (fun v9 w9 => ∃ q : Nat, ∃ j : Nat, v9 = some (.ref q) ∧ w9 = [(q, ob 7 [.ref j, .int (jI ((i : Int))), .ref a]), (j, ob 6 [.int (jI ((o + i : Int))), .int (jI (-1)), .int (jI (0)), .ref t, .ref t])]) nX := by
  refine ct_of rfl (Nat.le_of_ble_eq_true rfl) ?_
  intro f hfl cx hA hro hP0 hD0 hnm hno
  obtain ⟨h_s, h_st, h_r_, -⟩ := hro
  have r_s : ∀ own9, RD ev f own9 a (ob 4 [.int (jI (0)), .ref t, va_rf (p), .int (jI ((o : Int))), .int (jI ((n : Int)))]) := RD.nil hA h_s
  have r_st : ∀ own9, RD ev f own9 t (ob 3 [.int (jI (0)), .ref r]) := RD.nil hA h_st
  have r_r_ : ∀ own9, RD ev f own9 r (arR ev m v) := RD.nil hA h_r_
  show WG ev f 2 _ [] [(0, .ref a), (1, .int (jI ((i : Int))))] [] 0 2 8
  refine wg_aload_n cx (isRf_ref _) rfl dJ18_listIterator_0 ?_
  refine wg_call cx (wc := []) (wr := []) (cr_V (As := []) (rest := []) cx (ct_S_comod ev f.l a t r p o n m v) (mk_V (n := 0) cx q355 q357 (sel_priv cx (C9 := "java/util/AbstractList$RandomAccessSubList") q2074 q356 q361 rfl q357 ⟨by decide, by decide⟩) q79 q359 ⟨by decide, by decide⟩ (by decide +kernel) ⟨Nat.le_of_ble_eq_true rfl, Nat.le_of_ble_eq_true rfl⟩) (r_s _) rfl (PC.and (r_s _) (PC.and (r_st _) (PC.and (r_r_ _) PC.no))) rfl rfl (Nat.le_of_ble_eq_true rfl) dJ18_listIterator_1) [] [] rfl rfl ⟨rfl, rfl⟩ (by decide) (fun v w1 hq_1 => ?_)
  obtain ⟨rfl, rfl⟩ := hq_1
  refine wg_nm (own9 := []) (lv9 := [(0, .ref a), (1, .int (jI ((i : Int))))]) (st9 := []) rfl rfl rfl ?_
  refine wg_aload_n cx (isRf_ref _) rfl dJ18_listIterator_4 ?_
  refine wg_iload_n cx rfl dJ18_listIterator_5 ?_
  refine wg_call cx (wc := []) (wr := []) (cr_V (As := [.int (jI ((i : Int)))]) (rest := []) cx (ct_S_rangeAdd ev f.l a t r p o n m v i (by omega)) (mk_V (n := 1) cx q445 q447 (sel_priv cx (C9 := "java/util/AbstractList$RandomAccessSubList") q2074 q446 q361 rfl q447 ⟨by decide, by decide⟩) q79 q448 ⟨by decide, by decide⟩ (by decide +kernel) ⟨Nat.le_of_ble_eq_true rfl, Nat.le_of_ble_eq_true rfl⟩) (r_s _) rfl (PC.and (r_s _) (PC.and (r_st _) (PC.and (r_r_ _) PC.no))) rfl rfl (Nat.le_of_ble_eq_true rfl) dJ18_listIterator_6) [] [] rfl rfl ⟨rfl, rfl⟩ (by decide) (fun v w1 hq_2 => ?_)
  obtain ⟨rfl, rfl⟩ := hq_2
  refine wg_nm (own9 := []) (lv9 := [(0, .ref a), (1, .int (jI ((i : Int))))]) (st9 := []) rfl rfl rfl ?_
  refine wg_new cx 7 rfl in_J28 tyJ28_ok q770 q771 rfl q89 (fs := [.null, .int (jI (0)), .null]) rfl dJ18_listIterator_9 (fun q_3 => ?_)
  refine wg_nm (own9 := [(q_3, ob 7 [.null, .int (jI (0)), .null])]) (lv9 := [(0, .ref a), (1, .int (jI ((i : Int))))]) (st9 := [.ref q_3]) rfl rfl rfl ?_
  refine wg_dup cx rfl dJ18_listIterator_12 ?_
  refine wg_aload_n cx (isRf_ref _) rfl dJ18_listIterator_13 ?_
  refine wg_iload_n cx rfl dJ18_listIterator_14 ?_
  refine wg_call cx (wc := [(q_3, ob 7 [.null, .int (jI (0)), .null])]) (wr := []) (cr_I (As := [.ref a, .int (jI ((i : Int)))]) (rest := [.ref q_3]) cx (ct_S1_init ev f.l q_3 a t r p o n m v i (by omega)) (mk_I (n := 2) cx q772 q773 rfl q89 q774 ⟨by decide, by decide⟩ (by decide +kernel) ⟨Nat.le_of_ble_eq_true rfl, Nat.le_of_ble_eq_true rfl⟩) (PC.and (r_s _) (PC.and (r_st _) (PC.and (r_r_ _) PC.no))) rfl rfl (Nat.le_of_ble_eq_true rfl) dJ18_listIterator_15) [0] [] rfl rfl ⟨rfl, rfl⟩ (by decide) (fun v w1 hq_4 => ?_)
  obtain ⟨j_5, rfl, rfl⟩ := hq_4
  refine wg_nm (own9 := [(q_3, ob 7 [.ref j_5, .int (jI ((i : Int))), .ref a]), (j_5, ob 6 [.int (jI ((o + i : Int))), .int (jI (-1)), .int (jI (0)), .ref t, .ref t])]) (lv9 := [(0, .ref a), (1, .int (jI ((i : Int))))]) (st9 := [.ref q_3]) rfl rfl rfl ?_
  exact wg_aret cx (Or.inl ⟨_, rfl⟩) (isRf_ref _) dJ18_listIterator_18 ⟨q_3, j_5, rfl, rfl⟩
set_option maxHeartbeats 4000000 in
theorem ct_S_listIt0 (ev : EvT) (l : Launch) (a : Nat) (t : Nat) (r : Nat) (p : Option Nat) (o : Nat) (n : Nat) (m : Nat) (v : Nat → Int) (hi : o + n ≤ m ∧ m < 2147483648) : Ct ev l yJ1_listIterator (.code yJ1_listIterator cJ1_listIterator 1 (some (Jvm.ClassFile.FieldType.object "java/util/ListIterator"))) ({ frames := 6, cells := 2, slots := 8, locals := 119 } : Room) [.ref a] (fun H => AT ev a (ob 4 [.int (jI (0)), .ref t, va_rf (p), .int (jI ((o : Int))), .int (jI ((n : Int)))]) H ∧ AT ev t (ob 3 [.int (jI (0)), .ref r]) H ∧ AT ev r (arR ev m v) H ∧ True) [] (fun v9 w9 => ∃ q : Nat, ∃ j : Nat, v9 = some (.ref q) ∧ w9 = [(q, ob 7 [.ref j, .int (jI (0)), .ref a]), (j, ob 6 [.int (jI ((o : Int))), .int (jI (-1)), .int (jI (0)), .ref t, .ref t])]) nX := by
  refine ct_of rfl (Nat.le_of_ble_eq_true rfl) ?_
  intro f hfl cx hA hro hP0 hD0 hnm hno
  obtain ⟨h_s, h_st, h_r_, -⟩ := hro
  have r_s : ∀ own9, RD ev f own9 a (ob 4 [.int (jI (0)), .ref t, va_rf (p), .int (jI ((o : Int))), .int (jI ((n : Int)))]) := RD.nil hA h_s
  have r_st : ∀ own9, RD ev f own9 t (ob 3 [.int (jI (0)), .ref r]) := RD.nil hA h_st
  have r_r_ : ∀ own9, RD ev f own9 r (arR ev m v) := RD.nil hA h_r_
  show WG ev f 1 _ [] [(0, .ref a)] [] 0 2 8
  refine wg_aload_n cx (isRf_ref _) rfl dJ1_listIterator_0 ?_
  refine wg_iconst cx dJ1_listIterator_1 ?_
  refine wg_call cx (wc := []) (wr := []) (cr_U (As := [.int (jI (0))]) (rest := []) cx (ct_S_listIt ev f.l a t r p o n m v 0 (by omega)) (mk_U (n := 1) cx (x := ⟨"java/util/AbstractList", "listIterator", "(I)Ljava/util/ListIterator;"⟩) (owner := "java/util/AbstractList") q439 (cx.ts _ q441) (decl_code cx q440 q851) q442 q443 q79 q444 ⟨by decide, by decide⟩ (by decide +kernel) ⟨Nat.le_of_ble_eq_true rfl, Nat.le_of_ble_eq_true rfl⟩) (r_s _) rfl (PC.and (r_s _) (PC.and (r_st _) (PC.and (r_r_ _) PC.no))) rfl rfl (Nat.le_of_ble_eq_true rfl) dJ1_listIterator_2) [] [] rfl rfl ⟨rfl, rfl⟩ (by decide) (fun v w1 hq_1 => ?_)
  obtain ⟨q_2, j_3, rfl, rfl⟩ := hq_1
  refine wg_nm (own9 := [(q_2, ob 7 [.ref j_3, .int (jI ((0 : Int))), .ref a]), (j_3, ob 6 [.int (jI ((o + 0 : Int))), .int (jI (-1)), .int (jI (0)), .ref t, .ref t])]) (lv9 := [(0, .ref a)]) (st9 := [.ref q_2]) rfl rfl rfl ?_
  exact wg_aret cx (Or.inl ⟨_, rfl⟩) (isRf_ref _) dJ1_listIterator_5 ⟨q_2, j_3, rfl, rfl⟩
set_option maxHeartbeats 4000000 in
theorem ct_S_iterator (ev : EvT) (l : Launch) (a : Nat) (t : Nat) (r : Nat) (p : Option Nat) (o : Nat) (n : Nat) (m : Nat) (v : Nat → Int) (hi : o + n ≤ m ∧ m < 2147483648) : Ct ev l yJ18_iterator (.code yJ18_iterator cJ18_iterator 1 (some (Jvm.ClassFile.FieldType.object "java/util/Iterator"))) ({ frames := 7, cells := 2, slots := 8, locals := 139 } : Room) [.ref a] (fun H => AT ev a (ob 4 [.int (jI (0)), .ref t, va_rf (p), .int (jI ((o : Int))), .int (jI ((n : Int)))]) H ∧ AT ev t (ob 3 [.int (jI (0)), .ref r]) H ∧ AT ev r (arR ev m v) H ∧ True) [] (fun v9 w9 => ∃ q : Nat, ∃ j : Nat, v9 = some (.ref q) ∧ w9 = [(q, ob 7 [.ref j, .int (jI (0)), .ref a]), (j, ob 6 [.int (jI ((o : Int))), .int (jI (-1)), .int (jI (0)), .ref t, .ref t])]) nX := by
  refine ct_of rfl (Nat.le_of_ble_eq_true rfl) ?_
  intro f hfl cx hA hro hP0 hD0 hnm hno
  obtain ⟨h_s, h_st, h_r_, -⟩ := hro
  have r_s : ∀ own9, RD ev f own9 a (ob 4 [.int (jI (0)), .ref t, va_rf (p), .int (jI ((o : Int))), .int (jI ((n : Int)))]) := RD.nil hA h_s
  have r_st : ∀ own9, RD ev f own9 t (ob 3 [.int (jI (0)), .ref r]) := RD.nil hA h_st
  have r_r_ : ∀ own9, RD ev f own9 r (arR ev m v) := RD.nil hA h_r_
  show WG ev f 1 _ [] [(0, .ref a)] [] 0 2 8
  refine wg_aload_n cx (isRf_ref _) rfl dJ18_iterator_0 ?_
  refine wg_call cx (wc := []) (wr := []) (cr_U (As := []) (rest := []) cx (ct_S_listIt0 ev f.l a t r p o n m v (by omega)) (mk_U (n := 0) cx (x := ⟨"java/util/AbstractList$SubList", "listIterator", "()Ljava/util/ListIterator;"⟩) (owner := "java/util/AbstractList") q1171 (cx.ts _ q1172) (decl_code cx q398 q438) q1174 q398 q58 q438 ⟨by decide, by decide⟩ (by decide +kernel) ⟨Nat.le_of_ble_eq_true rfl, Nat.le_of_ble_eq_true rfl⟩) (r_s _) rfl (PC.and (r_s _) (PC.and (r_st _) (PC.and (r_r_ _) PC.no))) rfl rfl (Nat.le_of_ble_eq_true rfl) dJ18_iterator_1) [] [] rfl rfl ⟨rfl, rfl⟩ (by decide) (fun v w1 hq_1 => ?_)
  obtain ⟨q_2, j_3, rfl, rfl⟩ := hq_1
  refine wg_nm (own9 := [(q_2, ob 7 [.ref j_3, .int (jI (0)), .ref a]), (j_3, ob 6 [.int (jI ((o : Int))), .int (jI (-1)), .int (jI (0)), .ref t, .ref t])]) (lv9 := [(0, .ref a)]) (st9 := [.ref q_2]) rfl rfl rfl ?_
  exact wg_aret cx (Or.inl ⟨_, rfl⟩) (isRf_ref _) dJ18_iterator_4 ⟨q_2, j_3, rfl, rfl⟩
set_option maxHeartbeats 4000000 in
theorem ct_S1_nextIdx (ev : EvT) (l : Launch) (q : Nat) (j : Nat) (ix : Int) (c : Nat) (la : Int) (a : Nat) (t : Nat) (r : Nat) (p : Option Nat) (o : Nat) (n : Nat) (m : Nat) (v : Nat → Int) (hc : c ≤ n ∧ o + n ≤ m ∧ m < 2147483648) : Ct ev l yJ28_nextIndex (.code yJ28_nextIndex cJ28_nextIndex 1 (some Jvm.ClassFile.FieldType.int)) ({ frames := 1, cells := 0, slots := 0, locals := 20 } : Room) [.ref q] (fun H => AT ev q (ob 7 [.ref j, .int (jI (ix)), .ref a]) H ∧ AT ev j (ob 6 [.int (jI ((o + c : Int))), .int (jI (la)), .int (jI (0)), .ref t, .ref t]) H ∧ AT ev a (ob 4 [.int (jI (0)), .ref t, va_rf (p), .int (jI ((o : Int))), .int (jI ((n : Int)))]) H ∧ AT ev t (ob 3 [.int (jI (0)), .ref r]) H ∧ AT ev r (arR ev m v) H ∧ True) [] (fun v9 w9 => v9 = some (.int (jI ((c : Int)))) ∧ w9 = []) nX := by
  refine ct_of rfl (Nat.le_of_ble_eq_true rfl) ?_
  intro f hfl cx hA hro hP0 hD0 hnm hno
  obtain ⟨h_q, h_j, h_s, h_st, h_r_, -⟩ := hro
  have r_q : ∀ own9, RD ev f own9 q (ob 7 [.ref j, .int (jI (ix)), .ref a]) := RD.nil hA h_q
  have r_j : ∀ own9, RD ev f own9 j (ob 6 [.int (jI ((o + c : Int))), .int (jI (la)), .int (jI (0)), .ref t, .ref t]) := RD.nil hA h_j
  have r_s : ∀ own9, RD ev f own9 a (ob 4 [.int (jI (0)), .ref t, va_rf (p), .int (jI ((o : Int))), .int (jI ((n : Int)))]) := RD.nil hA h_s
  have r_st : ∀ own9, RD ev f own9 t (ob 3 [.int (jI (0)), .ref r]) := RD.nil hA h_st
  have r_r_ : ∀ own9, RD ev f own9 r (arR ev m v) := RD.nil hA h_r_
  show WG ev f 1 _ [] [(0, .ref q)] [] 0 0 0
  refine wg_aload_n cx (isRf_ref _) rfl dJ28_nextIndex_0 ?_
  refine wg_get cx (r_q _) rfl in_J28 0 (by decide) q837 (fun _ h9 => h9) rfl dJ28_nextIndex_1 ?_
  refine wg_call cx (wc := []) (wr := []) (cr_F (As := []) (rest := []) cx (ct_LI_nextIdx ev f.l j (o + c) la t) (mk_F (n := 0) cx (x := ⟨"java/util/ListIterator", "nextIndex", "()I"⟩) q946 q949 q951 q88 q953 (fw_of cx q948 q947 q952 q950 q928 ⟨by decide, by decide⟩) ⟨by decide, by decide⟩ (by decide +kernel) ⟨Nat.le_of_ble_eq_true rfl, Nat.le_of_ble_eq_true rfl⟩) (r_j _) rfl (PC.and (r_j _) PC.no) rfl rfl (Nat.le_of_ble_eq_true rfl) dJ28_nextIndex_4) [] [] rfl rfl ⟨rfl, rfl⟩ (by decide) (fun v w1 hq_1 => ?_)
  obtain ⟨rfl, rfl⟩ := hq_1
  refine wg_nm (own9 := []) (lv9 := [(0, .ref q)]) (st9 := [.int (jI (((o + c) : Int)))]) rfl rfl rfl ?_
  refine wg_aload_n cx (isRf_ref _) rfl dJ28_nextIndex_9 ?_
  refine wg_get cx (r_q _) rfl in_J28 2 (by decide) q839 (fun _ h9 => h9) rfl dJ28_nextIndex_10 ?_
  refine wg_getN cx (r_s _) rfl in_J19 3 (by decide) q2086 (fun _ h9 => h9) rfl dJ28_nextIndex_13 ?_
  refine wg_isub cx dJ28_nextIndex_16 ?_
  refine wg_si ((c : Nat) : Int) (by omega) ?_
  exact wg_iret cx dJ28_nextIndex_17 ⟨rfl, rfl⟩
set_option maxHeartbeats 4000000 in
theorem ct_S1_prevIdx (ev : EvT) (l : Launch) (q : Nat) (j : Nat) (ix : Int) (c : Nat) (la : Int) (a : Nat) (t : Nat) (r : Nat) (p : Option Nat) (o : Nat) (n : Nat) (m : Nat) (v : Nat → Int) (hc : c ≤ n ∧ o + n ≤ m ∧ m < 2147483648) : Ct ev l yJ28_previousIndex (.code yJ28_previousIndex cJ28_previousIndex 1 (some Jvm.ClassFile.FieldType.int)) ({ frames := 1, cells := 0, slots := 0, locals := 20 } : Room) [.ref q] (fun H => AT ev q (ob 7 [.ref j, .int (jI (ix)), .ref a]) H ∧ AT ev j (ob 6 [.int (jI ((o + c : Int))), .int (jI (la)), .int (jI (0)), .ref t, .ref t]) H ∧ AT ev a (ob 4 [.int (jI (0)), .ref t, va_rf (p), .int (jI ((o : Int))), .int (jI ((n : Int)))]) H ∧ AT ev t (ob 3 [.int (jI (0)), .ref r]) H ∧ AT ev r (arR ev m v) H ∧ True) [] (fun v9 w9 => v9 = some (.int (jI ((c : Int) - 1))) ∧ w9 = []) nX := by
  refine ct_of rfl (Nat.le_of_ble_eq_true rfl) ?_
  intro f hfl cx hA hro hP0 hD0 hnm hno
  obtain ⟨h_q, h_j, h_s, h_st, h_r_, -⟩ := hro
  have r_q : ∀ own9, RD ev f own9 q (ob 7 [.ref j, .int (jI (ix)), .ref a]) := RD.nil hA h_q
  have r_j : ∀ own9, RD ev f own9 j (ob 6 [.int (jI ((o + c : Int))), .int (jI (la)), .int (jI (0)), .ref t, .ref t]) := RD.nil hA h_j
  have r_s : ∀ own9, RD ev f own9 a (ob 4 [.int (jI (0)), .ref t, va_rf (p), .int (jI ((o : Int))), .int (jI ((n : Int)))]) := RD.nil hA h_s
  have r_st : ∀ own9, RD ev f own9 t (ob 3 [.int (jI (0)), .ref r]) := RD.nil hA h_st
  have r_r_ : ∀ own9, RD ev f own9 r (arR ev m v) := RD.nil hA h_r_
  show WG ev f 1 _ [] [(0, .ref q)] [] 0 0 0
  refine wg_aload_n cx (isRf_ref _) rfl dJ28_previousIndex_0 ?_
  refine wg_get cx (r_q _) rfl in_J28 0 (by decide) q837 (fun _ h9 => h9) rfl dJ28_previousIndex_1 ?_
  refine wg_call cx (wc := []) (wr := []) (cr_F (As := []) (rest := []) cx (ct_LI_prevIdx ev f.l j (o + c) la t) (mk_F (n := 0) cx (x := ⟨"java/util/ListIterator", "previousIndex", "()I"⟩) q1437 q1426 q1428 q88 q1430 (fw_of cx q1425 q1424 q1429 q1427 q928 ⟨by decide, by decide⟩) ⟨by decide, by decide⟩ (by decide +kernel) ⟨Nat.le_of_ble_eq_true rfl, Nat.le_of_ble_eq_true rfl⟩) (r_j _) rfl (PC.and (r_j _) PC.no) rfl rfl (Nat.le_of_ble_eq_true rfl) dJ28_previousIndex_4) [] [] rfl rfl ⟨rfl, rfl⟩ (by decide) (fun v w1 hq_1 => ?_)
  obtain ⟨rfl, rfl⟩ := hq_1
  refine wg_nm (own9 := []) (lv9 := [(0, .ref q)]) (st9 := [.int (jI (((o + c) : Int) - 1))]) rfl rfl rfl ?_
  refine wg_aload_n cx (isRf_ref _) rfl dJ28_previousIndex_9 ?_
  refine wg_get cx (r_q _) rfl in_J28 2 (by decide) q839 (fun _ h9 => h9) rfl dJ28_previousIndex_10 ?_
  refine wg_getN cx (r_s _) rfl in_J19 3 (by decide) q2086 (fun _ h9 => h9) rfl dJ28_previousIndex_13 ?_
  refine wg_isub cx dJ28_previousIndex_16 ?_
  refine wg_si ((c : Int) - 1) (by omega) ?_
  exact wg_iret cx dJ28_previousIndex_17 ⟨rfl, rfl⟩
set_option maxHeartbeats 4000000 in
theorem ct_S1_hasNext (ev : EvT) (l : Launch) (q : Nat) (j : Nat) (ix : Int) (c : Nat) (la : Int) (a : Nat) (t : Nat) (r : Nat) (p : Option Nat) (o : Nat) (n : Nat) (m : Nat) (v : Nat → Int) (hc : c ≤ n ∧ o + n ≤ m ∧ m < 2147483648) : Ct ev l yJ28_hasNext (.code yJ28_hasNext cJ28_hasNext 1 (some Jvm.ClassFile.FieldType.boolean)) ({ frames := 2, cells := 0, slots := 0, locals := 40 } : Room) [.ref q] (fun H => AT ev q (ob 7 [.ref j, .int (jI (ix)), .ref a]) H ∧ AT ev j (ob 6 [.int (jI ((o + c : Int))), .int (jI (la)), .int (jI (0)), .ref t, .ref t]) H ∧ AT ev a (ob 4 [.int (jI (0)), .ref t, va_rf (p), .int (jI ((o : Int))), .int (jI ((n : Int)))]) H ∧ AT ev t (ob 3 [.int (jI (0)), .ref r]) H ∧ AT ev r (arR ev m v) H ∧ True) [] (fun v9 w9 => v9 = some (.int (jI (bI (c < n)))) ∧ w9 = []) nX := by
  refine ct_of rfl (Nat.le_of_ble_eq_true rfl) ?_
  intro f hfl cx hA hro hP0 hD0 hnm hno
  obtain ⟨h_q, h_j, h_s, h_st, h_r_, -⟩ := hro
  have r_q : ∀ own9, RD ev f own9 q (ob 7 [.ref j, .int (jI (ix)), .ref a]) := RD.nil hA h_q
  have r_j : ∀ own9, RD ev f own9 j (ob 6 [.int (jI ((o + c : Int))), .int (jI (la)), .int (jI (0)), .ref t, .ref t]) := RD.nil hA h_j
  have r_s : ∀ own9, RD ev f own9 a (ob 4 [.int (jI (0)), .ref t, va_rf (p), .int (jI ((o : Int))), .int (jI ((n : Int)))]) := RD.nil hA h_s
  have r_st : ∀ own9, RD ev f own9 t (ob 3 [.int (jI (0)), .ref r]) := RD.nil hA h_st
  have r_r_ : ∀ own9, RD ev f own9 r (arR ev m v) := RD.nil hA h_r_
  show WG ev f 1 _ [] [(0, .ref q)] [] 0 0 0
  refine wg_aload_n cx (isRf_ref _) rfl dJ28_hasNext_0 ?_
  refine wg_call cx (wc := []) (wr := []) (cr_V (As := []) (rest := []) cx (ct_S1_nextIdx ev f.l q j ix c la a t r p o n m v (by omega)) (mk_V (n := 0) cx q941 q942 (cx.ts _ q943) q89 q944 ⟨by decide, by decide⟩ (by decide +kernel) ⟨Nat.le_of_ble_eq_true rfl, Nat.le_of_ble_eq_true rfl⟩) (r_q _) rfl (PC.and (r_q _) (PC.and (r_j _) (PC.and (r_s _) (PC.and (r_st _) (PC.and (r_r_ _) PC.no))))) rfl rfl (Nat.le_of_ble_eq_true rfl) dJ28_hasNext_1) [] [] rfl rfl ⟨rfl, rfl⟩ (by decide) (fun v w1 hq_1 => ?_)
  obtain ⟨rfl, rfl⟩ := hq_1
  refine wg_nm (own9 := []) (lv9 := [(0, .ref q)]) (st9 := [.int (jI ((c : Int)))]) rfl rfl rfl ?_
  refine wg_aload_n cx (isRf_ref _) rfl dJ28_hasNext_4 ?_
  refine wg_get cx (r_q _) rfl in_J28 2 (by decide) q839 (fun _ h9 => h9) rfl dJ28_hasNext_5 ?_
  refine wg_get cx (r_s _) rfl in_J19 4 (by decide) q2088 (fun _ h9 => h9) rfl dJ28_hasNext_8 ?_
  refine wg_icmp_ge cx (by omega) 18 dJ28_hasNext_11 (by decide) (fun c_2 => ?_) (fun c_2 => ?_)
  · skip
    refine wg_iconst cx dJ28_hasNext_18 ?_
    exact wg_zret cx rfl dJ28_hasNext_19 ⟨(by rw [bI_f (by omega)]), rfl⟩
  · skip
    refine wg_iconst cx dJ28_hasNext_14 ?_
    refine wg_goto cx 19 dJ28_hasNext_15 (by decide) ?_
    exact wg_zret cx rfl dJ28_hasNext_19 ⟨(by rw [bI_t (by omega)]), rfl⟩
set_option maxHeartbeats 4000000 in
theorem ct_S1_hasPrev (ev : EvT) (l : Launch) (q : Nat) (j : Nat) (ix : Int) (c : Nat) (la : Int) (a : Nat) (t : Nat) (r : Nat) (p : Option Nat) (o : Nat) (n : Nat) (m : Nat) (v : Nat → Int) (hc : c ≤ n ∧ o + n ≤ m ∧ m < 2147483648) : Ct ev l yJ28_hasPrevious (.code yJ28_hasPrevious cJ28_hasPrevious 1 (some Jvm.ClassFile.FieldType.boolean)) ({ frames := 2, cells := 0, slots := 0, locals := 40 } : Room) [.ref q] (fun H => AT ev q (ob 7 [.ref j, .int (jI (ix)), .ref a]) H ∧ AT ev j (ob 6 [.int (jI ((o + c : Int))), .int (jI (la)), .int (jI (0)), .ref t, .ref t]) H ∧ AT ev a (ob 4 [.int (jI (0)), .ref t, va_rf (p), .int (jI ((o : Int))), .int (jI ((n : Int)))]) H ∧ AT ev t (ob 3 [.int (jI (0)), .ref r]) H ∧ AT ev r (arR ev m v) H ∧ True) [] (fun v9 w9 => v9 = some (.int (jI (bI (0 < c)))) ∧ w9 = []) nX := by
  refine ct_of rfl (Nat.le_of_ble_eq_true rfl) ?_
  intro f hfl cx hA hro hP0 hD0 hnm hno
  obtain ⟨h_q, h_j, h_s, h_st, h_r_, -⟩ := hro
  have r_q : ∀ own9, RD ev f own9 q (ob 7 [.ref j, .int (jI (ix)), .ref a]) := RD.nil hA h_q
  have r_j : ∀ own9, RD ev f own9 j (ob 6 [.int (jI ((o + c : Int))), .int (jI (la)), .int (jI (0)), .ref t, .ref t]) := RD.nil hA h_j
  have r_s : ∀ own9, RD ev f own9 a (ob 4 [.int (jI (0)), .ref t, va_rf (p), .int (jI ((o : Int))), .int (jI ((n : Int)))]) := RD.nil hA h_s
  have r_st : ∀ own9, RD ev f own9 t (ob 3 [.int (jI (0)), .ref r]) := RD.nil hA h_st
  have r_r_ : ∀ own9, RD ev f own9 r (arR ev m v) := RD.nil hA h_r_
  show WG ev f 1 _ [] [(0, .ref q)] [] 0 0 0
  refine wg_aload_n cx (isRf_ref _) rfl dJ28_hasPrevious_0 ?_
  refine wg_call cx (wc := []) (wr := []) (cr_V (As := []) (rest := []) cx (ct_S1_prevIdx ev f.l q j ix c la a t r p o n m v (by omega)) (mk_V (n := 0) cx q1495 q1433 (cx.ts _ q3864) q89 q1435 ⟨by decide, by decide⟩ (by decide +kernel) ⟨Nat.le_of_ble_eq_true rfl, Nat.le_of_ble_eq_true rfl⟩) (r_q _) rfl (PC.and (r_q _) (PC.and (r_j _) (PC.and (r_s _) (PC.and (r_st _) (PC.and (r_r_ _) PC.no))))) rfl rfl (Nat.le_of_ble_eq_true rfl) dJ28_hasPrevious_1) [] [] rfl rfl ⟨rfl, rfl⟩ (by decide) (fun v w1 hq_1 => ?_)
  obtain ⟨rfl, rfl⟩ := hq_1
  refine wg_nm (own9 := []) (lv9 := [(0, .ref q)]) (st9 := [.int (jI ((c : Int) - 1))]) rfl rfl rfl ?_
  refine wg_if_lt cx (by omega) 11 dJ28_hasPrevious_4 (by decide) (fun c_2 => ?_) (fun c_2 => ?_)
  · skip
    refine wg_iconst cx dJ28_hasPrevious_11 ?_
    exact wg_zret cx rfl dJ28_hasPrevious_12 ⟨(by rw [bI_f (by omega)]), rfl⟩
  · skip
    refine wg_iconst cx dJ28_hasPrevious_7 ?_
    refine wg_goto cx 12 dJ28_hasPrevious_8 (by decide) ?_
    exact wg_zret cx rfl dJ28_hasPrevious_12 ⟨(by rw [bI_t (by omega)]), rfl⟩
set_option maxHeartbeats 4000000 in
theorem ct_S1_next (ev : EvT) (l : Launch) (q : Nat) (j : Nat) (ix : Int) (c : Nat) (la : Int) (a : Nat) (t : Nat) (r : Nat) (p : Option Nat) (o : Nat) (n : Nat) (m : Nat) (v : Nat → Int) (hc : c < n ∧ o + n ≤ m ∧ m < 2147483648) : Ct ev l yJ28_next (.code yJ28_next cJ28_next 1 (some (Jvm.ClassFile.FieldType.object "java/lang/Object"))) ({ frames := 3, cells := 0, slots := 0, locals := 60 } : Room) [.ref q] (fun H => AT ev a (ob 4 [.int (jI (0)), .ref t, va_rf (p), .int (jI ((o : Int))), .int (jI ((n : Int)))]) H ∧ AT ev t (ob 3 [.int (jI (0)), .ref r]) H ∧ AT ev r (arR ev m v) H ∧ True) [(q, ob 7 [.ref j, .int (jI (ix)), .ref a]), (j, ob 6 [.int (jI ((o + c : Int))), .int (jI (la)), .int (jI (0)), .ref t, .ref t])] (fun v9 w9 => v9 = some (va_rf (bx ev (sh v o c))) ∧ w9 = [(q, ob 7 [.ref j, .int (jI (ix)), .ref a]), (j, ob 6 [.int (jI ((o + c + 1 : Int))), .int (jI ((o + c : Int))), .int (jI (0)), .ref t, .ref t])]) nX := by
  refine ct_of rfl (Nat.le_of_ble_eq_true rfl) ?_
  intro f hfl cx hA hro hP0 hD0 hnm hno
  obtain ⟨h_s, h_st, h_r_, -⟩ := hro
  have r_s : ∀ own9, RD ev f own9 a (ob 4 [.int (jI (0)), .ref t, va_rf (p), .int (jI ((o : Int))), .int (jI ((n : Int)))]) := RD.ne hA h_s (all_c (at_oo cx (AT.of (hP0 0 _ rfl)) h_s rfl rfl (by decide)) (all_c (at_oo cx (AT.of (hP0 1 _ rfl)) h_s rfl rfl (by decide)) all_n))
  have r_st : ∀ own9, RD ev f own9 t (ob 3 [.int (jI (0)), .ref r]) := RD.ne hA h_st (all_c (at_oo cx (AT.of (hP0 0 _ rfl)) h_st rfl rfl (by decide)) (all_c (at_oo cx (AT.of (hP0 1 _ rfl)) h_st rfl rfl (by decide)) all_n))
  have r_r_ : ∀ own9, RD ev f own9 r (arR ev m v) := RD.ne hA h_r_ (all_c (at_oa cx (AT.of (hP0 0 _ rfl)) h_r_ 3 rfl) (all_c (at_oa cx (AT.of (hP0 1 _ rfl)) h_r_ 3 rfl) all_n))
  show WG ev f 1 _ [(q, ob 7 [.ref j, .int (jI (ix)), .ref a]), (j, ob 6 [.int (jI ((o + c : Int))), .int (jI (la)), .int (jI (0)), .ref t, .ref t])] [(0, .ref q)] [] 0 0 0
  refine wg_aload_n cx (isRf_ref _) rfl dJ28_next_0 ?_
  refine wg_call cx (wc := []) (wr := [(q, ob 7 [.ref j, .int (jI (ix)), .ref a]), (j, ob 6 [.int (jI ((o + c : Int))), .int (jI (la)), .int (jI (0)), .ref t, .ref t])]) (cr_V (As := []) (rest := []) cx (ct_S1_hasNext ev f.l q j ix c la a t r p o n m v (by omega)) (mk_V (n := 0) cx q1079 q938 (cx.ts _ q3861) q89 q940 ⟨by decide, by decide⟩ (by decide +kernel) ⟨Nat.le_of_ble_eq_true rfl, Nat.le_of_ble_eq_true rfl⟩) (RD.own 0 rfl) rfl (PC.and (RD.own 0 rfl) (PC.and (RD.own 1 rfl) (PC.and (r_s _) (PC.and (r_st _) (PC.and (r_r_ _) PC.no))))) rfl rfl (Nat.le_of_ble_eq_true rfl) dJ28_next_1) [] [0, 1] rfl rfl ⟨rfl, rfl⟩ (by decide) (fun v w1 hq_1 => ?_)
  obtain ⟨rfl, rfl⟩ := hq_1
  refine wg_nm (own9 := [(q, ob 7 [.ref j, .int (jI (ix)), .ref a]), (j, ob 6 [.int (jI ((o + c : Int))), .int (jI (la)), .int (jI (0)), .ref t, .ref t])]) (lv9 := [(0, .ref q)]) (st9 := [.int (jI (bI (c < n)))]) rfl rfl rfl ?_
  refine wg_ifb_eq cx 17 dJ28_next_4 (by decide) (fun c_2 => ?_) (fun c_2 => ?_)
  · skip
    exact absurd (by omega : c < n) c_2
  · skip
    refine wg_aload_n cx (isRf_ref _) rfl dJ28_next_7 ?_
    refine wg_get cx (RD.own 0 rfl) rfl in_J28 0 (by decide) q837 (fun _ h9 => h9) rfl dJ28_next_8 ?_
    refine wg_call cx (wc := [(j, ob 6 [.int (jI (((o + c) : Int))), .int (jI (la)), .int (jI (0)), .ref t, .ref t])]) (wr := [(q, ob 7 [.ref j, .int (jI (ix)), .ref a])]) (cr_FW (As := []) (rest := []) cx (ct_LI_next ev f.l j (o + c) la t r m v (by omega)) (mk_FW (n := 0) cx (x := ⟨"java/util/ListIterator", "next", "()Ljava/lang/Object;"⟩) q1081 q983 q985 q87 q987 (fw_of cx q982 q981 q986 q984 q928 ⟨by decide, by decide⟩) ⟨by decide, by decide⟩ (by decide +kernel) ⟨Nat.le_of_ble_eq_true rfl, Nat.le_of_ble_eq_true rfl⟩) (RD.own 1 rfl) rfl (PC.and (r_st _) (PC.and (r_r_ _) PC.no)) rfl rfl (Nat.le_of_ble_eq_true rfl) dJ28_next_11) [1] [0] rfl rfl ⟨rfl, rfl⟩ (by decide) (fun v w1 hq_3 => ?_)
    obtain ⟨rfl, rfl⟩ := hq_3
    refine wg_nm (own9 := [(q, ob 7 [.ref j, .int (jI (ix)), .ref a]), (j, ob 6 [.int (jI (((o + c) + 1 : Int))), .int (jI ((o + c))), .int (jI (0)), .ref t, .ref t])]) (lv9 := [(0, .ref q)]) (st9 := [va_rf (bx ev (v (o + c)))]) rfl rfl rfl ?_
    exact wg_aret cx (Or.inl ⟨_, rfl⟩) (isRf_rf _) dJ28_next_16 ⟨rfl, rfl⟩
set_option maxHeartbeats 4000000 in
theorem ct_S1_prev (ev : EvT) (l : Launch) (q : Nat) (j : Nat) (ix : Int) (c : Nat) (la : Int) (a : Nat) (t : Nat) (r : Nat) (p : Option Nat) (o : Nat) (n : Nat) (m : Nat) (v : Nat → Int) (hc : c < n ∧ o + n ≤ m ∧ m < 2147483648) : Ct ev l yJ28_previous (.code yJ28_previous cJ28_previous 1 (some (Jvm.ClassFile.FieldType.object "java/lang/Object"))) ({ frames := 3, cells := 0, slots := 0, locals := 60 } : Room) [.ref q] (fun H => AT ev a (ob 4 [.int (jI (0)), .ref t, va_rf (p), .int (jI ((o : Int))), .int (jI ((n : Int)))]) H ∧ AT ev t (ob 3 [.int (jI (0)), .ref r]) H ∧ AT ev r (arR ev m v) H ∧ True) [(q, ob 7 [.ref j, .int (jI (ix)), .ref a]), (j, ob 6 [.int (jI ((o + c + 1 : Int))), .int (jI (la)), .int (jI (0)), .ref t, .ref t])] (fun v9 w9 => v9 = some (va_rf (bx ev (sh v o c))) ∧ w9 = [(q, ob 7 [.ref j, .int (jI (ix)), .ref a]), (j, ob 6 [.int (jI ((o + c : Int))), .int (jI ((o + c : Int))), .int (jI (0)), .ref t, .ref t])]) nX := by
  refine ct_of rfl (Nat.le_of_ble_eq_true rfl) ?_
  intro f hfl cx hA hro hP0 hD0 hnm hno
  obtain ⟨h_s, h_st, h_r_, -⟩ := hro
  have r_s : ∀ own9, RD ev f own9 a (ob 4 [.int (jI (0)), .ref t, va_rf (p), .int (jI ((o : Int))), .int (jI ((n : Int)))]) := RD.ne hA h_s (all_c (at_oo cx (AT.of (hP0 0 _ rfl)) h_s rfl rfl (by decide)) (all_c (at_oo cx (AT.of (hP0 1 _ rfl)) h_s rfl rfl (by decide)) all_n))
  have r_st : ∀ own9, RD ev f own9 t (ob 3 [.int (jI (0)), .ref r]) := RD.ne hA h_st (all_c (at_oo cx (AT.of (hP0 0 _ rfl)) h_st rfl rfl (by decide)) (all_c (at_oo cx (AT.of (hP0 1 _ rfl)) h_st rfl rfl (by decide)) all_n))
  have r_r_ : ∀ own9, RD ev f own9 r (arR ev m v) := RD.ne hA h_r_ (all_c (at_oa cx (AT.of (hP0 0 _ rfl)) h_r_ 3 rfl) (all_c (at_oa cx (AT.of (hP0 1 _ rfl)) h_r_ 3 rfl) all_n))
  show WG ev f 1 _ [(q, ob 7 [.ref j, .int (jI (ix)), .ref a]), (j, ob 6 [.int (jI ((o + c + 1 : Int))), .int (jI (la)), .int (jI (0)), .ref t, .ref t])] [(0, .ref q)] [] 0 0 0
  refine wg_aload_n cx (isRf_ref _) rfl dJ28_previous_0 ?_
  refine wg_call cx (wc := []) (wr := [(q, ob 7 [.ref j, .int (jI (ix)), .ref a]), (j, ob 6 [.int (jI ((o + c + 1 : Int))), .int (jI (la)), .int (jI (0)), .ref t, .ref t])]) (cr_V (As := []) (rest := []) cx (ct_S1_hasPrev ev f.l q j ix (c + 1) la a t r p o n m v (by omega)) (mk_V (n := 0) cx q1527 q1492 (cx.ts _ q3865) q89 q1494 ⟨by decide, by decide⟩ (by decide +kernel) ⟨Nat.le_of_ble_eq_true rfl, Nat.le_of_ble_eq_true rfl⟩) (RD.own 0 rfl) rfl (PC.and (RD.own 0 rfl) (PC.and (RD.own 1 rfl) (PC.and (r_s _) (PC.and (r_st _) (PC.and (r_r_ _) PC.no))))) rfl rfl (Nat.le_of_ble_eq_true rfl) dJ28_previous_1) [] [0, 1] rfl rfl ⟨rfl, rfl⟩ (by decide) (fun v w1 hq_1 => ?_)
  obtain ⟨rfl, rfl⟩ := hq_1
  refine wg_nm (own9 := [(q, ob 7 [.ref j, .int (jI (ix)), .ref a]), (j, ob 6 [.int (jI ((o + c + 1 : Int))), .int (jI (la)), .int (jI (0)), .ref t, .ref t])]) (lv9 := [(0, .ref q)]) (st9 := [.int (jI (bI (0 < (c + 1))))]) rfl rfl rfl ?_
  refine wg_ifb_eq cx 17 dJ28_previous_4 (by decide) (fun c_2 => ?_) (fun c_2 => ?_)
  · skip
    exact absurd c_2 (by omega)
  · skip
    refine wg_aload_n cx (isRf_ref _) rfl dJ28_previous_7 ?_
    refine wg_get cx (RD.own 0 rfl) rfl in_J28 0 (by decide) q837 (fun _ h9 => h9) rfl dJ28_previous_8 ?_
    refine wg_call cx (wc := [(j, ob 6 [.int (jI (((o + c) + 1 : Int))), .int (jI (la)), .int (jI (0)), .ref t, .ref t])]) (wr := [(q, ob 7 [.ref j, .int (jI (ix)), .ref a])]) (cr_FW (As := []) (rest := []) cx (ct_LI_prev ev f.l j (o + c) la t r m v (by omega)) (mk_FW (n := 0) cx (x := ⟨"java/util/ListIterator", "previous", "()Ljava/lang/Object;"⟩) q1529 q1510 q1512 q88 q1514 (fw_of cx q1509 q1508 q1513 q1511 q928 ⟨by decide, by decide⟩) ⟨by decide, by decide⟩ (by decide +kernel) ⟨Nat.le_of_ble_eq_true rfl, Nat.le_of_ble_eq_true rfl⟩) (RD.own 1 rfl) rfl (PC.and (r_st _) (PC.and (r_r_ _) PC.no)) rfl rfl (Nat.le_of_ble_eq_true rfl) dJ28_previous_11) [1] [0] rfl rfl ⟨rfl, rfl⟩ (by decide) (fun v w1 hq_3 => ?_)
    obtain ⟨rfl, rfl⟩ := hq_3
    refine wg_nm (own9 := [(q, ob 7 [.ref j, .int (jI (ix)), .ref a]), (j, ob 6 [.int (jI (((o + c) : Int))), .int (jI ((o + c))), .int (jI (0)), .ref t, .ref t])]) (lv9 := [(0, .ref q)]) (st9 := [va_rf (bx ev (v (o + c)))]) rfl rfl rfl ?_
    exact wg_aret cx (Or.inl ⟨_, rfl⟩) (isRf_rf _) dJ28_previous_16 ⟨rfl, rfl⟩
