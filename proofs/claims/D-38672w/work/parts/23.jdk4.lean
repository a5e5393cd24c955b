set_option maxHeartbeats 4000000 in
theorem ct_T_set (ev : EvT) (l : Launch) (a : Nat) (r : Nat) (n : Nat) (v : Nat → Int) (i : Nat) (x : Int) (hi : i < n ∧ n < 2147483648) (hx : x = -1000 ∨ (-99 ≤ x ∧ x ≤ 99)) : Ct ev l yJ10_set (.code yJ10_set cJ10_set 4 (some (Jvm.ClassFile.FieldType.object "java/lang/Object"))) ({ frames := 0, cells := 0, slots := 0, locals := 0 } : Room) [.ref a, .int (jI ((i : Int))), va_rf (bx ev (x))] (fun H => AT ev a (ob 3 [.int (jI (0)), .ref r]) H ∧ True) [(r, arR ev n v)] (fun v9 w9 => v9 = some (va_rf (bx ev (v i))) ∧ w9 = [(r, arR ev n (ups v i x))]) nX := by
  refine ct_of rfl (by simp [lg_sl, va_rf_cat, cat_i, cat_r, cat_l, cat_n]) ?_
  intro f hfl cx hA hro hP0 hD0 hnm hno
  obtain ⟨h_t, -⟩ := hro
  have r_t : ∀ own9, RD ev f own9 a (ob 3 [.int (jI (0)), .ref r]) := RD.ne hA h_t (all_c (at_oa cx h_t (AT.of (hP0 0 _ rfl)) 3 rfl).symm all_n)
  rw [show lv_args 0 [.ref a, .int (jI ((i : Int))), va_rf (bx ev (x))] = [(0, .ref a), (1, .int (jI ((i : Int)))), (2, va_rf (bx ev (x)))] by simp [lv_args, va_rf_cat, cat_i, cat_r, cat_l, cat_n]]
  show WG ev f 4 _ [(r, arR ev n v)] [(0, .ref a), (1, .int (jI ((i : Int)))), (2, va_rf (bx ev (x)))] [] 0 0 0
  refine wg_aload_n cx (isRf_ref _) rfl dJ10_set_0 ?_
  refine wg_get cx (r_t _) rfl in_J10 1 (by decide) q293 (fun _ h9 => h9) rfl dJ10_set_1 ?_
  refine wg_iload_n cx rfl dJ10_set_4 ?_
  refine wg_aald cx (RD.own 0 rfl) 3 rfl i (by omega) (by omega) dJ10_set_5 ?_
  refine wg_astore_n (lv' := [(3, va_rf (bx ev (v i))), (0, .ref a), (1, .int (jI ((i : Int)))), (2, va_rf (bx ev (x)))]) cx (isRf_rf _) dJ10_set_6 (by decide) (fil1 (c1_d rfl (c1_d rfl (c1_c (fun h9 => va_rf_cat _) c1_n))) rfl) ?_
  refine wg_aload_n cx (isRf_ref _) rfl dJ10_set_7 ?_
  refine wg_get cx (r_t _) rfl in_J10 1 (by decide) q293 (fun _ h9 => h9) rfl dJ10_set_8 ?_
  refine wg_iload_n cx rfl dJ10_set_11 ?_
  refine wg_aload_n cx (isRf_rf _) rfl dJ10_set_12 ?_
  refine wg_aastB (own9 := [(r, arR ev n (ups v i x))]) cx 0 rfl 3 rfl (Or.inl rfl) (by omega) i (by omega) (by omega) rfl dJ10_set_13 ?_
  refine wg_aload_n cx (isRf_rf _) rfl dJ10_set_14 ?_
  exact wg_aret cx (Or.inl ⟨_, rfl⟩) (isRf_rf _) dJ10_set_15 ⟨rfl, rfl⟩
set_option maxHeartbeats 4000000 in
theorem ct_S_comod2 (ev : EvT) (l : Launch) (a : Nat) (t : Nat) (r : Nat) (p : Option Nat) (o : Nat) (n : Nat) : Ct ev l yJ18_checkForComodification (.code yJ18_checkForComodification cJ18_checkForComodification 1 none) ({ frames := 0, cells := 0, slots := 0, locals := 0 } : Room) [.ref a] (fun H => AT ev a (ob 4 [.int (jI (0)), .ref t, va_rf (p), .int (jI ((o : Int))), .int (jI ((n : Int)))]) H ∧ AT ev t (ob 3 [.int (jI (0)), .ref r]) H ∧ True) [] (fun v9 w9 => v9 = none ∧ w9 = []) nX := by
  refine ct_of rfl (Nat.le_of_ble_eq_true rfl) ?_
  intro f hfl cx hA hro hP0 hD0 hnm hno
  obtain ⟨h_s, h_st, -⟩ := hro
  have r_s : ∀ own9, RD ev f own9 a (ob 4 [.int (jI (0)), .ref t, va_rf (p), .int (jI ((o : Int))), .int (jI ((n : Int)))]) := RD.nil hA h_s
  have r_st : ∀ own9, RD ev f own9 t (ob 3 [.int (jI (0)), .ref r]) := RD.nil hA h_st
  show WG ev f 1 _ [] [(0, .ref a)] [] 0 0 0
  refine wg_aload_n cx (isRf_ref _) rfl dJ18_checkForComodification_0 ?_
  refine wg_get cx (r_s _) rfl in_J19 1 (by decide) q2082 (fun _ h9 => h9) rfl dJ18_checkForComodification_1 ?_
  refine wg_get cx (r_st _) rfl in_J10 0 (by decide) q143 (fun _ h9 => h9) rfl dJ18_checkForComodification_4 ?_
  refine wg_aload_n cx (isRf_ref _) rfl dJ18_checkForComodification_7 ?_
  refine wg_get cx (r_s _) rfl in_J19 0 (by decide) q146 (fun x9 h9 => u_same (cx.ts _ q147) x9 h9) rfl dJ18_checkForComodification_8 ?_
  refine wg_icmp_eq cx (by omega) 22 dJ18_checkForComodification_11 (by decide) (fun c_1 => ?_) (fun c_1 => ?_)
  · skip
    exact wg_vret cx dJ18_checkForComodification_22 ⟨rfl, rfl⟩
  · skip
    exact absurd c_1 (by omega)
set_option maxHeartbeats 4000000 in
theorem ct_S_set (ev : EvT) (l : Launch) (a : Nat) (t : Nat) (r : Nat) (p : Option Nat) (o : Nat) (n : Nat) (m : Nat) (v : Nat → Int) (i : Nat) (x : Int) (hi : i < n ∧ o + n ≤ m ∧ m < 2147483648) (hx : x = -1000 ∨ (-99 ≤ x ∧ x ≤ 99)) : Ct ev l yJ18_set (.code yJ18_set cJ18_set 3 (some (Jvm.ClassFile.FieldType.object "java/lang/Object"))) ({ frames := 2, cells := 0, slots := 0, locals := 43 } : Room) [.ref a, .int (jI ((i : Int))), va_rf (bx ev (x))] (fun H => AT ev a (ob 4 [.int (jI (0)), .ref t, va_rf (p), .int (jI ((o : Int))), .int (jI ((n : Int)))]) H ∧ AT ev t (ob 3 [.int (jI (0)), .ref r]) H ∧ True) [(r, arR ev m v)] (fun v9 w9 => v9 = some (va_rf (bx ev (sh v o i))) ∧ w9 = [(r, arR ev m (ups v (o + i) x))]) nX := by
  refine ct_of rfl (by simp [lg_sl, va_rf_cat, cat_i, cat_r, cat_l, cat_n]) ?_
  intro f hfl cx hA hro hP0 hD0 hnm hno
  obtain ⟨h_s, h_st, -⟩ := hro
  have r_s : ∀ own9, RD ev f own9 a (ob 4 [.int (jI (0)), .ref t, va_rf (p), .int (jI ((o : Int))), .int (jI ((n : Int)))]) := RD.ne hA h_s (all_c (at_oa cx h_s (AT.of (hP0 0 _ rfl)) 3 rfl).symm all_n)
  have r_st : ∀ own9, RD ev f own9 t (ob 3 [.int (jI (0)), .ref r]) := RD.ne hA h_st (all_c (at_oa cx h_st (AT.of (hP0 0 _ rfl)) 3 rfl).symm all_n)
  rw [show lv_args 0 [.ref a, .int (jI ((i : Int))), va_rf (bx ev (x))] = [(0, .ref a), (1, .int (jI ((i : Int)))), (2, va_rf (bx ev (x)))] by simp [lv_args, va_rf_cat, cat_i, cat_r, cat_l, cat_n]]
  show WG ev f 3 _ [(r, arR ev m v)] [(0, .ref a), (1, .int (jI ((i : Int)))), (2, va_rf (bx ev (x)))] [] 0 0 0
  refine wg_iload_n cx rfl dJ18_set_0 ?_
  refine wg_aload_n cx (isRf_ref _) rfl dJ18_set_1 ?_
  refine wg_get cx (r_s _) rfl in_J19 4 (by decide) q2087 (fun _ h9 => h9) rfl dJ18_set_2 ?_
  refine wg_call cx (wc := []) (wr := [(r, arR ev m v)]) (cr_S (As := [.int (jI ((i : Int))), .int (jI ((n : Int)))]) (rest := []) cx (ct_checkIndex ev f.l i n (by omega)) (mk_S (n := 2) cx q1000 q270 q67 q271 ⟨by decide, by decide⟩ (by decide +kernel) ⟨Nat.le_of_ble_eq_true rfl, Nat.le_of_ble_eq_true rfl⟩) PC.no rfl rfl (Nat.le_of_ble_eq_true rfl) dJ18_set_5) [] [0] rfl rfl ⟨rfl, rfl⟩ (by decide) (fun v w1 hq_1 => ?_)
  obtain ⟨rfl, rfl⟩ := hq_1
  refine wg_nm (own9 := [(r, arR ev m v)]) (lv9 := [(0, .ref a), (1, .int (jI ((i : Int)))), (2, va_rf (bx ev (x)))]) (st9 := [.int (jI ((i : Int)))]) rfl rfl rfl ?_
  refine wg_pop cx rfl dJ18_set_8 ?_
  refine wg_aload_n cx (isRf_ref _) rfl dJ18_set_9 ?_
  refine wg_call cx (wc := []) (wr := [(r, arR ev m v)]) (cr_V (As := []) (rest := []) cx (ct_S_comod2 ev f.l a t r p o n) (mk_V (n := 0) cx q355 q357 (sel_priv cx (C9 := "java/util/AbstractList$RandomAccessSubList") q2074 q356 q361 rfl q357 ⟨by decide, by decide⟩) q79 q359 ⟨by decide, by decide⟩ (by decide +kernel) ⟨Nat.le_of_ble_eq_true rfl, Nat.le_of_ble_eq_true rfl⟩) (r_s _) rfl (PC.and (r_s _) (PC.and (r_st _) PC.no)) rfl rfl (Nat.le_of_ble_eq_true rfl) dJ18_set_10) [] [0] rfl rfl ⟨rfl, rfl⟩ (by decide) (fun v w1 hq_2 => ?_)
  obtain ⟨rfl, rfl⟩ := hq_2
  refine wg_nm (own9 := [(r, arR ev m v)]) (lv9 := [(0, .ref a), (1, .int (jI ((i : Int)))), (2, va_rf (bx ev (x)))]) (st9 := []) rfl rfl rfl ?_
  refine wg_aload_n cx (isRf_ref _) rfl dJ18_set_13 ?_
  refine wg_get cx (r_s _) rfl in_J19 1 (by decide) q2082 (fun _ h9 => h9) rfl dJ18_set_14 ?_
  refine wg_aload_n cx (isRf_ref _) rfl dJ18_set_17 ?_
  refine wg_get cx (r_s _) rfl in_J19 3 (by decide) q2085 (fun _ h9 => h9) rfl dJ18_set_18 ?_
  refine wg_iload_n cx rfl dJ18_set_21 ?_
  refine wg_iadd cx dJ18_set_22 ?_
  refine wg_aload_n cx (isRf_rf _) rfl dJ18_set_23 ?_
  refine wg_call cx (wc := [(r, arR ev m v)]) (wr := []) (cr_U (As := [.int (jI ((o : Int) + (i : Int))), va_rf (bx ev (x))]) (rest := []) cx (ct_T_set ev f.l t r m v (o + i) x (by omega) (by omega)) (mk_U (n := 2) cx (x := ⟨"java/util/AbstractList", "set", "(ILjava/lang/Object;)Ljava/lang/Object;"⟩) (owner := "java/util/AbstractList") q2192 (cx.ts _ q2194) (decl_abs cx q2204) q2201 q2202 q69 q2203 ⟨by decide, by decide⟩ (by decide +kernel) ⟨Nat.le_of_ble_eq_true rfl, Nat.le_of_ble_eq_true rfl⟩) (r_st _) rfl (PC.and (r_st _) PC.no) rfl rfl (Nat.le_of_ble_eq_true rfl) dJ18_set_24) [0] [] rfl rfl ⟨rfl, rfl⟩ (by decide) (fun v w1 hq_3 => ?_)
  obtain ⟨rfl, rfl⟩ := hq_3
  refine wg_nm (own9 := [(r, arR ev m (ups v (o + i) x))]) (lv9 := [(0, .ref a), (1, .int (jI ((i : Int)))), (2, va_rf (bx ev (x)))]) (st9 := [va_rf (bx ev (v (o + i)))]) rfl rfl rfl ?_
  exact wg_aret cx (Or.inl ⟨_, rfl⟩) (isRf_rf _) dJ18_set_27 ⟨rfl, rfl⟩
set_option maxHeartbeats 4000000 in
theorem ct_T_indexOf (ev : EvT) (l : Launch) (a : Nat) (r : Nat) (n : Nat) (v : Nat → Int) (x : Int) (hn : n < 2147483648) (hx : x = -1000 ∨ (-99 ≤ x ∧ x ≤ 99)) (hv : okV v n) : Ct ev l yJ10_indexOf (.code yJ10_indexOf cJ10_indexOf 4 (some Jvm.ClassFile.FieldType.int)) ({ frames := 2, cells := 0, slots := 0, locals := 41 } : Room) [.ref a, va_rf (bx ev (x))] (fun H => AT ev a (ob 3 [.int (jI (0)), .ref r]) H ∧ AT ev r (arR ev n v) H ∧ True) [] (fun v9 w9 => v9 = some (.int (jI (idxF v x 0 n))) ∧ w9 = []) nX := by
  refine ct_of rfl (by simp [lg_sl, va_rf_cat, cat_i, cat_r, cat_l, cat_n]) ?_
  intro f hfl cx hA hro hP0 hD0 hnm hno
  obtain ⟨h_t, h_r_, -⟩ := hro
  have r_t : ∀ own9, RD ev f own9 a (ob 3 [.int (jI (0)), .ref r]) := RD.nil hA h_t
  have r_r_ : ∀ own9, RD ev f own9 r (arR ev n v) := RD.nil hA h_r_
  rw [show lv_args 0 [.ref a, va_rf (bx ev (x))] = [(0, .ref a), (1, va_rf (bx ev (x)))] by simp [lv_args, va_rf_cat, cat_i, cat_r, cat_l, cat_n]]
  show WG ev f 4 _ [] [(0, .ref a), (1, va_rf (bx ev (x)))] [] 0 0 0
  refine wg_aload_n cx (isRf_ref _) rfl dJ10_indexOf_0 ?_
  refine wg_get cx (r_t _) rfl in_J10 1 (by decide) q293 (fun _ h9 => h9) rfl dJ10_indexOf_1 ?_
  refine wg_astore_n (lv' := [(2, .ref r), (0, .ref a), (1, va_rf (bx ev (x)))]) cx (isRf_ref _) dJ10_indexOf_4 (by decide) (fil1 (c1_d rfl (c1_c (fun h9 => va_rf_cat _) c1_n)) rfl) ?_
  refine wg_aload_n cx (isRf_rf _) rfl dJ10_indexOf_5 ?_
  refine wg_ifnonnull_b cx 34 dJ10_indexOf_6 (by decide) (fun c_1 => ?_) (fun c_1 => ?_)
  · skip
    refine wg_iconst cx dJ10_indexOf_34 ?_
    refine wg_istore_n (lv' := [(3, .int (jI (0))), (2, .ref r), (0, .ref a), (1, va_rf (bx ev (x)))]) cx dJ10_indexOf_35 (by decide) rfl ?_
    have loop_2 : ∀ (fu : Nat) (c : Nat), (c ≤ n) → (idxF v x 0 n = idxF v x c (n - c)) → n - c < fu → WG ev f 4 (QQ ev f (fun v9 w9 => v9 = some (.int (jI (idxF v x 0 n))) ∧ w9 = []) nX) [] [(3, .int (jI ((c : Int)))), (2, .ref r), (0, .ref a), (1, va_rf (bx ev (x)))] [] 36 (0) (0) := by
      intro fu
      induction fu with
      | zero =>
        intro c hc hf hm
        exact absurd hm (Nat.not_lt_zero _)
      | succ fu ih_2 =>
        intro c hc hf hm
        refine wg_iload_n cx rfl dJ10_indexOf_36 ?_
        refine wg_aload_n cx (isRf_ref _) rfl dJ10_indexOf_37 ?_
        refine wg_alen cx (r_r_ _) 3 rfl dJ10_indexOf_38 ?_
        refine wg_icmp_ge cx (by omega) 60 dJ10_indexOf_39 (by decide) (fun c_3 => ?_) (fun c_3 => ?_)
        · skip
          refine wg_iconst cx dJ10_indexOf_60 ?_
          exact wg_iret cx dJ10_indexOf_61 ⟨(by rw [hf, idxF_end (by omega)]), rfl⟩
        · skip
          refine wg_aload_n cx (isRf_rf _) rfl dJ10_indexOf_42 ?_
          refine wg_aload_n cx (isRf_ref _) rfl dJ10_indexOf_43 ?_
          refine wg_iload_n cx rfl dJ10_indexOf_44 ?_
          have hk := hv c (by omega)
          refine wg_aald cx (r_r_ _) 3 rfl c (by omega) (by omega) dJ10_indexOf_45 ?_
          refine wg_st (st9 := [va_rf (bx ev (v c)), .ref (ev.ad (x + 128).toNat)]) (by rw [bx_some ev (z := x) (by omega)]; rfl) ?_
          refine wg_call cx (wc := []) (wr := []) (cr_U (As := [va_rf (bx ev (v c))]) (rest := []) cx (ct_iequals ev f.l x (v c) (by omega)) (mk_U (n := 1) cx (x := ⟨"java/lang/Object", "equals", "(Ljava/lang/Object;)Z"⟩) (owner := "java/lang/Object") q1471 (cx.ts _ q1105) (decl_code cx q1104 q1135) q1117 q1118 q61 q1119 ⟨by decide, by decide⟩ (by decide +kernel) ⟨Nat.le_of_ble_eq_true rfl, Nat.le_of_ble_eq_true rfl⟩) (rd_bx cx (by omega) _) rfl PC.no rfl rfl (Nat.le_of_ble_eq_true rfl) dJ10_indexOf_46) [] [] rfl rfl ⟨rfl, rfl⟩ (by decide) (fun v w1 hq_4 => ?_)
          obtain ⟨rfl, rfl⟩ := hq_4
          refine wg_nm (own9 := []) (lv9 := [(3, .int (jI ((c : Int)))), (2, .ref r), (0, .ref a), (1, va_rf (bx ev (x)))]) (st9 := [.int (jI (bI (x = (v c))))]) rfl rfl rfl ?_
          refine wg_ifb_eq cx 54 dJ10_indexOf_49 (by decide) (fun c_5 => ?_) (fun c_5 => ?_)
          · skip
            refine wg_iinc (lv' := [(3, .int (jI ((c : Int) + 1))), (2, .ref r), (0, .ref a), (1, va_rf (bx ev (x)))]) cx dJ10_indexOf_54 rfl (by decide) rfl ?_
            refine wg_goto cx 36 dJ10_indexOf_57 (by decide) ?_
            refine wg_cr (kc9 := 0) (ks9 := 0) (by omega) ?_
            exact ih_2 (c + 1) (by omega) (by rw [hf]; exact idxF_miss (by omega) (by omega)) (by omega)
          · skip
            refine wg_iload_n cx rfl dJ10_indexOf_52 ?_
            exact wg_iret cx dJ10_indexOf_53 ⟨(by rw [hf, idxF_hit (v := v) (by omega) (by omega)]), rfl⟩
    refine wg_cr (kc9 := 0) (ks9 := 0) (by omega) ?_
    exact loop_2 _ 0 (by omega) rfl (Nat.lt_succ_self _)
  · skip
    refine wg_iconst cx dJ10_indexOf_9 ?_
    refine wg_istore_n (lv' := [(3, .int (jI (0))), (2, .ref r), (0, .ref a), (1, va_rf (bx ev (x)))]) cx dJ10_indexOf_10 (by decide) rfl ?_
    have loop_6 : ∀ (fu : Nat) (c : Nat), (c ≤ n) → (idxF v x 0 n = idxF v x c (n - c)) → n - c < fu → WG ev f 4 (QQ ev f (fun v9 w9 => v9 = some (.int (jI (idxF v x 0 n))) ∧ w9 = []) nX) [] [(3, .int (jI ((c : Int)))), (2, .ref r), (0, .ref a), (1, va_rf (bx ev (x)))] [] 11 (0) (0) := by
      intro fu
      induction fu with
      | zero =>
        intro c hc hf hm
        exact absurd hm (Nat.not_lt_zero _)
      | succ fu ih_6 =>
        intro c hc hf hm
        refine wg_iload_n cx rfl dJ10_indexOf_11 ?_
        refine wg_aload_n cx (isRf_ref _) rfl dJ10_indexOf_12 ?_
        refine wg_alen cx (r_r_ _) 3 rfl dJ10_indexOf_13 ?_
        refine wg_icmp_ge cx (by omega) 31 dJ10_indexOf_14 (by decide) (fun c_7 => ?_) (fun c_7 => ?_)
        · skip
          refine wg_goto cx 60 dJ10_indexOf_31 (by decide) ?_
          refine wg_iconst cx dJ10_indexOf_60 ?_
          exact wg_iret cx dJ10_indexOf_61 ⟨(by rw [hf, idxF_end (by omega)]), rfl⟩
        · skip
          refine wg_aload_n cx (isRf_ref _) rfl dJ10_indexOf_17 ?_
          refine wg_iload_n cx rfl dJ10_indexOf_18 ?_
          refine wg_aald cx (r_r_ _) 3 rfl c (by omega) (by omega) dJ10_indexOf_19 ?_
          refine wg_ifnonnull_b cx 25 dJ10_indexOf_20 (by decide) (fun c_8 => ?_) (fun c_8 => ?_)
          · skip
            refine wg_iinc (lv' := [(3, .int (jI ((c : Int) + 1))), (2, .ref r), (0, .ref a), (1, va_rf (bx ev (x)))]) cx dJ10_indexOf_25 rfl (by decide) rfl ?_
            refine wg_goto cx 11 dJ10_indexOf_28 (by decide) ?_
            refine wg_cr (kc9 := 0) (ks9 := 0) (by omega) ?_
            exact ih_6 (c + 1) (by omega) (by rw [hf]; exact idxF_miss (by omega) (by omega)) (by omega)
          · skip
            refine wg_iload_n cx rfl dJ10_indexOf_23 ?_
            exact wg_iret cx dJ10_indexOf_24 ⟨(by rw [hf, idxF_hit (v := v) (by omega) (by omega)]), rfl⟩
    refine wg_cr (kc9 := 0) (ks9 := 0) (by omega) ?_
    exact loop_6 _ 0 (by omega) rfl (Nat.lt_succ_self _)
set_option maxHeartbeats 4000000 in
theorem ct_T_contains (ev : EvT) (l : Launch) (a : Nat) (r : Nat) (n : Nat) (v : Nat → Int) (x : Int) (hn : n < 2147483648) (hx : x = -1000 ∨ (-99 ≤ x ∧ x ≤ 99)) (hv : okV v n) : Ct ev l yJ10_contains (.code yJ10_contains cJ10_contains 2 (some Jvm.ClassFile.FieldType.boolean)) ({ frames := 3, cells := 0, slots := 0, locals := 64 } : Room) [.ref a, va_rf (bx ev (x))] (fun H => AT ev a (ob 3 [.int (jI (0)), .ref r]) H ∧ AT ev r (arR ev n v) H ∧ True) [] (fun v9 w9 => v9 = some (.int (jI (bI (0 < cntF v x n)))) ∧ w9 = []) nX := by
  refine ct_of rfl (by simp [lg_sl, va_rf_cat, cat_i, cat_r, cat_l, cat_n]) ?_
  intro f hfl cx hA hro hP0 hD0 hnm hno
  obtain ⟨h_t, h_r_, -⟩ := hro
  have r_t : ∀ own9, RD ev f own9 a (ob 3 [.int (jI (0)), .ref r]) := RD.nil hA h_t
  have r_r_ : ∀ own9, RD ev f own9 r (arR ev n v) := RD.nil hA h_r_
  rw [show lv_args 0 [.ref a, va_rf (bx ev (x))] = [(0, .ref a), (1, va_rf (bx ev (x)))] by simp [lv_args, va_rf_cat, cat_i, cat_r, cat_l, cat_n]]
  show WG ev f 2 _ [] [(0, .ref a), (1, va_rf (bx ev (x)))] [] 0 0 0
  refine wg_aload_n cx (isRf_ref _) rfl dJ10_contains_0 ?_
  refine wg_aload_n cx (isRf_rf _) rfl dJ10_contains_1 ?_
  refine wg_call cx (wc := []) (wr := []) (cr_V (As := [va_rf (bx ev (x))]) (rest := []) cx (ct_T_indexOf ev f.l a r n v x (by omega) (by omega) hv) (mk_V (n := 1) cx q2313 q1468 (cx.ts _ q3882) q69 q1470 ⟨by decide, by decide⟩ (by decide +kernel) ⟨Nat.le_of_ble_eq_true rfl, Nat.le_of_ble_eq_true rfl⟩) (r_t _) rfl (PC.and (r_t _) (PC.and (r_r_ _) PC.no)) rfl rfl (Nat.le_of_ble_eq_true rfl) dJ10_contains_2) [] [] rfl rfl ⟨rfl, rfl⟩ (by decide) (fun v w1 hq_1 => ?_)
  obtain ⟨rfl, rfl⟩ := hq_1
  refine wg_nm (own9 := []) (lv9 := [(0, .ref a), (1, va_rf (bx ev (x)))]) (st9 := [.int (jI (idxF v x 0 n))]) rfl rfl rfl ?_
  have hr := idxF_rg v x n 0
  have hq := idxF_cnt v x n
  refine wg_if_lt cx (by omega) 12 dJ10_contains_5 (by decide) (fun c_2 => ?_) (fun c_2 => ?_)
  · skip
    refine wg_iconst cx dJ10_contains_12 ?_
    exact wg_zret cx rfl dJ10_contains_13 ⟨(by rw [bI_f (by omega)]), rfl⟩
  · skip
    refine wg_iconst cx dJ10_contains_8 ?_
    refine wg_goto cx 13 dJ10_contains_9 (by decide) ?_
    exact wg_zret cx rfl dJ10_contains_13 ⟨(by rw [bI_t (by omega)]), rfl⟩
set_option maxHeartbeats 4000000 in
theorem ct_S_indexOf (ev : EvT) (l : Launch) (a : Nat) (t : Nat) (r : Nat) (p : Option Nat) (o : Nat) (n : Nat) (m : Nat) (v : Nat → Int) (x : Int) (hn : o + n ≤ m ∧ m < 2147483648) (hx : x = -1000 ∨ (-99 ≤ x ∧ x ≤ 99)) (hv : okV v m) : Ct ev l yJ1_indexOf (.code yJ1_indexOf cJ1_indexOf 3 (some Jvm.ClassFile.FieldType.int)) ({ frames := 7, cells := 2, slots := 8, locals := 139 } : Room) [.ref a, va_rf (bx ev (x))] (fun H => AT ev a (ob 4 [.int (jI (0)), .ref t, va_rf (p), .int (jI ((o : Int))), .int (jI ((n : Int)))]) H ∧ AT ev t (ob 3 [.int (jI (0)), .ref r]) H ∧ AT ev r (arR ev m v) H ∧ True) [] (fun v9 w9 => v9 = some (.int (jI (idxF (sh v o) x 0 n))) ∧ w9 = []) nX := by
  refine ct_of rfl (by simp [lg_sl, va_rf_cat, cat_i, cat_r, cat_l, cat_n]) ?_
  intro f hfl cx hA hro hP0 hD0 hnm hno
  obtain ⟨h_s, h_st, h_r_, -⟩ := hro
  have r_s : ∀ own9, RD ev f own9 a (ob 4 [.int (jI (0)), .ref t, va_rf (p), .int (jI ((o : Int))), .int (jI ((n : Int)))]) := RD.nil hA h_s
  have r_st : ∀ own9, RD ev f own9 t (ob 3 [.int (jI (0)), .ref r]) := RD.nil hA h_st
  have r_r_ : ∀ own9, RD ev f own9 r (arR ev m v) := RD.nil hA h_r_
  rw [show lv_args 0 [.ref a, va_rf (bx ev (x))] = [(0, .ref a), (1, va_rf (bx ev (x)))] by simp [lv_args, va_rf_cat, cat_i, cat_r, cat_l, cat_n]]
  show WG ev f 3 _ [] [(0, .ref a), (1, va_rf (bx ev (x)))] [] 0 2 8
  refine wg_aload_n cx (isRf_ref _) rfl dJ1_indexOf_0 ?_
  refine wg_call cx (wc := []) (wr := []) (cr_V (As := []) (rest := []) cx (ct_S_listIt0 ev f.l a t r p o n m v (by omega)) (mk_V (n := 0) cx q397 q398 (cx.ts _ q400) q58 q438 ⟨by decide, by decide⟩ (by decide +kernel) ⟨Nat.le_of_ble_eq_true rfl, Nat.le_of_ble_eq_true rfl⟩) (r_s _) rfl (PC.and (r_s _) (PC.and (r_st _) (PC.and (r_r_ _) PC.no))) rfl rfl (Nat.le_of_ble_eq_true rfl) dJ1_indexOf_1) [] [] rfl rfl ⟨rfl, rfl⟩ (by decide) (fun v w1 hq_1 => ?_)
  obtain ⟨q_2, j_3, rfl, rfl⟩ := hq_1
  refine wg_nm (own9 := [(q_2, ob 7 [.ref j_3, .int (jI (0)), .ref a]), (j_3, ob 6 [.int (jI ((o : Int))), .int (jI (-1)), .int (jI (0)), .ref t, .ref t])]) (lv9 := [(0, .ref a), (1, va_rf (bx ev (x)))]) (st9 := [.ref q_2]) rfl rfl rfl ?_
  refine wg_astore_n (lv' := [(2, .ref q_2), (0, .ref a), (1, va_rf (bx ev (x)))]) cx (isRf_ref _) dJ1_indexOf_4 (by decide) (fil1 (c1_d rfl (c1_c (fun h9 => va_rf_cat _) c1_n)) rfl) ?_
  refine wg_aload_n cx (isRf_rf _) rfl dJ1_indexOf_5 ?_
  refine wg_ifnonnull_b cx 34 dJ1_indexOf_6 (by decide) (fun c_4 => ?_) (fun c_4 => ?_)
  · skip
    have loop_5 : ∀ (fu : Nat) (c : Nat) (la : Int), (c ≤ n) → (idxF (sh v o) x 0 n = idxF (sh v o) x c (n - c)) → n - c < fu → WG ev f 3 (QQ ev f (fun v9 w9 => v9 = some (.int (jI (idxF (sh v o) x 0 n))) ∧ w9 = []) nX) [(q_2, ob 7 [.ref j_3, .int (jI (0)), .ref a]), (j_3, ob 6 [.int (jI ((o + c : Int))), .int (jI (la)), .int (jI (0)), .ref t, .ref t])] [(2, .ref q_2), (0, .ref a), (1, va_rf (bx ev (x)))] [] 34 (0) (0) := by
      intro fu
      induction fu with
      | zero =>
        intro c la hc hf hm
        exact absurd hm (Nat.not_lt_zero _)
      | succ fu ih_5 =>
        intro c la hc hf hm
        refine wg_aload_n cx (isRf_ref _) rfl dJ1_indexOf_34 ?_
        refine wg_call cx (wc := []) (wr := [(q_2, ob 7 [.ref j_3, .int (jI (0)), .ref a]), (j_3, ob 6 [.int (jI ((o + c : Int))), .int (jI (la)), .int (jI (0)), .ref t, .ref t])]) (cr_F (As := []) (rest := []) cx (ct_S1_hasNext ev f.l q_2 j_3 0 c la a t r p o n m v (by omega)) (mk_F (n := 0) cx (x := ⟨"java/util/ListIterator", "hasNext", "()Z"⟩) q925 q936 q938 q89 q940 (fw_of cx q927 q926 q939 q937 q935 ⟨by decide, by decide⟩) ⟨by decide, by decide⟩ (by decide +kernel) ⟨Nat.le_of_ble_eq_true rfl, Nat.le_of_ble_eq_true rfl⟩) (RD.own 0 rfl) rfl (PC.and (RD.own 0 rfl) (PC.and (RD.own 1 rfl) (PC.and (r_s _) (PC.and (r_st _) (PC.and (r_r_ _) PC.no))))) rfl rfl (Nat.le_of_ble_eq_true rfl) dJ1_indexOf_35) [] [0, 1] rfl rfl ⟨rfl, rfl⟩ (by decide) (fun v w1 hq_6 => ?_)
        obtain ⟨rfl, rfl⟩ := hq_6
        refine wg_nm (own9 := [(q_2, ob 7 [.ref j_3, .int (jI (0)), .ref a]), (j_3, ob 6 [.int (jI ((o + c : Int))), .int (jI (la)), .int (jI (0)), .ref t, .ref t])]) (lv9 := [(2, .ref q_2), (0, .ref a), (1, va_rf (bx ev (x)))]) (st9 := [.int (jI (bI (c < n)))]) rfl rfl rfl ?_
        refine wg_ifb_eq cx 63 dJ1_indexOf_40 (by decide) (fun c_7 => ?_) (fun c_7 => ?_)
        · skip
          refine wg_iconst cx dJ1_indexOf_63 ?_
          refine wg_own (own9 := []) [] rfl rfl ?_
          exact wg_iret cx dJ1_indexOf_64 ⟨(by rw [hf, idxF_end (by omega)]), rfl⟩
        · skip
          refine wg_aload_n cx (isRf_rf _) rfl dJ1_indexOf_43 ?_
          refine wg_aload_n cx (isRf_ref _) rfl dJ1_indexOf_44 ?_
          refine wg_call cx (wc := [(q_2, ob 7 [.ref j_3, .int (jI (0)), .ref a]), (j_3, ob 6 [.int (jI ((o + c : Int))), .int (jI (la)), .int (jI (0)), .ref t, .ref t])]) (wr := []) (cr_F (As := []) (rest := [va_rf (bx ev (x))]) cx (ct_S1_next ev f.l q_2 j_3 0 c la a t r p o n m v (by omega)) (mk_F (n := 0) cx (x := ⟨"java/util/ListIterator", "next", "()Ljava/lang/Object;"⟩) q980 q1074 q1076 q89 q1078 (fw_of cx q982 q981 q1077 q1075 q935 ⟨by decide, by decide⟩) ⟨by decide, by decide⟩ (by decide +kernel) ⟨Nat.le_of_ble_eq_true rfl, Nat.le_of_ble_eq_true rfl⟩) (RD.own 0 rfl) rfl (PC.and (r_s _) (PC.and (r_st _) (PC.and (r_r_ _) PC.no))) rfl rfl (by simp [va_rf_cat, cat_i, cat_r, cat_l, cat_n]) dJ1_indexOf_45) [0, 1] [] rfl rfl ⟨rfl, rfl⟩ (by decide) (fun v w1 hq_8 => ?_)
          obtain ⟨rfl, rfl⟩ := hq_8
          refine wg_nm (own9 := [(q_2, ob 7 [.ref j_3, .int (jI (0)), .ref a]), (j_3, ob 6 [.int (jI ((o + c + 1 : Int))), .int (jI ((o + c : Int))), .int (jI (0)), .ref t, .ref t])]) (lv9 := [(2, .ref q_2), (0, .ref a), (1, va_rf (bx ev (x)))]) (st9 := [va_rf (bx ev (sh v o c)), va_rf (bx ev (x))]) rfl rfl rfl ?_
          have hk := hv (o + c) (by omega)
          have hk : sh v o c = -1000 ∨ (-99 ≤ sh v o c ∧ sh v o c ≤ 99) := hk
          refine wg_st (st9 := [va_rf (bx ev (sh v o c)), .ref (ev.ad (x + 128).toNat)]) (by rw [bx_some ev (z := x) (by omega)]; rfl) ?_
          refine wg_call cx (wc := []) (wr := [(q_2, ob 7 [.ref j_3, .int (jI (0)), .ref a]), (j_3, ob 6 [.int (jI ((o + c + 1 : Int))), .int (jI ((o + c : Int))), .int (jI (0)), .ref t, .ref t])]) (cr_U (As := [va_rf (bx ev (sh v o c))]) (rest := []) cx (ct_iequals ev f.l x (sh v o c) (by omega)) (mk_U (n := 1) cx (x := ⟨"java/lang/Object", "equals", "(Ljava/lang/Object;)Z"⟩) (owner := "java/lang/Object") q1103 (cx.ts _ q1105) (decl_code cx q1104 q1135) q1117 q1118 q61 q1119 ⟨by decide, by decide⟩ (by decide +kernel) ⟨Nat.le_of_ble_eq_true rfl, Nat.le_of_ble_eq_true rfl⟩) (rd_bx cx (by omega) _) rfl PC.no rfl rfl (Nat.le_of_ble_eq_true rfl) dJ1_indexOf_50) [] [0, 1] rfl rfl ⟨rfl, rfl⟩ (by decide) (fun v w1 hq_9 => ?_)
          obtain ⟨rfl, rfl⟩ := hq_9
          refine wg_nm (own9 := [(q_2, ob 7 [.ref j_3, .int (jI (0)), .ref a]), (j_3, ob 6 [.int (jI ((o + c + 1 : Int))), .int (jI ((o + c : Int))), .int (jI (0)), .ref t, .ref t])]) (lv9 := [(2, .ref q_2), (0, .ref a), (1, va_rf (bx ev (x)))]) (st9 := [.int (jI (bI (x = (sh v o c))))]) rfl rfl rfl ?_
          refine wg_ifb_eq cx 34 dJ1_indexOf_53 (by decide) (fun c_10 => ?_) (fun c_10 => ?_)
          · skip
            refine wg_cr (kc9 := 0) (ks9 := 0) (by omega) ?_
            exact ih_5 (c + 1) (o + c : Int) (by omega) (by rw [hf]; exact idxF_miss (by omega) (by omega)) (by omega)
          · skip
            refine wg_aload_n cx (isRf_ref _) rfl dJ1_indexOf_56 ?_
            refine wg_call cx (wc := []) (wr := [(q_2, ob 7 [.ref j_3, .int (jI (0)), .ref a]), (j_3, ob 6 [.int (jI ((o + c + 1 : Int))), .int (jI ((o + c : Int))), .int (jI (0)), .ref t, .ref t])]) (cr_F (As := []) (rest := []) cx (ct_S1_prevIdx ev f.l q_2 j_3 0 (c + 1) (o + c : Int) a t r p o n m v (by omega)) (mk_F (n := 0) cx (x := ⟨"java/util/ListIterator", "previousIndex", "()I"⟩) q1423 q1431 q1433 q89 q1435 (fw_of cx q1425 q1424 q1434 q1432 q935 ⟨by decide, by decide⟩) ⟨by decide, by decide⟩ (by decide +kernel) ⟨Nat.le_of_ble_eq_true rfl, Nat.le_of_ble_eq_true rfl⟩) (RD.own 0 rfl) rfl (PC.and (RD.own 0 rfl) (PC.and (RD.own 1 rfl) (PC.and (r_s _) (PC.and (r_st _) (PC.and (r_r_ _) PC.no))))) rfl rfl (Nat.le_of_ble_eq_true rfl) dJ1_indexOf_57) [] [0, 1] rfl rfl ⟨rfl, rfl⟩ (by decide) (fun v w1 hq_11 => ?_)
            obtain ⟨rfl, rfl⟩ := hq_11
            refine wg_nm (own9 := [(q_2, ob 7 [.ref j_3, .int (jI (0)), .ref a]), (j_3, ob 6 [.int (jI ((o + c + 1 : Int))), .int (jI ((o + c : Int))), .int (jI (0)), .ref t, .ref t])]) (lv9 := [(2, .ref q_2), (0, .ref a), (1, va_rf (bx ev (x)))]) (st9 := [.int (jI (((c + 1) : Int) - 1))]) rfl rfl rfl ?_
            refine wg_own (own9 := []) [] rfl rfl ?_
            exact wg_iret cx dJ1_indexOf_62 ⟨(by rw [hf, idxF_hit (v := (sh v o)) (by omega) (by omega)]; exact congrArg (fun z => some (Value.int (jI z))) (by omega)), rfl⟩
    refine wg_cr (kc9 := 0) (ks9 := 0) (by omega) ?_
    exact loop_5 _ 0 (-1) (by omega) rfl (Nat.lt_succ_self _)
  · skip
    have loop_12 : ∀ (fu : Nat) (c : Nat) (la : Int), (c ≤ n) → (idxF (sh v o) x 0 n = idxF (sh v o) x c (n - c)) → n - c < fu → WG ev f 3 (QQ ev f (fun v9 w9 => v9 = some (.int (jI (idxF (sh v o) x 0 n))) ∧ w9 = []) nX) [(q_2, ob 7 [.ref j_3, .int (jI (0)), .ref a]), (j_3, ob 6 [.int (jI ((o + c : Int))), .int (jI (la)), .int (jI (0)), .ref t, .ref t])] [(2, .ref q_2), (0, .ref a), (1, va_rf (bx ev (x)))] [] 9 (0) (0) := by
      intro fu
      induction fu with
      | zero =>
        intro c la hc hf hm
        exact absurd hm (Nat.not_lt_zero _)
      | succ fu ih_12 =>
        intro c la hc hf hm
        refine wg_aload_n cx (isRf_ref _) rfl dJ1_indexOf_9 ?_
        refine wg_call cx (wc := []) (wr := [(q_2, ob 7 [.ref j_3, .int (jI (0)), .ref a]), (j_3, ob 6 [.int (jI ((o + c : Int))), .int (jI (la)), .int (jI (0)), .ref t, .ref t])]) (cr_F (As := []) (rest := []) cx (ct_S1_hasNext ev f.l q_2 j_3 0 c la a t r p o n m v (by omega)) (mk_F (n := 0) cx (x := ⟨"java/util/ListIterator", "hasNext", "()Z"⟩) q925 q936 q938 q89 q940 (fw_of cx q927 q926 q939 q937 q935 ⟨by decide, by decide⟩) ⟨by decide, by decide⟩ (by decide +kernel) ⟨Nat.le_of_ble_eq_true rfl, Nat.le_of_ble_eq_true rfl⟩) (RD.own 0 rfl) rfl (PC.and (RD.own 0 rfl) (PC.and (RD.own 1 rfl) (PC.and (r_s _) (PC.and (r_st _) (PC.and (r_r_ _) PC.no))))) rfl rfl (Nat.le_of_ble_eq_true rfl) dJ1_indexOf_10) [] [0, 1] rfl rfl ⟨rfl, rfl⟩ (by decide) (fun v w1 hq_13 => ?_)
        obtain ⟨rfl, rfl⟩ := hq_13
        refine wg_nm (own9 := [(q_2, ob 7 [.ref j_3, .int (jI (0)), .ref a]), (j_3, ob 6 [.int (jI ((o + c : Int))), .int (jI (la)), .int (jI (0)), .ref t, .ref t])]) (lv9 := [(2, .ref q_2), (0, .ref a), (1, va_rf (bx ev (x)))]) (st9 := [.int (jI (bI (c < n)))]) rfl rfl rfl ?_
        refine wg_ifb_eq cx 63 dJ1_indexOf_15 (by decide) (fun c_14 => ?_) (fun c_14 => ?_)
        · skip
          refine wg_iconst cx dJ1_indexOf_63 ?_
          refine wg_own (own9 := []) [] rfl rfl ?_
          exact wg_iret cx dJ1_indexOf_64 ⟨(by rw [hf, idxF_end (by omega)]), rfl⟩
        · skip
          refine wg_aload_n cx (isRf_ref _) rfl dJ1_indexOf_18 ?_
          refine wg_call cx (wc := [(q_2, ob 7 [.ref j_3, .int (jI (0)), .ref a]), (j_3, ob 6 [.int (jI ((o + c : Int))), .int (jI (la)), .int (jI (0)), .ref t, .ref t])]) (wr := []) (cr_F (As := []) (rest := []) cx (ct_S1_next ev f.l q_2 j_3 0 c la a t r p o n m v (by omega)) (mk_F (n := 0) cx (x := ⟨"java/util/ListIterator", "next", "()Ljava/lang/Object;"⟩) q980 q1074 q1076 q89 q1078 (fw_of cx q982 q981 q1077 q1075 q935 ⟨by decide, by decide⟩) ⟨by decide, by decide⟩ (by decide +kernel) ⟨Nat.le_of_ble_eq_true rfl, Nat.le_of_ble_eq_true rfl⟩) (RD.own 0 rfl) rfl (PC.and (r_s _) (PC.and (r_st _) (PC.and (r_r_ _) PC.no))) rfl rfl (Nat.le_of_ble_eq_true rfl) dJ1_indexOf_19) [0, 1] [] rfl rfl ⟨rfl, rfl⟩ (by decide) (fun v w1 hq_15 => ?_)
          obtain ⟨rfl, rfl⟩ := hq_15
          refine wg_nm (own9 := [(q_2, ob 7 [.ref j_3, .int (jI (0)), .ref a]), (j_3, ob 6 [.int (jI ((o + c + 1 : Int))), .int (jI ((o + c : Int))), .int (jI (0)), .ref t, .ref t])]) (lv9 := [(2, .ref q_2), (0, .ref a), (1, va_rf (bx ev (x)))]) (st9 := [va_rf (bx ev (sh v o c))]) rfl rfl rfl ?_
          refine wg_ifnonnull_b cx 9 dJ1_indexOf_24 (by decide) (fun c_16 => ?_) (fun c_16 => ?_)
          · skip
            refine wg_cr (kc9 := 0) (ks9 := 0) (by omega) ?_
            exact ih_12 (c + 1) (o + c : Int) (by omega) (by rw [hf]; exact idxF_miss (by omega) (by omega)) (by omega)
          · skip
            refine wg_aload_n cx (isRf_ref _) rfl dJ1_indexOf_27 ?_
            refine wg_call cx (wc := []) (wr := [(q_2, ob 7 [.ref j_3, .int (jI (0)), .ref a]), (j_3, ob 6 [.int (jI ((o + c + 1 : Int))), .int (jI ((o + c : Int))), .int (jI (0)), .ref t, .ref t])]) (cr_F (As := []) (rest := []) cx (ct_S1_prevIdx ev f.l q_2 j_3 0 (c + 1) (o + c : Int) a t r p o n m v (by omega)) (mk_F (n := 0) cx (x := ⟨"java/util/ListIterator", "previousIndex", "()I"⟩) q1423 q1431 q1433 q89 q1435 (fw_of cx q1425 q1424 q1434 q1432 q935 ⟨by decide, by decide⟩) ⟨by decide, by decide⟩ (by decide +kernel) ⟨Nat.le_of_ble_eq_true rfl, Nat.le_of_ble_eq_true rfl⟩) (RD.own 0 rfl) rfl (PC.and (RD.own 0 rfl) (PC.and (RD.own 1 rfl) (PC.and (r_s _) (PC.and (r_st _) (PC.and (r_r_ _) PC.no))))) rfl rfl (Nat.le_of_ble_eq_true rfl) dJ1_indexOf_28) [] [0, 1] rfl rfl ⟨rfl, rfl⟩ (by decide) (fun v w1 hq_17 => ?_)
            obtain ⟨rfl, rfl⟩ := hq_17
            refine wg_nm (own9 := [(q_2, ob 7 [.ref j_3, .int (jI (0)), .ref a]), (j_3, ob 6 [.int (jI ((o + c + 1 : Int))), .int (jI ((o + c : Int))), .int (jI (0)), .ref t, .ref t])]) (lv9 := [(2, .ref q_2), (0, .ref a), (1, va_rf (bx ev (x)))]) (st9 := [.int (jI (((c + 1) : Int) - 1))]) rfl rfl rfl ?_
            refine wg_own (own9 := []) [] rfl rfl ?_
            exact wg_iret cx dJ1_indexOf_33 ⟨(by rw [hf, idxF_hit (v := (sh v o)) (by omega) (by omega)]; exact congrArg (fun z => some (Value.int (jI z))) (by omega)), rfl⟩
    refine wg_cr (kc9 := 0) (ks9 := 0) (by omega) ?_
    exact loop_12 _ 0 (-1) (by omega) rfl (Nat.lt_succ_self _)
set_option maxHeartbeats 4000000 in
theorem ct_S_contains (ev : EvT) (l : Launch) (a : Nat) (t : Nat) (r : Nat) (p : Option Nat) (o : Nat) (n : Nat) (m : Nat) (v : Nat → Int) (x : Int) (hn : o + n ≤ m ∧ m < 2147483648) (hx : x = -1000 ∨ (-99 ≤ x ∧ x ≤ 99)) (hv : okV v m) : Ct ev l yJ0_contains (.code yJ0_contains cJ0_contains 3 (some Jvm.ClassFile.FieldType.boolean)) ({ frames := 8, cells := 2, slots := 8, locals := 159 } : Room) [.ref a, va_rf (bx ev (x))] (fun H => AT ev a (ob 4 [.int (jI (0)), .ref t, va_rf (p), .int (jI ((o : Int))), .int (jI ((n : Int)))]) H ∧ AT ev t (ob 3 [.int (jI (0)), .ref r]) H ∧ AT ev r (arR ev m v) H ∧ True) [] (fun v9 w9 => v9 = some (.int (jI (bI (0 < cntF (sh v o) x n)))) ∧ w9 = []) nX := by
  refine ct_of rfl (by simp [lg_sl, va_rf_cat, cat_i, cat_r, cat_l, cat_n]) ?_
  intro f hfl cx hA hro hP0 hD0 hnm hno
  obtain ⟨h_s, h_st, h_r_, -⟩ := hro
  have r_s : ∀ own9, RD ev f own9 a (ob 4 [.int (jI (0)), .ref t, va_rf (p), .int (jI ((o : Int))), .int (jI ((n : Int)))]) := RD.nil hA h_s
  have r_st : ∀ own9, RD ev f own9 t (ob 3 [.int (jI (0)), .ref r]) := RD.nil hA h_st
  have r_r_ : ∀ own9, RD ev f own9 r (arR ev m v) := RD.nil hA h_r_
  rw [show lv_args 0 [.ref a, va_rf (bx ev (x))] = [(0, .ref a), (1, va_rf (bx ev (x)))] by simp [lv_args, va_rf_cat, cat_i, cat_r, cat_l, cat_n]]
  show WG ev f 3 _ [] [(0, .ref a), (1, va_rf (bx ev (x)))] [] 0 2 8
  refine wg_aload_n cx (isRf_ref _) rfl dJ0_contains_0 ?_
  refine wg_call cx (wc := []) (wr := []) (cr_U (As := []) (rest := []) cx (ct_S_iterator ev f.l a t r p o n m v (by omega)) (mk_U (n := 0) cx (x := ⟨"java/util/AbstractCollection", "iterator", "()Ljava/util/Iterator;"⟩) (owner := "java/util/AbstractCollection") q2281 (cx.ts _ q2283) (decl_abs cx q2282) q2284 q1168 q79 q1170 ⟨by decide, by decide⟩ (by decide +kernel) ⟨Nat.le_of_ble_eq_true rfl, Nat.le_of_ble_eq_true rfl⟩) (r_s _) rfl (PC.and (r_s _) (PC.and (r_st _) (PC.and (r_r_ _) PC.no))) rfl rfl (Nat.le_of_ble_eq_true rfl) dJ0_contains_1) [] [] rfl rfl ⟨rfl, rfl⟩ (by decide) (fun v w1 hq_1 => ?_)
  obtain ⟨q_2, j_3, rfl, rfl⟩ := hq_1
  refine wg_nm (own9 := [(q_2, ob 7 [.ref j_3, .int (jI (0)), .ref a]), (j_3, ob 6 [.int (jI ((o : Int))), .int (jI (-1)), .int (jI (0)), .ref t, .ref t])]) (lv9 := [(0, .ref a), (1, va_rf (bx ev (x)))]) (st9 := [.ref q_2]) rfl rfl rfl ?_
  refine wg_astore_n (lv' := [(2, .ref q_2), (0, .ref a), (1, va_rf (bx ev (x)))]) cx (isRf_ref _) dJ0_contains_4 (by decide) (fil1 (c1_d rfl (c1_c (fun h9 => va_rf_cat _) c1_n)) rfl) ?_
  refine wg_aload_n cx (isRf_rf _) rfl dJ0_contains_5 ?_
  refine wg_ifnonnull_b cx 29 dJ0_contains_6 (by decide) (fun c_4 => ?_) (fun c_4 => ?_)
  · skip
    have loop_5 : ∀ (fu : Nat) (c : Nat) (la : Int), (c ≤ n) → (cntF (sh v o) x c = 0) → n - c < fu → WG ev f 3 (QQ ev f (fun v9 w9 => v9 = some (.int (jI (bI (0 < cntF (sh v o) x n)))) ∧ w9 = []) nX) [(q_2, ob 7 [.ref j_3, .int (jI (0)), .ref a]), (j_3, ob 6 [.int (jI ((o + c : Int))), .int (jI (la)), .int (jI (0)), .ref t, .ref t])] [(2, .ref q_2), (0, .ref a), (1, va_rf (bx ev (x)))] [] 29 (0) (0) := by
      intro fu
      induction fu with
      | zero =>
        intro c la hc hf hm
        exact absurd hm (Nat.not_lt_zero _)
      | succ fu ih_5 =>
        intro c la hc hf hm
        refine wg_aload_n cx (isRf_ref _) rfl dJ0_contains_29 ?_
        refine wg_call cx (wc := []) (wr := [(q_2, ob 7 [.ref j_3, .int (jI (0)), .ref a]), (j_3, ob 6 [.int (jI ((o + c : Int))), .int (jI (la)), .int (jI (0)), .ref t, .ref t])]) (cr_F (As := []) (rest := []) cx (ct_S1_hasNext ev f.l q_2 j_3 0 c la a t r p o n m v (by omega)) (mk_F (n := 0) cx (x := ⟨"java/util/Iterator", "hasNext", "()Z"⟩) q2290 q1227 q938 q89 q940 (fw_of cx q1220 q1219 q939 q937 q1226 ⟨by decide, by decide⟩) ⟨by decide, by decide⟩ (by decide +kernel) ⟨Nat.le_of_ble_eq_true rfl, Nat.le_of_ble_eq_true rfl⟩) (RD.own 0 rfl) rfl (PC.and (RD.own 0 rfl) (PC.and (RD.own 1 rfl) (PC.and (r_s _) (PC.and (r_st _) (PC.and (r_r_ _) PC.no))))) rfl rfl (Nat.le_of_ble_eq_true rfl) dJ0_contains_30) [] [0, 1] rfl rfl ⟨rfl, rfl⟩ (by decide) (fun v w1 hq_6 => ?_)
        obtain ⟨rfl, rfl⟩ := hq_6
        refine wg_nm (own9 := [(q_2, ob 7 [.ref j_3, .int (jI (0)), .ref a]), (j_3, ob 6 [.int (jI ((o + c : Int))), .int (jI (la)), .int (jI (0)), .ref t, .ref t])]) (lv9 := [(2, .ref q_2), (0, .ref a), (1, va_rf (bx ev (x)))]) (st9 := [.int (jI (bI (c < n)))]) rfl rfl rfl ?_
        refine wg_ifb_eq cx 53 dJ0_contains_35 (by decide) (fun c_7 => ?_) (fun c_7 => ?_)
        · skip
          refine wg_iconst cx dJ0_contains_53 ?_
          refine wg_own (own9 := []) [] rfl rfl ?_
          exact wg_zret cx rfl dJ0_contains_54 ⟨(by rw [bI_f (by rw [show n = c by omega]; omega)]), rfl⟩
        · skip
          refine wg_aload_n cx (isRf_rf _) rfl dJ0_contains_38 ?_
          refine wg_aload_n cx (isRf_ref _) rfl dJ0_contains_39 ?_
          refine wg_call cx (wc := [(q_2, ob 7 [.ref j_3, .int (jI (0)), .ref a]), (j_3, ob 6 [.int (jI ((o + c : Int))), .int (jI (la)), .int (jI (0)), .ref t, .ref t])]) (wr := []) (cr_F (As := []) (rest := [va_rf (bx ev (x))]) cx (ct_S1_next ev f.l q_2 j_3 0 c la a t r p o n m v (by omega)) (mk_F (n := 0) cx (x := ⟨"java/util/Iterator", "next", "()Ljava/lang/Object;"⟩) q2292 q1248 q1076 q89 q1078 (fw_of cx q1244 q1243 q1077 q1075 q1226 ⟨by decide, by decide⟩) ⟨by decide, by decide⟩ (by decide +kernel) ⟨Nat.le_of_ble_eq_true rfl, Nat.le_of_ble_eq_true rfl⟩) (RD.own 0 rfl) rfl (PC.and (r_s _) (PC.and (r_st _) (PC.and (r_r_ _) PC.no))) rfl rfl (by simp [va_rf_cat, cat_i, cat_r, cat_l, cat_n]) dJ0_contains_40) [0, 1] [] rfl rfl ⟨rfl, rfl⟩ (by decide) (fun v w1 hq_8 => ?_)
          obtain ⟨rfl, rfl⟩ := hq_8
          refine wg_nm (own9 := [(q_2, ob 7 [.ref j_3, .int (jI (0)), .ref a]), (j_3, ob 6 [.int (jI ((o + c + 1 : Int))), .int (jI ((o + c : Int))), .int (jI (0)), .ref t, .ref t])]) (lv9 := [(2, .ref q_2), (0, .ref a), (1, va_rf (bx ev (x)))]) (st9 := [va_rf (bx ev (sh v o c)), va_rf (bx ev (x))]) rfl rfl rfl ?_
          have hk := hv (o + c) (by omega)
          have hk : sh v o c = -1000 ∨ (-99 ≤ sh v o c ∧ sh v o c ≤ 99) := hk
          refine wg_st (st9 := [va_rf (bx ev (sh v o c)), .ref (ev.ad (x + 128).toNat)]) (by rw [bx_some ev (z := x) (by omega)]; rfl) ?_
          refine wg_call cx (wc := []) (wr := [(q_2, ob 7 [.ref j_3, .int (jI (0)), .ref a]), (j_3, ob 6 [.int (jI ((o + c + 1 : Int))), .int (jI ((o + c : Int))), .int (jI (0)), .ref t, .ref t])]) (cr_U (As := [va_rf (bx ev (sh v o c))]) (rest := []) cx (ct_iequals ev f.l x (sh v o c) (by omega)) (mk_U (n := 1) cx (x := ⟨"java/lang/Object", "equals", "(Ljava/lang/Object;)Z"⟩) (owner := "java/lang/Object") q2293 (cx.ts _ q1105) (decl_code cx q1104 q1135) q1117 q1118 q61 q1119 ⟨by decide, by decide⟩ (by decide +kernel) ⟨Nat.le_of_ble_eq_true rfl, Nat.le_of_ble_eq_true rfl⟩) (rd_bx cx (by omega) _) rfl PC.no rfl rfl (Nat.le_of_ble_eq_true rfl) dJ0_contains_45) [] [0, 1] rfl rfl ⟨rfl, rfl⟩ (by decide) (fun v w1 hq_9 => ?_)
          obtain ⟨rfl, rfl⟩ := hq_9
          refine wg_nm (own9 := [(q_2, ob 7 [.ref j_3, .int (jI (0)), .ref a]), (j_3, ob 6 [.int (jI ((o + c + 1 : Int))), .int (jI ((o + c : Int))), .int (jI (0)), .ref t, .ref t])]) (lv9 := [(2, .ref q_2), (0, .ref a), (1, va_rf (bx ev (x)))]) (st9 := [.int (jI (bI (x = (sh v o c))))]) rfl rfl rfl ?_
          refine wg_ifb_eq cx 29 dJ0_contains_48 (by decide) (fun c_10 => ?_) (fun c_10 => ?_)
          · skip
            refine wg_cr (kc9 := 0) (ks9 := 0) (by omega) ?_
            exact ih_5 (c + 1) (o + c : Int) (by omega) (by rw [cntF_miss (by omega)]; exact hf) (by omega)
          · skip
            refine wg_iconst cx dJ0_contains_51 ?_
            refine wg_own (own9 := []) [] rfl rfl ?_
            exact wg_zret cx rfl dJ0_contains_52 ⟨(by rw [bI_t (by exact cntF_pos_of (i := c) (by omega) (by omega))]), rfl⟩
    refine wg_cr (kc9 := 0) (ks9 := 0) (by omega) ?_
    exact loop_5 _ 0 (-1) (by omega) rfl (Nat.lt_succ_self _)
  · skip
    have loop_11 : ∀ (fu : Nat) (c : Nat) (la : Int), (c ≤ n) → (cntF (sh v o) x c = 0) → n - c < fu → WG ev f 3 (QQ ev f (fun v9 w9 => v9 = some (.int (jI (bI (0 < cntF (sh v o) x n)))) ∧ w9 = []) nX) [(q_2, ob 7 [.ref j_3, .int (jI (0)), .ref a]), (j_3, ob 6 [.int (jI ((o + c : Int))), .int (jI (la)), .int (jI (0)), .ref t, .ref t])] [(2, .ref q_2), (0, .ref a), (1, va_rf (bx ev (x)))] [] 9 (0) (0) := by
      intro fu
      induction fu with
      | zero =>
        intro c la hc hf hm
        exact absurd hm (Nat.not_lt_zero _)
      | succ fu ih_11 =>
        intro c la hc hf hm
        refine wg_aload_n cx (isRf_ref _) rfl dJ0_contains_9 ?_
        refine wg_call cx (wc := []) (wr := [(q_2, ob 7 [.ref j_3, .int (jI (0)), .ref a]), (j_3, ob 6 [.int (jI ((o + c : Int))), .int (jI (la)), .int (jI (0)), .ref t, .ref t])]) (cr_F (As := []) (rest := []) cx (ct_S1_hasNext ev f.l q_2 j_3 0 c la a t r p o n m v (by omega)) (mk_F (n := 0) cx (x := ⟨"java/util/Iterator", "hasNext", "()Z"⟩) q2290 q1227 q938 q89 q940 (fw_of cx q1220 q1219 q939 q937 q1226 ⟨by decide, by decide⟩) ⟨by decide, by decide⟩ (by decide +kernel) ⟨Nat.le_of_ble_eq_true rfl, Nat.le_of_ble_eq_true rfl⟩) (RD.own 0 rfl) rfl (PC.and (RD.own 0 rfl) (PC.and (RD.own 1 rfl) (PC.and (r_s _) (PC.and (r_st _) (PC.and (r_r_ _) PC.no))))) rfl rfl (Nat.le_of_ble_eq_true rfl) dJ0_contains_10) [] [0, 1] rfl rfl ⟨rfl, rfl⟩ (by decide) (fun v w1 hq_12 => ?_)
        obtain ⟨rfl, rfl⟩ := hq_12
        refine wg_nm (own9 := [(q_2, ob 7 [.ref j_3, .int (jI (0)), .ref a]), (j_3, ob 6 [.int (jI ((o + c : Int))), .int (jI (la)), .int (jI (0)), .ref t, .ref t])]) (lv9 := [(2, .ref q_2), (0, .ref a), (1, va_rf (bx ev (x)))]) (st9 := [.int (jI (bI (c < n)))]) rfl rfl rfl ?_
        refine wg_ifb_eq cx 53 dJ0_contains_15 (by decide) (fun c_13 => ?_) (fun c_13 => ?_)
        · skip
          refine wg_iconst cx dJ0_contains_53 ?_
          refine wg_own (own9 := []) [] rfl rfl ?_
          exact wg_zret cx rfl dJ0_contains_54 ⟨(by rw [bI_f (by rw [show n = c by omega]; omega)]), rfl⟩
        · skip
          refine wg_aload_n cx (isRf_ref _) rfl dJ0_contains_18 ?_
          refine wg_call cx (wc := [(q_2, ob 7 [.ref j_3, .int (jI (0)), .ref a]), (j_3, ob 6 [.int (jI ((o + c : Int))), .int (jI (la)), .int (jI (0)), .ref t, .ref t])]) (wr := []) (cr_F (As := []) (rest := []) cx (ct_S1_next ev f.l q_2 j_3 0 c la a t r p o n m v (by omega)) (mk_F (n := 0) cx (x := ⟨"java/util/Iterator", "next", "()Ljava/lang/Object;"⟩) q2292 q1248 q1076 q89 q1078 (fw_of cx q1244 q1243 q1077 q1075 q1226 ⟨by decide, by decide⟩) ⟨by decide, by decide⟩ (by decide +kernel) ⟨Nat.le_of_ble_eq_true rfl, Nat.le_of_ble_eq_true rfl⟩) (RD.own 0 rfl) rfl (PC.and (r_s _) (PC.and (r_st _) (PC.and (r_r_ _) PC.no))) rfl rfl (Nat.le_of_ble_eq_true rfl) dJ0_contains_19) [0, 1] [] rfl rfl ⟨rfl, rfl⟩ (by decide) (fun v w1 hq_14 => ?_)
          obtain ⟨rfl, rfl⟩ := hq_14
          refine wg_nm (own9 := [(q_2, ob 7 [.ref j_3, .int (jI (0)), .ref a]), (j_3, ob 6 [.int (jI ((o + c + 1 : Int))), .int (jI ((o + c : Int))), .int (jI (0)), .ref t, .ref t])]) (lv9 := [(2, .ref q_2), (0, .ref a), (1, va_rf (bx ev (x)))]) (st9 := [va_rf (bx ev (sh v o c))]) rfl rfl rfl ?_
          refine wg_ifnonnull_b cx 9 dJ0_contains_24 (by decide) (fun c_15 => ?_) (fun c_15 => ?_)
          · skip
            refine wg_cr (kc9 := 0) (ks9 := 0) (by omega) ?_
            exact ih_11 (c + 1) (o + c : Int) (by omega) (by rw [cntF_miss (by omega)]; exact hf) (by omega)
          · skip
            refine wg_iconst cx dJ0_contains_27 ?_
            refine wg_own (own9 := []) [] rfl rfl ?_
            exact wg_zret cx rfl dJ0_contains_28 ⟨(by rw [bI_t (by exact cntF_pos_of (i := c) (by omega) (by omega))]), rfl⟩
    refine wg_cr (kc9 := 0) (ks9 := 0) (by omega) ?_
    exact loop_11 _ 0 (-1) (by omega) rfl (Nat.lt_succ_self _)
