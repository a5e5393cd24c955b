/-! MY BASE 4: the kinds of call -/
set_option maxRecDepth 100000
abbrev nMH (C : String) : Prop := C ≠ "java/lang/invoke/MethodHandle" ∧ C ≠ "java/lang/invoke/VarHandle"
abbrev nPar (d : String) (n : Nat) : Prop := (parseMethodDescriptor d).map (fun d => d.parameters.length) = some n
theorem par_len {d : String} {n : Nat} (h : nPar d n) : ∀ sig, parseMethodDescriptor d = some sig → n = sig.parameters.length := by
  intro sig hs
  unfold nPar at h
  rw [hs] at h
  exact (Option.some.inj h).symm
section WGC
variable {ev : EvT} {f : FxT} {nL : Nat} {own wc : va_W} {pc : Nat} {cc : ByteArray} {C : String} {rt : Option FieldType} {rm rm1 : Room}
variable {y : MethodName} {b : ByteArray} {L : Nat} {r : Option FieldType} {hh : List (Nat × Nat × Nat × Nat)} {idx a n : Nat} {As rest st0 : List Value} {ro : Heap → Prop} {Qp1 : Option Value → va_W → Prop} {Xp1 : String → va_W → Prop} {Cr : String} {T : u_T} {N ci a9 : Nat} {fs : List Value}
theorem mk_V (cx : CX ev f cc nL C rt rm) (h1 : Cond.methodLink C idx y ∈ lw_all) (h2 : Cond.instanceMethod y ∈ lw_all) (h3 : (Cond.selects Cr y y).before f.args f.s = true) (h4 : Cond.initialized y.cls ∈ lw_all) (h5 : Cond.code y b L r ∈ lw_all) (hm : nMH y.cls) (hp : nPar y.desc n) (hR : rm1.frames + 1 ≤ rm.frames ∧ 8 + (L + 11) + rm1.locals ≤ rm.locals) : CallW f.R f.s f.args C Cr idx y b L r (Cond.code y b L r :: lw_all) rm1 rm1.cells rm1.slots n :=
  ⟨callB_of n cx.ts (lw_meth h5) rfl rfl rfl (cx.ts _ h4) (cx.ts _ h1) ⟨hm.1, hm.2, hp⟩ (by rw [cx.room]; exact hR), cx.ts _ h2, h3⟩
theorem cr_V (cx : CX ev f cc nL C rt rm) (hM : Ct ev f.l y (.code y b L r) rm1 (.ref a :: As) ro wc Qp1 Xp1) (cw : CallW f.R f.s f.args C Cr idx y b L r (Cond.code y b L r :: lw_all) rm1 rm1.cells rm1.slots n) (hrec : RD ev f own a (ob ci fs)) (hc : vwCl[ci]? = some (Cr, T, N)) (hro : PC ev f own ro) (hn : As.length = n) (hst : st0 = As.reverse ++ .ref a :: rest) (hW : (rest.map fun v => v.category).sum ≤ 8) (hd : decode cc pc = .ok (.invokevirtual idx, 3)) : CR ev f 3 own wc nL rm1 st0 rest pc Qp1 Xp1 := by
  subst hst
  intro H locs ls cells slots hls hP hPc hDc hS h1 h2
  exact ⟨(Value.ref a :: As).toArray, vx_runV (g := F0 f.m pc ls _) cx.fix (ct_pre cx hM hro hP hPc hDc hS) cw ⟨ct_blind, ct_recv cx hrec hc hP hS, ct_at cx⟩ rfl hn hls rfl (lv_room (pc := pc) (m := f.m) (ls := ls) (rest := []) hW) hd ⟨h1, h2⟩⟩
theorem mk_VW (cx : CX ev f cc nL C rt rm) (h1 : Cond.methodLink C idx y ∈ lw_all) (h2 : Cond.instanceMethod y ∈ lw_all) (h3 : (Cond.selects Cr y y).before f.args f.s = true) (h4 : Cond.initialized y.cls ∈ lw_all) (h5 : Cond.codeWith y b L r hh ∈ lw_all) (hm : nMH y.cls) (hp : nPar y.desc n) (hR : rm1.frames + 1 ≤ rm.frames ∧ 8 + (L + 11) + rm1.locals ≤ rm.locals) : vx_CVW f.R f.s f.args C Cr idx y b L r hh (Cond.codeWith y b L r hh :: lw_all) rm1 rm1.cells rm1.slots n := by
  have hR' : rm1.frames + 1 ≤ f.R.frames ∧ 8 + (L + 11) + rm1.locals ≤ f.R.locals := by rw [cx.room]; exact hR
  exact ⟨⟨rfl, rfl, hR'.1, hR'.2, pay_in cx.ts (lw_methW h5), List.mem_cons_self⟩, cx.ts _ h5, cx.ts _ h4, hm, par_len hp, cx.ts _ h1, cx.ts _ h2, h3⟩
theorem cr_VW (cx : CX ev f cc nL C rt rm) (hM : Ct ev f.l y (.codeWith y b L r hh) rm1 (.ref a :: As) ro wc Qp1 Xp1) (cw : vx_CVW f.R f.s f.args C Cr idx y b L r hh (Cond.codeWith y b L r hh :: lw_all) rm1 rm1.cells rm1.slots n) (hrec : RD ev f own a (ob ci fs)) (hc : vwCl[ci]? = some (Cr, T, N)) (hro : PC ev f own ro) (hn : As.length = n) (hst : st0 = As.reverse ++ .ref a :: rest) (hW : (rest.map fun v => v.category).sum ≤ 8) (hd : decode cc pc = .ok (.invokevirtual idx, 3)) : CR ev f 3 own wc nL rm1 st0 rest pc Qp1 Xp1 := by
  subst hst
  intro H locs ls cells slots hls hP hPc hDc hS h1 h2
  exact ⟨(Value.ref a :: As).toArray, vx_runVX (g := F0 f.m pc ls _) cx.fix (ct_pre cx hM hro hP hPc hDc hS) cw ⟨ct_blind, ct_recv cx hrec hc hP hS, ct_at cx⟩ rfl hn hls rfl (lv_room (pc := pc) (m := f.m) (ls := ls) (rest := []) hW) hd ⟨h1, h2⟩⟩
theorem mk_U (cx : CX ev f cc nL C rt rm) {x : MethodName} {owner : String} (h1 : Cond.methodLink C idx x ∈ lw_all) (h2 : (Cond.sameMethod x.cls owner x.name x.desc).before f.args f.s = true) (h3 : va_Decl f.s ⟨owner, x.name, x.desc⟩) (h4 : Cond.selects Cr x y ∈ lw_all) (h5 : Cond.instanceMethod y ∈ lw_all) (h6 : Cond.initialized y.cls ∈ lw_all) (h7 : Cond.code y b L r ∈ lw_all) (hm : nMH owner) (hp : nPar x.desc n) (hR : rm1.frames + 1 ≤ rm.frames ∧ 8 + (L + 11) + rm1.locals ≤ rm.locals) : va_CU f.R f.s f.args C Cr owner idx x y b L r (Cond.code y b L r :: lw_all) rm1 rm1.cells rm1.slots n := by
  have hR' : rm1.frames + 1 ≤ f.R.frames ∧ 8 + (L + 11) + rm1.locals ≤ f.R.locals := by rw [cx.room]; exact hR
  exact ⟨⟨rfl, rfl, hR'.1, hR'.2, pay_in cx.ts (lw_meth h7), List.mem_cons_self⟩, cx.ts _ h7, cx.ts _ h6, hm, par_len hp, cx.ts _ h1, h2, h3, cx.ts _ h4, cx.ts _ h5⟩
theorem decl_code (cx : CX ev f cc nL C rt rm) {x : MethodName} {b0 : ByteArray} {m0 : Nat} {r0 : Option FieldType} (h1 : Cond.instanceMethod x ∈ lw_all) (h2 : Cond.code x b0 m0 r0 ∈ lw_all) : va_Decl f.s x := va_Decl.of (cx.ts _ h1) (cx.ts _ h2)
theorem decl_abs (cx : CX ev f cc nL C rt rm) {x : MethodName} (h : Cond.declares x ∈ lw_tbl) : va_Decl f.s x := by
  obtain ⟨b0, hE⟩ := cx.E
  exact va_Decl.abs (va_Nw.warmD cx.warm (va_Nw.of rfl (hE.1 _ h)))
theorem cr_U (cx : CX ev f cc nL C rt rm) {x : MethodName} {owner : String} (hM : Ct ev f.l y (.code y b L r) rm1 (.ref a :: As) ro wc Qp1 Xp1) (cw : va_CU f.R f.s f.args C Cr owner idx x y b L r (Cond.code y b L r :: lw_all) rm1 rm1.cells rm1.slots n) (hrec : RD ev f own a (ob ci fs)) (hc : vwCl[ci]? = some (Cr, T, N)) (hro : PC ev f own ro) (hn : As.length = n) (hst : st0 = As.reverse ++ .ref a :: rest) (hW : (rest.map fun v => v.category).sum ≤ 8) (hd : decode cc pc = .ok (.invokevirtual idx, 3)) : CR ev f 3 own wc nL rm1 st0 rest pc Qp1 Xp1 := by
  subst hst
  intro H locs ls cells slots hls hP hPc hDc hS h1 h2
  exact ⟨(Value.ref a :: As).toArray, vx_runU (g := F0 f.m pc ls _) cx.fix (ct_pre cx hM hro hP hPc hDc hS) cw ⟨ct_blind, ct_recv cx hrec hc hP hS, ct_at cx⟩ rfl hn hls rfl (lv_room (pc := pc) (m := f.m) (ls := ls) (rest := []) hW) hd ⟨h1, h2⟩⟩
theorem mk_S (cx : CX ev f cc nL C rt rm) (h1 : Cond.methodLink C idx y ∈ lw_all) (h2 : Cond.static y ∈ lw_all) (h4 : Cond.initialized y.cls ∈ lw_all) (h5 : Cond.code y b L r ∈ lw_all) (hm : nMH y.cls) (hp : nPar y.desc n) (hR : rm1.frames + 1 ≤ rm.frames ∧ 8 + (L + 11) + rm1.locals ≤ rm.locals) : CallB f.R f.s f.args C idx y b L r (Cond.code y b L r :: lw_all) rm1 rm1.cells rm1.slots n ∧ (Cond.static y).before f.args f.s = true :=
  ⟨callB_of n cx.ts (lw_meth h5) rfl rfl rfl (cx.ts _ h4) (cx.ts _ h1) ⟨hm.1, hm.2, hp⟩ (by rw [cx.room]; exact hR), cx.ts _ h2⟩
theorem cr_S (cx : CX ev f cc nL C rt rm) (hM : Ct ev f.l y (.code y b L r) rm1 As ro wc Qp1 Xp1) (cw : CallB f.R f.s f.args C idx y b L r (Cond.code y b L r :: lw_all) rm1 rm1.cells rm1.slots n ∧ (Cond.static y).before f.args f.s = true) (hro : PC ev f own ro) (hn : As.length = n) (hst : st0 = As.reverse ++ rest) (hW : (rest.map fun v => v.category).sum ≤ 8) (hd : decode cc pc = .ok (.invokestatic idx, 3)) : CR ev f 3 own wc nL rm1 st0 rest pc Qp1 Xp1 := by
  subst hst
  intro H locs ls cells slots hls hP hPc hDc hS h1 h2
  exact ⟨As.toArray, vx_runS (g := F0 f.m pc ls _) cx.fix (ct_pre cx hM hro hP hPc hDc hS) cw ⟨ct_blind, ct_at cx⟩ rfl hn hls rfl (lv_room (pc := pc) (m := f.m) (ls := ls) (rest := []) hW) hd ⟨h1, h2⟩⟩
theorem mk_SW (cx : CX ev f cc nL C rt rm) (h1 : Cond.methodLink C idx y ∈ lw_all) (h2 : Cond.static y ∈ lw_all) (h4 : Cond.initialized y.cls ∈ lw_all) (h5 : Cond.codeWith y b L r hh ∈ lw_all) (hm : nMH y.cls) (hp : nPar y.desc n) (hR : rm1.frames + 1 ≤ rm.frames ∧ 8 + (L + 11) + rm1.locals ≤ rm.locals) : vx_CSW f.R f.s f.args C idx y b L r hh (Cond.codeWith y b L r hh :: lw_all) rm1 rm1.cells rm1.slots n := by
  have hR' : rm1.frames + 1 ≤ f.R.frames ∧ 8 + (L + 11) + rm1.locals ≤ f.R.locals := by rw [cx.room]; exact hR
  exact ⟨⟨rfl, rfl, hR'.1, hR'.2, pay_in cx.ts (lw_methW h5), List.mem_cons_self⟩, cx.ts _ h5, cx.ts _ h4, hm, par_len hp, cx.ts _ h1, cx.ts _ h2⟩
theorem cr_SW (cx : CX ev f cc nL C rt rm) (hM : Ct ev f.l y (.codeWith y b L r hh) rm1 As ro wc Qp1 Xp1) (cw : vx_CSW f.R f.s f.args C idx y b L r hh (Cond.codeWith y b L r hh :: lw_all) rm1 rm1.cells rm1.slots n) (hro : PC ev f own ro) (hn : As.length = n) (hst : st0 = As.reverse ++ rest) (hW : (rest.map fun v => v.category).sum ≤ 8) (hd : decode cc pc = .ok (.invokestatic idx, 3)) : CR ev f 3 own wc nL rm1 st0 rest pc Qp1 Xp1 := by
  subst hst
  intro H locs ls cells slots hls hP hPc hDc hS h1 h2
  exact ⟨As.toArray, vx_runSX (g := F0 f.m pc ls _) cx.fix (ct_pre cx hM hro hP hPc hDc hS) cw ⟨ct_blind, ct_at cx⟩ rfl hn hls rfl (lv_room (pc := pc) (m := f.m) (ls := ls) (rest := []) hW) hd ⟨h1, h2⟩⟩
theorem mk_I (cx : CX ev f cc nL C rt rm) (h1 : Cond.methodLink C idx y ∈ lw_all) (h2 : Cond.instanceMethod y ∈ lw_all) (hy : y.name = "<init>") (h4 : Cond.initialized y.cls ∈ lw_all) (h5 : Cond.code y b L none ∈ lw_all) (hm : nMH y.cls) (hp : nPar y.desc n) (hR : rm1.frames + 1 ≤ rm.frames ∧ 8 + (L + 11) + rm1.locals ≤ rm.locals) : CallB f.R f.s f.args C idx y b L none (Cond.code y b L none :: lw_all) rm1 rm1.cells rm1.slots n ∧ y.name = "<init>" ∧ (Cond.instanceMethod y).before f.args f.s = true :=
  ⟨callB_of n cx.ts (lw_meth h5) rfl rfl rfl (cx.ts _ h4) (cx.ts _ h1) ⟨hm.1, hm.2, hp⟩ (by rw [cx.room]; exact hR), hy, cx.ts _ h2⟩
theorem cr_I (cx : CX ev f cc nL C rt rm) (hM : Ct ev f.l y (.code y b L none) rm1 (.ref a :: As) ro wc Qp1 Xp1) (cw : CallB f.R f.s f.args C idx y b L none (Cond.code y b L none :: lw_all) rm1 rm1.cells rm1.slots n ∧ y.name = "<init>" ∧ (Cond.instanceMethod y).before f.args f.s = true) (hro : PC ev f own ro) (hn : As.length = n) (hst : st0 = As.reverse ++ .ref a :: rest) (hW : (rest.map fun v => v.category).sum ≤ 8) (hd : decode cc pc = .ok (.invokespecial idx, 3)) : CR ev f 3 own wc nL rm1 st0 rest pc Qp1 Xp1 := by
  subst hst
  intro H locs ls cells slots hls hP hPc hDc hS h1 h2
  exact ⟨(Value.ref a :: As).toArray, vx_runI (g := F0 f.m pc ls _) cx.fix (ct_pre cx hM hro hP hPc hDc hS) cw ⟨ct_blind, ct_at cx⟩ rfl hn hls rfl (lv_room (pc := pc) (m := f.m) (ls := ls) (rest := []) hW) hd ⟨h1, h2⟩⟩
theorem mk_IN (cx : CX ev f cc nL C rt rm) {host : String} (h1 : Cond.methodLinkNest C idx y host ∈ lw_tbl) (h2 : Cond.instanceMethod y ∈ lw_all) (hy : y.name = "<init>") (h4 : Cond.initialized y.cls ∈ lw_all) (h5 : Cond.code y b L none ∈ lw_all) (hm : nMH y.cls) (hp : nPar y.desc n) (hR : rm1.frames + 1 ≤ rm.frames ∧ 8 + (L + 11) + rm1.locals ≤ rm.locals) : va_CN f.R f.s f.args C idx y host b L none (Cond.code y b L none :: lw_all) rm1 rm1.cells rm1.slots n ∧ y.name = "<init>" ∧ (Cond.instanceMethod y).before f.args f.s = true := by
  obtain ⟨b0, hE⟩ := cx.E
  have hw : va_Nw (.methodLinkNest C idx y host) f.s := va_Nw.warmM cx.warm (va_Nw.of rfl (hE.1 _ h1))
  exact ⟨va_cnB n cx.ts (lw_meth h5) rfl rfl rfl hw (cx.ts _ h4) ⟨hm.1, hm.2, hp⟩ (by rw [cx.room]; exact hR), hy, cx.ts _ h2⟩
theorem cr_IN (cx : CX ev f cc nL C rt rm) {host : String} (hM : Ct ev f.l y (.code y b L none) rm1 (.ref a :: As) ro wc Qp1 Xp1) (cw : va_CN f.R f.s f.args C idx y host b L none (Cond.code y b L none :: lw_all) rm1 rm1.cells rm1.slots n ∧ y.name = "<init>" ∧ (Cond.instanceMethod y).before f.args f.s = true) (hro : PC ev f own ro) (hn : As.length = n) (hst : st0 = As.reverse ++ .ref a :: rest) (hW : (rest.map fun v => v.category).sum ≤ 8) (hd : decode cc pc = .ok (.invokespecial idx, 3)) : CR ev f 3 own wc nL rm1 st0 rest pc Qp1 Xp1 := by
  subst hst
  intro H locs ls cells slots hls hP hPc hDc hS h1 h2
  exact ⟨(Value.ref a :: As).toArray, vx_runIN (g := F0 f.m pc ls _) cx.fix (ct_pre cx hM hro hP hPc hDc hS) cw ⟨ct_blind, ct_at cx⟩ rfl hn hls rfl (lv_room (pc := pc) (m := f.m) (ls := ls) (rest := []) hW) hd ⟨h1, h2⟩⟩
theorem fw_of (cx : CX ev f cc nL C rt rm) {x y : MethodName} (h1 : Cond.declares x ∈ lw_tbl) (h2 : Cond.interfaceMethod x.cls x.cls x.name x.desc ∈ lw_tbl) (h3 : Cond.publicMethod y ∈ lw_tbl) (h4 : Cond.unhidden Cr x.name x.desc ∈ lw_tbl) (h5 : Cond.castable Cr x.cls ∈ lw_tbl) (hx : nMH x.cls) : va_Fw Cr x y f.s := by
  obtain ⟨b0, hE⟩ := cx.E
  exact va_Fw.moved hx cx.warm.alike (va_Fw.of (hE.1 _ h1) (hE.1 _ h2) (hE.1 _ h3) (hE.1 _ h4) (hE.1 _ h5))
theorem mk_F (cx : CX ev f cc nL C rt rm) {x : MethodName} (h1 : Cond.methodLink C idx x ∈ lw_all) (h2 : Cond.selects Cr x y ∈ lw_all) (h3 : Cond.instanceMethod y ∈ lw_all) (h4 : Cond.initialized y.cls ∈ lw_all) (h5 : Cond.code y b L r ∈ lw_all) (hF : va_Fw Cr x y f.s) (hm : nMH x.cls) (hp : nPar x.desc n) (hR : rm1.frames + 1 ≤ rm.frames ∧ 8 + (L + 11) + rm1.locals ≤ rm.locals) : va_CI f.R f.s f.args C Cr idx x y b L r (Cond.code y b L r :: lw_all) rm1 rm1.cells rm1.slots n := by
  have hR' : rm1.frames + 1 ≤ f.R.frames ∧ 8 + (L + 11) + rm1.locals ≤ f.R.locals := by rw [cx.room]; exact hR
  exact ⟨⟨rfl, rfl, hR'.1, hR'.2, pay_in cx.ts (lw_meth h5), List.mem_cons_self⟩, cx.ts _ h1, va_any rfl hF.1, va_any rfl hF.2.1, cx.ts _ h2, cx.ts _ h3, va_any rfl hF.2.2.1, va_any rfl hF.2.2.2.1, va_any rfl hF.2.2.2.2, cx.ts _ h4, cx.ts _ h5, hm, par_len hp⟩
theorem cr_F (cx : CX ev f cc nL C rt rm) {x : MethodName} {count : Nat} (hM : Ct ev f.l y (.code y b L r) rm1 (.ref a :: As) ro wc Qp1 Xp1) (cw : va_CI f.R f.s f.args C Cr idx x y b L r (Cond.code y b L r :: lw_all) rm1 rm1.cells rm1.slots n) (hrec : RD ev f own a (ob ci fs)) (hc : vwCl[ci]? = some (Cr, T, N)) (hro : PC ev f own ro) (hn : As.length = n) (hst : st0 = As.reverse ++ .ref a :: rest) (hW : (rest.map fun v => v.category).sum ≤ 8) (hd : decode cc pc = .ok (.invokeinterface idx count, 5)) : CR ev f 5 own wc nL rm1 st0 rest pc Qp1 Xp1 := by
  subst hst
  intro H locs ls cells slots hls hP hPc hDc hS h1 h2
  exact ⟨(Value.ref a :: As).toArray, vx_runF (g := F0 f.m pc ls _) (cx.K.1 ci _ hc).2 cx.fix (ct_pre cx hM hro hP hPc hDc hS) cw ⟨ct_blind, ct_recv cx hrec hc hP hS, ct_at cx⟩ rfl hn hls rfl (lv_room (pc := pc) (m := f.m) (ls := ls) (rest := []) hW) hd ⟨h1, h2⟩⟩
theorem mk_FW (cx : CX ev f cc nL C rt rm) {x : MethodName} (h1 : Cond.methodLink C idx x ∈ lw_all) (h2 : Cond.selects Cr x y ∈ lw_all) (h3 : Cond.instanceMethod y ∈ lw_all) (h4 : Cond.initialized y.cls ∈ lw_all) (h5 : Cond.codeWith y b L r hh ∈ lw_all) (hF : va_Fw Cr x y f.s) (hm : nMH x.cls) (hp : nPar x.desc n) (hR : rm1.frames + 1 ≤ rm.frames ∧ 8 + (L + 11) + rm1.locals ≤ rm.locals) : va_CIW f.R f.s f.args C Cr idx x y b L r hh (Cond.codeWith y b L r hh :: lw_all) rm1 rm1.cells rm1.slots n := by
  have hR' : rm1.frames + 1 ≤ f.R.frames ∧ 8 + (L + 11) + rm1.locals ≤ f.R.locals := by rw [cx.room]; exact hR
  exact ⟨⟨rfl, rfl, hR'.1, hR'.2, pay_in cx.ts (lw_methW h5), List.mem_cons_self⟩, cx.ts _ h1, va_any rfl hF.1, va_any rfl hF.2.1, cx.ts _ h2, cx.ts _ h3, va_any rfl hF.2.2.1, va_any rfl hF.2.2.2.1, va_any rfl hF.2.2.2.2, cx.ts _ h4, cx.ts _ h5, hm, par_len hp⟩
theorem cr_FW (cx : CX ev f cc nL C rt rm) {x : MethodName} {count : Nat} (hM : Ct ev f.l y (.codeWith y b L r hh) rm1 (.ref a :: As) ro wc Qp1 Xp1) (cw : va_CIW f.R f.s f.args C Cr idx x y b L r hh (Cond.codeWith y b L r hh :: lw_all) rm1 rm1.cells rm1.slots n) (hrec : RD ev f own a (ob ci fs)) (hc : vwCl[ci]? = some (Cr, T, N)) (hro : PC ev f own ro) (hn : As.length = n) (hst : st0 = As.reverse ++ .ref a :: rest) (hW : (rest.map fun v => v.category).sum ≤ 8) (hd : decode cc pc = .ok (.invokeinterface idx count, 5)) : CR ev f 5 own wc nL rm1 st0 rest pc Qp1 Xp1 := by
  subst hst
  intro H locs ls cells slots hls hP hPc hDc hS h1 h2
  exact ⟨(Value.ref a :: As).toArray, vx_runFW (g := F0 f.m pc ls _) (cx.K.1 ci _ hc).2 cx.fix (ct_pre cx hM hro hP hPc hDc hS) cw ⟨ct_blind, ct_recv cx hrec hc hP hS, ct_at cx⟩ rfl hn hls rfl (lv_room (pc := pc) (m := f.m) (ls := ls) (rest := []) hW) hd ⟨h1, h2⟩⟩
end WGC
section WGO
variable {ev : EvT} {l : Launch} {y : MethodName} {cc : ByteArray} {nL : Nat} {rt : Option FieldType} {hh : List (Nat × Nat × Nat × Nat)} {rm : Room} {args : List Value} {ro : Heap → Prop} {own : va_W} {Qp : Option Value → va_W → Prop} {Xp : String → va_W → Prop}
/-- a contract, by the walk of its body -/
theorem ct_of (hy : plainName y.cls = true) (hnl : (lg_sl args).length ≤ nL) (body : ∀ f : FxT, f.l = l → CX ev f cc nL y.cls rt rm → f.A = va_A own f.H0.size → ro f.H0 → PP ev own f.H0 → va_D f.A own → f.meth.name = y.name → (∀ x ∈ f.c.exceptionTable.toList, False) →
    WG ev f nL (QQ ev f Qp Xp) own (lv_args 0 args) [] 0 rm.cells rm.slots) : Ct ev l y (.code y cc nL rt) rm args ro own Qp Xp := by
  intro hE hl H hF hro hP hD
  refine vx_ofW hy rfl ?_
  intro p e s m args' below meth c s₁ B hml hno hpre
  obtain ⟨rfl, hW, hH⟩ := hpre
  subst hH
  have hD' : va_D (va_A own s.heap.size) own := va_D.self hD
  have cx : CX ev ((p, l, e, rm), (s, m, args.toArray, below, meth, c), (s.heap, va_A own s.heap.size)) cc nL y.cls rt rm :=
    ⟨⟨B.exec, B.bytes, hml, findClass_of_methodNamed B.named, fun w h => atoms_spec (ws := Cond.code y cc nL rt :: lw_all) B.pre w (List.mem_cons_of_mem _ h)⟩, B.notSynchronized, B.returns, rfl, hW, rfl, hF, fun q h => Or.inr h, fun q h => by
      rcases h with ⟨k, e9, h⟩ | h
      · exact hD.2 k _ h
      · exact Nat.le_trans hF.1 h, hl, hE⟩
  have hl9 := lv_entry args (n := nL) hnl
  rw [lg_entry_eq]
  exact body ((p, l, e, rm), (s, m, args.toArray, below, meth, c), (s.heap, va_A own s.heap.size)) rfl cx rfl hro hP hD' (name_of_methodNamed B.named B.method).1 hno s.heap [] _ 0 0 (by show 0 + rm.cells ≤ rm.cells; omega) (by show 0 + rm.slots ≤ rm.slots; omega) hP hD' va_S.rf hl9
theorem ct_ofH (hy : plainName y.cls = true) (hnl : (lg_sl args).length ≤ nL) (hq : Cond.codeWith y cc nL rt hh ∈ lw_all) (body : ∀ f : FxT, f.l = l → CX ev f cc nL y.cls rt rm → f.A = va_A own f.H0.size → ro f.H0 → PP ev own f.H0 → va_D f.A own → f.meth.name = y.name → f.c.exceptionTable.toList = tableOf hh →
    WG ev f nL (QQ ev f Qp Xp) own (lv_args 0 args) [] 0 rm.cells rm.slots) : Ct ev l y (.codeWith y cc nL rt hh) rm args ro own Qp Xp := by
  intro hE hl H hF hro hP hD
  refine vx_ofWH hy rfl ?_
  intro p e s m args' below meth c s₁ B hml hpre
  obtain ⟨rfl, hW, hH⟩ := hpre
  subst hH
  have hD' : va_D (va_A own s.heap.size) own := va_D.self hD
  have hts : ∀ w ∈ lw_all, w.before args.toArray s = true := fun w h => atoms_spec (ws := Cond.codeWith y cc nL rt hh :: lw_all) B.pre w (List.mem_cons_of_mem _ h)
  have cx : CX ev ((p, l, e, rm), (s, m, args.toArray, below, meth, c), (s.heap, va_A own s.heap.size)) cc nL y.cls rt rm :=
    ⟨⟨B.exec, B.bytes, hml, findClass_of_methodNamed B.named, hts⟩, B.notSynchronized, B.returns, rfl, hW, rfl, hF, fun q h => Or.inr h, fun q h => by
      rcases h with ⟨k, e9, h⟩ | h
      · exact hD.2 k _ h
      · exact Nat.le_trans hF.1 h, hl, hE⟩
  have hl9 := lv_entry args (n := nL) hnl
  rw [lg_entry_eq]
  exact body ((p, l, e, rm), (s, m, args.toArray, below, meth, c), (s.heap, va_A own s.heap.size)) rfl cx rfl hro hP hD' (name_of_methodNamed B.named B.method).1 (vx_table (x := y) B (hts _ hq)) s.heap [] _ 0 0 (by show 0 + rm.cells ≤ rm.cells; omega) (by show 0 + rm.slots ≤ rm.slots; omega) hP hD' va_S.rf hl9
end WGO
