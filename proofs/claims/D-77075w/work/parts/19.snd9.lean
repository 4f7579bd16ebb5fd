/-! ===== the abstract machine against the JVM: the ways of a call ===== -/
section SND9
/-- what the tables say of a method that a call runs -/
abbrev rt_nM (c : String) : Prop := c ≠ "java/lang/invoke/MethodHandle" ∧ c ≠ "java/lang/invoke/VarHandle"
abbrev rt_np (y : MethodName) (n : Nat) : Prop := (parseMethodDescriptor y.desc).map (fun d => d.parameters.length) = some n
/-- a static method; an object's method -/
def rt_kS (y : rt_Y) (n : Nat) : Prop := rt_yw y ∈ lw_all ∧ Cond.initialized y.1.cls ∈ lw_all ∧ Cond.static y.1 ∈ lw_all ∧ y.2.2.1 ≤ 41 ∧ rt_nM y.1.cls ∧ rt_np y.1 n
def rt_kV (y : rt_Y) (n : Nat) : Prop := rt_yw y ∈ lw_all ∧ Cond.initialized y.1.cls ∈ lw_all ∧ Cond.instanceMethod y.1 ∈ lw_all ∧ y.2.2.1 ≤ 41 ∧ rt_nM y.1.cls ∧ rt_np y.1 n
theorem rt_np_len {y : MethodName} {n : Nat} (h : rt_np y n) : ∀ sig, parseMethodDescriptor y.desc = some sig → n = sig.parameters.length := by
  intro sig hs
  unfold rt_np at h
  rw [hs] at h
  exact (Option.some.inj h).symm
/-- a call at pc with index i, of static methods: the method with number k runs -/
def rt_WS (X : rt_X) (Y : Nat → rt_Y) (cc : ByteArray) (nL : Nat) (own : String) (pc k n : Nat) : Prop :=
  ∀ {d : Nat} {l : Launch} {p : Program} {e : Env} {R : Room} {s : State} {m : MethodId} {args : Array Value} {below : List Frame} {meth : Method} {c : Code} {mn : String} {H : Heap} {locs : List Loc} {ls : Array Slot} {cells slots N M : Nat} {As rest : List Value} {Pc : Array Value → State → Prop} {Qc : Array Value → State → Outcome → State → Prop} {XC : Addr → String → State → State → Prop},
    rt_Bd X cc nL own mn d l p R s m args meth c → vx_Met l (Y k).1 (rt_ws (Y k)) (rt_rm X d N M) Pc Qc XC (1200144 + (rx_H X).size - N) (5497210 - M) (rt_fr X) → PreS s H Pc As → As.length = n → ls.size = nL → (rest.map fun v => v.category).sum ≤ 8 → (cells + (1200144 + (rx_H X).size - N) ≤ R.cells ∧ slots + (5497210 - M) ≤ R.slots) →
    vx_Run p l e R s m args below meth c H locs cells slots (1200144 + (rx_H X).size - N) (5497210 - M) (F0 m pc ls (As.reverse ++ rest)) rest (Qc As.toArray) XC (rt_fr X)
/-- .. of an object whose class has the number t -/
def rt_WV (X : rt_X) (Y : Nat → rt_Y) (cc : ByteArray) (nL : Nat) (own : String) (pc t k n : Nat) : Prop :=
  ∀ {d : Nat} {l : Launch} {p : Program} {e : Env} {R : Room} {s : State} {m : MethodId} {args : Array Value} {below : List Frame} {meth : Method} {c : Code} {mn : String} {H : Heap} {locs : List Loc} {ls : Array Slot} {cells slots N M : Nat} {b : Addr} {As rest : List Value} {Pc : Array Value → State → Prop} {Qc : Array Value → State → Outcome → State → Prop} {XC : Addr → String → State → State → Prop},
    rt_Bd X cc nL own mn d l p R s m args meth c → vx_Met l (Y k).1 (rt_ws (Y k)) (rt_rm X d N M) Pc Qc XC (1200144 + (rx_H X).size - N) (5497210 - M) (rt_fr X) → PreS s H Pc (.ref b :: As) → (∃ (q : vw_C) (cellB : Cell), rt_cl[t]? = some q ∧ H[b]? = some cellB ∧ cellB.vm.isStatics = false ∧ s.vm.findClass q.1 = some cellB.cls) → As.length = n → ls.size = nL → (rest.map fun v => v.category).sum ≤ 8 → (cells + (1200144 + (rx_H X).size - N) ≤ R.cells ∧ slots + (5497210 - M) ≤ R.slots) →
    vx_Run p l e R s m args below meth c H locs cells slots (1200144 + (rx_H X).size - N) (5497210 - M) (F0 m pc ls (As.reverse ++ .ref b :: rest)) rest (Qc (Value.ref b :: As).toArray) XC (rt_fr X)
/-- .. through an interface -/
def rt_WF (X : rt_X) (Y : Nat → rt_Y) (cc : ByteArray) (nL : Nat) (own : String) (pc t k n : Nat) : Prop :=
  ∀ {d : Nat} {l : Launch} {p : Program} {e : Env} {R : Room} {s : State} {m : MethodId} {args : Array Value} {below : List Frame} {meth : Method} {c : Code} {mn : String} {H : Heap} {locs : List Loc} {ls : Array Slot} {cells slots N M : Nat} {b : Addr} {As rest : List Value} {Pc : Array Value → State → Prop} {Qc : Array Value → State → Outcome → State → Prop} {XC : Addr → String → State → State → Prop},
    rt_Bd X cc nL own mn d l p R s m args meth c → vx_Met l (Y k).1 (rt_ws (Y k)) (rt_rm X d N M) Pc Qc XC (1200144 + (rx_H X).size - N) (5497210 - M) (rt_fr X) → PreS s H Pc (.ref b :: As) → (∃ (q : vw_C) (cellB : Cell), rt_cl[t]? = some q ∧ H[b]? = some cellB ∧ cellB.vm.isStatics = false ∧ s.vm.findClass q.1 = some cellB.cls) → As.length = n → ls.size = nL → (rest.map fun v => v.category).sum ≤ 8 → (cells + (1200144 + (rx_H X).size - N) ≤ R.cells ∧ slots + (5497210 - M) ≤ R.slots) →
    vx_Run5 p l e R s m args below meth c H locs cells slots (1200144 + (rx_H X).size - N) (5497210 - M) (F0 m pc ls (As.reverse ++ .ref b :: rest)) rest (Qc (Value.ref b :: As).toArray) XC (rt_fr X)
section G
variable {X : rt_X} {Y : Nat → rt_Y} {cc : ByteArray} {nL : Nat} {own mn : String} {d : Nat} {l : Launch} {p : Program} {e : Env} {R : Room} {s : State} {m : MethodId} {args : Array Value} {below : List Frame} {meth : Method} {c : Code} {n0 : Nat} {ad0 : Nat → Nat} {Q : State → Prop} {ret : Option FieldType} {pc : Nat}
theorem rt_rmR (B : rt_Bd X cc nL own mn d l p R s m args meth c) {N M k : Nat} (hk : k ≤ 41) : (rt_rm X d N M).frames + 1 ≤ R.frames ∧ 8 + (k + 11) + (rt_rm X d N M).locals ≤ R.locals := by
  obtain ⟨h1, h2, -, -⟩ := B.2.2.2.2.2.2.2.2.1
  show d + 19 + 1 ≤ R.frames ∧ 8 + (k + 11) + (60 * d + 10340) ≤ R.locals
  omega
theorem rt_cb (B : rt_Bd X cc nL own mn d l p R s m args meth c) {y : rt_Y} {n i N M : Nat} (hh : y.2.2.2.2 = []) (h1 : rt_yw y ∈ lw_all) (h2 : Cond.initialized y.1.cls ∈ lw_all) (h4 : y.2.2.1 ≤ 41) (h5 : rt_nM y.1.cls) (h6 : rt_np y.1 n) (hl : Cond.methodLink own i y.1 ∈ lw_all) :
    CallB R s args own i y.1 y.2.1 y.2.2.1 y.2.2.2.1 (rt_ws y) (rt_rm X d N M) (1200144 + (rx_H X).size - N) (5497210 - M) n := by
  have hw : rt_ws y = ws_ y.1 y.2.1 y.2.2.1 y.2.2.2.1 := rt_ws_nil hh
  have hy : rt_yw y = Cond.code y.1 y.2.1 y.2.2.1 y.2.2.2.1 := by unfold rt_yw; rw [hh]
  have hr := rt_rmR B (N := N) (M := M) h4
  rw [hy] at h1
  exact ⟨rfl, rfl, hr.1, hr.2, pay_in B.2.2.2.2.1 (rt_ws_good (by rw [hy]; exact h1)), by rw [hw]; exact List.mem_cons_self, B.2.2.2.2.1 _ h1, B.2.2.2.2.1 _ h2, h5, rt_np_len h6, B.2.2.2.2.1 _ hl⟩
theorem rt_fix (B : rt_Bd X cc nL own mn d l p R s m args meth c) : CallFix p m c cc nL s args lw_all own := ⟨B.1, B.2.1, B.2.2.1, B.2.2.2.1, B.2.2.2.2.1⟩
theorem ws_S {k n i : Nat} (hd : decode cc pc = .ok (.invokestatic i, 3)) (hh : (Y k).2.2.2.2 = []) (hk : rt_kS (Y k) n) (hl : Cond.methodLink own i (Y k).1 ∈ lw_all) : rt_WS X Y cc nL own pc k n := by
  intro d l p e R s m args below meth c mn H locs ls cells slots N M As rest Pc Qc XC B hM hp hn hs hW hf
  obtain ⟨h1, h2, h3, h4, h5, h6⟩ := hk
  exact vx_runS (rt_fix B) hM ⟨rt_cb B hh h1 h2 h4 h5 h6 hl, B.2.2.2.2.1 _ h3⟩ hp rfl hn hs rfl (by rw [show 2 * (F0 m pc ls (As.reverse ++ rest)).monitorRoom = 0 from rfl, Nat.zero_add]; exact hW) hd hf
theorem rt_cn (B : rt_Bd X cc nL own mn d l p R s m args meth c) {y : rt_Y} {n i N M : Nat} {host : String} (hh : y.2.2.2.2 = []) (h1 : rt_yw y ∈ lw_all) (h2 : Cond.initialized y.1.cls ∈ lw_all) (h4 : y.2.2.1 ≤ 41) (h5 : rt_nM y.1.cls) (h6 : rt_np y.1 n) (hl : Cond.methodLinkNest own i y.1 host ∈ lw_tbl) :
    va_CN R s args own i y.1 host y.2.1 y.2.2.1 y.2.2.2.1 (rt_ws y) (rt_rm X d N M) (1200144 + (rx_H X).size - N) (5497210 - M) n := by
  have hw : rt_ws y = ws_ y.1 y.2.1 y.2.2.1 y.2.2.2.1 := rt_ws_nil hh
  exact va_cnB n B.2.2.2.2.1 (rt_ws_good h1) hw rfl rfl (B.2.2.2.2.2.1.2.2.1 _ hl rfl) (B.2.2.2.2.1 _ h2) ⟨h5.1, h5.2, h6⟩ (rt_rmR B h4)
theorem ws_SN {k n i : Nat} {host : String} (hd : decode cc pc = .ok (.invokestatic i, 3)) (hh : (Y k).2.2.2.2 = []) (hk : rt_kS (Y k) n) (hl : Cond.methodLinkNest own i (Y k).1 host ∈ lw_tbl) : rt_WS X Y cc nL own pc k n := by
  intro d l p e R s m args below meth c mn H locs ls cells slots N M As rest Pc Qc XC B hM hp hn hs hW hf
  obtain ⟨h1, h2, h3, h4, h5, h6⟩ := hk
  exact vx_runSN (rt_fix B) hM ⟨rt_cn B hh h1 h2 h4 h5 h6 hl, B.2.2.2.2.1 _ h3, trivial⟩ hp rfl hn hs rfl (by rw [show 2 * (F0 m pc ls (As.reverse ++ rest)).monitorRoom = 0 from rfl, Nat.zero_add]; exact hW) hd hf
theorem rt_preV {H : Heap} {C : String} {b : Addr} {Pc : Array Value → State → Prop} {As : List Value} {cellB : Cell} (hp : PreS s H Pc (.ref b :: As)) (h1 : H[b]? = some cellB) (h2 : cellB.vm.isStatics = false) (h3 : s.vm.findClass C = some cellB.cls) : PreV s H C b Pc As := ⟨hp.1, ⟨cellB, h1, h2, h3⟩, hp.2⟩
theorem wv_V {t k n i : Nat} {C : String} (hd : decode cc pc = .ok (.invokevirtual i, 3)) (hh : (Y k).2.2.2.2 = []) (hk : rt_kV (Y k) n) (hl : Cond.methodLink own i (Y k).1 ∈ lw_all) (hC : (rt_cl[t]?).map Prod.fst = some C) (hs : Cond.selects C (Y k).1 (Y k).1 ∈ lw_all) : rt_WV X Y cc nL own pc t k n := by
  intro d l p e R s m args below meth c mn H locs ls cells slots N M b As rest Pc Qc XC B hM hp ⟨q, cellB, hq, hc1, hc2, hc3⟩ hn hsz hW hf
  obtain ⟨h1, h2, h3, h4, h5, h6⟩ := hk
  rw [hq] at hC
  cases Option.some.inj hC
  exact vx_runV (rt_fix B) hM ⟨rt_cb B hh h1 h2 h4 h5 h6 hl, B.2.2.2.2.1 _ h3, B.2.2.2.2.1 _ hs⟩ (rt_preV hp hc1 hc2 hc3) rfl hn hsz rfl (by rw [show 2 * (F0 m pc ls (As.reverse ++ .ref b :: rest)).monitorRoom = 0 from rfl, Nat.zero_add]; exact hW) hd hf
theorem wv_VX {t k n i : Nat} {C : String} {x : Nat × Nat × Nat × Nat} {xs : List (Nat × Nat × Nat × Nat)} (hd : decode cc pc = .ok (.invokevirtual i, 3)) (hh : (Y k).2.2.2.2 = x :: xs) (hk : rt_kV (Y k) n) (hl : Cond.methodLink own i (Y k).1 ∈ lw_all) (hC : (rt_cl[t]?).map Prod.fst = some C) (hCy : (Y k).1.cls = C) (hs : Cond.selects C (Y k).1 (Y k).1 ∈ lw_all) : rt_WV X Y cc nL own pc t k n := by
  intro d l p e R s m args below meth c mn H locs ls cells slots N M b As rest Pc Qc XC B hM hp ⟨q, cellB, hq, hc1, hc2, hc3⟩ hn hsz hW hf
  obtain ⟨h1, h2, h3, h4, h5, h6⟩ := hk
  rw [hq] at hC
  cases Option.some.inj hC
  have hy : rt_yw (Y k) = Cond.codeWith (Y k).1 (Y k).2.1 (Y k).2.2.1 (Y k).2.2.2.1 (x :: xs) := by unfold rt_yw; rw [hh]
  have hw : rt_ws (Y k) = wsW_ (Y k).1 (Y k).2.1 (Y k).2.2.1 (Y k).2.2.2.1 (x :: xs) := by unfold rt_ws; rw [hy]
  rw [hy] at h1
  rw [hCy] at h2
  exact vx_runVX (rt_fix B) hM (vx_cwVW n B.2.2.2.2.1 (by rw [hw]; exact lw_VW hl h3 hs h2 h1) hw rfl rfl ⟨hCy, h5.1, h5.2, h6⟩ (rt_rmR B h4)) (rt_preV hp hc1 hc2 hc3) rfl hn hsz rfl (by rw [show 2 * (F0 m pc ls (As.reverse ++ .ref b :: rest)).monitorRoom = 0 from rfl, Nat.zero_add]; exact hW) hd hf
theorem wv_VN {t k n i : Nat} {C host : String} (hd : decode cc pc = .ok (.invokevirtual i, 3)) (hh : (Y k).2.2.2.2 = []) (hk : rt_kV (Y k) n) (hl : Cond.methodLinkNest own i (Y k).1 host ∈ lw_tbl) (hC : (rt_cl[t]?).map Prod.fst = some C) (hs : Cond.selects C (Y k).1 (Y k).1 ∈ lw_all) : rt_WV X Y cc nL own pc t k n := by
  intro d l p e R s m args below meth c mn H locs ls cells slots N M b As rest Pc Qc XC B hM hp ⟨q, cellB, hq, hc1, hc2, hc3⟩ hn hsz hW hf
  obtain ⟨h1, h2, h3, h4, h5, h6⟩ := hk
  rw [hq] at hC
  cases Option.some.inj hC
  exact vx_runVN (rt_fix B) hM ⟨rt_cn B hh h1 h2 h4 h5 h6 hl, B.2.2.2.2.1 _ h3, B.2.2.2.2.1 _ hs⟩ (rt_preV hp hc1 hc2 hc3) rfl hn hsz rfl (by rw [show 2 * (F0 m pc ls (As.reverse ++ .ref b :: rest)).monitorRoom = 0 from rfl, Nat.zero_add]; exact hW) hd hf
/-- constructors -/
theorem wv_I {t k n i : Nat} (hd : decode cc pc = .ok (.invokespecial i, 3)) (hh : (Y k).2.2.2.2 = []) (hr : (Y k).2.2.2.1 = none) (hnm : (Y k).1.name = "<init>") (hk : rt_kV (Y k) n) (hl : Cond.methodLink own i (Y k).1 ∈ lw_all) : rt_WV X Y cc nL own pc t k n := by
  intro d l p e R s m args below meth c mn H locs ls cells slots N M b As rest Pc Qc XC B hM hp _ hn hsz hW hf
  obtain ⟨h1, h2, h3, h4, h5, h6⟩ := hk
  have hcb := rt_cb B (N := N) (M := M) hh h1 h2 h4 h5 h6 hl
  rw [hr] at hcb
  exact vx_runI (rt_fix B) hM ⟨hcb, hnm, B.2.2.2.2.1 _ h3⟩ hp rfl hn hsz rfl (by rw [show 2 * (F0 m pc ls (As.reverse ++ .ref b :: rest)).monitorRoom = 0 from rfl, Nat.zero_add]; exact hW) hd hf
theorem wv_IN {t k n i : Nat} {host : String} (hd : decode cc pc = .ok (.invokespecial i, 3)) (hh : (Y k).2.2.2.2 = []) (hr : (Y k).2.2.2.1 = none) (hnm : (Y k).1.name = "<init>") (hk : rt_kV (Y k) n) (hl : Cond.methodLinkNest own i (Y k).1 host ∈ lw_tbl) : rt_WV X Y cc nL own pc t k n := by
  intro d l p e R s m args below meth c mn H locs ls cells slots N M b As rest Pc Qc XC B hM hp _ hn hsz hW hf
  obtain ⟨h1, h2, h3, h4, h5, h6⟩ := hk
  have hcn := rt_cn B (N := N) (M := M) hh h1 h2 h4 h5 h6 hl
  rw [hr] at hcn
  exact vx_runIN (rt_fix B) hM ⟨hcn, hnm, B.2.2.2.2.1 _ h3⟩ hp rfl hn hsz rfl (by rw [show 2 * (F0 m pc ls (As.reverse ++ .ref b :: rest)).monitorRoom = 0 from rfl, Nat.zero_add]; exact hW) hd hf
theorem rt_cu (B : rt_Bd X cc nL own mn d l p R s m args meth c) {y : rt_Y} {n i N M : Nat} {C owner : String} {x : MethodName} (hh : y.2.2.2.2 = []) (hk : rt_kV y n) (hl : Cond.methodLink own i x ∈ lw_all) (hsm : Cond.sameMethod x.cls owner x.name x.desc ∈ lw_all) {b0 : ByteArray} {m0 : Nat} {r0 : Option FieldType} (h0 : Cond.code ⟨owner, x.name, x.desc⟩ b0 m0 r0 ∈ lw_all) (h00 : Cond.instanceMethod ⟨owner, x.name, x.desc⟩ ∈ lw_all) (hs : Cond.selects C x y.1 ∈ lw_all) (hnm : rt_nM owner) (hnp : rt_np x n) :
    va_CU R s args own C owner i x y.1 y.2.1 y.2.2.1 y.2.2.2.1 (rt_ws y) (rt_rm X d N M) (1200144 + (rx_H X).size - N) (5497210 - M) n := by
  obtain ⟨h1, h2, h3, h4, h5, h6⟩ := hk
  have hw : rt_ws y = ws_ y.1 y.2.1 y.2.2.1 y.2.2.2.1 := rt_ws_nil hh
  refine va_cwO n B.2.2.2.2.1 ?_ hw rfl rfl h0 ⟨hnm.1, hnm.2, hnp⟩ (rt_rmR B h4)
  unfold va_wsO
  intro w hw2
  rcases List.mem_append.mp hw2 with e | e
  · simp only [List.mem_cons, List.not_mem_nil, or_false] at e
    rcases e with e | e | e | e | e | e
    · rw [e]; exact lw_self _ hl
    · rw [e]; exact lw_self _ hsm
    · rw [e]; exact lw_self _ h00
    · rw [e]; exact lw_self _ hs
    · rw [e]; exact lw_self _ h3
    · rw [e]; exact lw_self _ h2
  · exact rt_ws_good h1 w e
/-- a method of the class or of one above it -/
theorem wv_U {t k n i : Nat} {C owner : String} {x : MethodName} (hd : decode cc pc = .ok (.invokevirtual i, 3)) (hh : (Y k).2.2.2.2 = []) (hk : rt_kV (Y k) n) (hl : Cond.methodLink own i x ∈ lw_all) (hsm : Cond.sameMethod x.cls owner x.name x.desc ∈ lw_all) {b0 : ByteArray} {m0 : Nat} {r0 : Option FieldType} (h0 : Cond.code ⟨owner, x.name, x.desc⟩ b0 m0 r0 ∈ lw_all) (h00 : Cond.instanceMethod ⟨owner, x.name, x.desc⟩ ∈ lw_all) (hC : (rt_cl[t]?).map Prod.fst = some C) (hs : Cond.selects C x (Y k).1 ∈ lw_all) (hnm : rt_nM owner) (hnp : rt_np x n) : rt_WV X Y cc nL own pc t k n := by
  intro d l p e R s m args below meth c mn H locs ls cells slots N M b As rest Pc Qc XC B hM hp ⟨q, cellB, hq, hc1, hc2, hc3⟩ hn hsz hW hf
  rw [hq] at hC
  cases Option.some.inj hC
  exact vx_runU (rt_fix B) hM (rt_cu B hh hk hl hsm h0 h00 hs hnm hnp) (rt_preV hp hc1 hc2 hc3) rfl hn hsz rfl (by rw [show 2 * (F0 m pc ls (As.reverse ++ .ref b :: rest)).monitorRoom = 0 from rfl, Nat.zero_add]; exact hW) hd hf
/-- super.method -/
theorem wv_SU {t k n i : Nat} (hd : decode cc pc = .ok (.invokespecial i, 3)) (hh : (Y k).2.2.2.2 = []) (hk : rt_kV (Y k) n) (hl : Cond.methodLink own i (Y k).1 ∈ lw_all) (hsm : Cond.sameMethod (Y k).1.cls (Y k).1.cls (Y k).1.name (Y k).1.desc ∈ lw_all) (hsup : Cond.superclass own (Y k).1.cls ∈ lw_all) (hno : (Y k).1.name ≠ "<init>") : rt_WV X Y cc nL own pc t k n := by
  intro d l p e R s m args below meth c mn H locs ls cells slots N M b As rest Pc Qc XC B hM hp ⟨q, cellB, hq, hc1, hc2, hc3⟩ hn hsz hW hf
  obtain ⟨h1, h2, h3, h4, h5, h6⟩ := hk
  obtain ⟨c1, c2, c3, c4, c5, c6, c7, c8, -, -, c10⟩ := rt_cb B (N := N) (M := M) hh h1 h2 h4 h5 h6 hl
  have ht := B.2.2.2.2.1
  exact vx_runSU (B.2.2.2.2.2.1.1 t q hq).2 (rt_fix B) hM ⟨⟨c1, c2, c3, c4, c5, c6⟩, c10, ht _ hsm, ht _ hsup, ht _ h3, c8, c7, hno, rt_np_len h6⟩ (rt_preV hp hc1 hc2 hc3) rfl hn hsz rfl (by rw [show 2 * (F0 m pc ls (As.reverse ++ .ref b :: rest)).monitorRoom = 0 from rfl, Nat.zero_add]; exact hW) hd hf
/-- through an interface -/
theorem wf_F {t k n i j : Nat} {C : String} {x : MethodName} (hd : decode cc pc = .ok (.invokeinterface i j, 5)) (hh : (Y k).2.2.2.2 = []) (hk : rt_kV (Y k) n) (hl : Cond.methodLink own i x ∈ lw_all) (hC : (rt_cl[t]?).map Prod.fst = some C) (hs : Cond.selects C x (Y k).1 ∈ lw_all) (hF : (C, x, (Y k).1) ∈ rt_fws) (hnp : rt_np x n) : rt_WF X Y cc nL own pc t k n := by
  intro d l p e R s m args below meth c mn H locs ls cells slots N M b As rest Pc Qc XC B hM hp ⟨q, cellB, hq, hc1, hc2, hc3⟩ hn hsz hW hf
  obtain ⟨h1, h2, h3, h4, h5, h6⟩ := hk
  rw [hq] at hC
  cases Option.some.inj hC
  have hw : rt_ws (Y k) = ws_ (Y k).1 (Y k).2.1 (Y k).2.2.1 (Y k).2.2.2.1 := rt_ws_nil hh
  have hnm := rt_fws_ok _ hF
  refine vx_runF (B.2.2.2.2.2.1.1 t q hq).2 (rt_fix B) hM (va_cwF n B.2.2.2.2.1 ?_ hw rfl rfl (B.2.2.2.2.2.1.2.2.2.1 _ hF) ⟨hnm.1, hnm.2, hnp⟩ (rt_rmR B h4)) (rt_preV hp hc1 hc2 hc3) rfl hn hsz rfl (by rw [show 2 * (F0 m pc ls (As.reverse ++ .ref b :: rest)).monitorRoom = 0 from rfl, Nat.zero_add]; exact hW) hd hf
  unfold va_wsF
  intro w hw2
  rcases List.mem_append.mp hw2 with e | e
  · simp only [List.mem_cons, List.not_mem_nil, or_false] at e
    rcases e with e | e | e | e
    · rw [e]; exact lw_self _ hl
    · rw [e]; exact lw_self _ hs
    · rw [e]; exact lw_self _ h3
    · rw [e]; exact lw_self _ h2
  · exact rt_ws_good h1 w e
end G
end SND9
