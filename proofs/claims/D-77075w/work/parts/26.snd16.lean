/-! ===== the abstract machine against the JVM: calls of their own kinds ===== -/
section SND16
section UP
variable {Q9 : Unit → Pre} {E9 : CtlPost} {e : Env} {dd : Bool} {acts : List Action} {s₀ T : State} {g : JFrame}
/-- a static call by a name that is another class's, before the tables know it (follows the same proof for a name of the class itself) -/
theorem rt_stUp0 {index ci n c9 : Nat} {mi : MethodId} {dk ck : Class} {cf : ClassFile} {name desc : String} (hs : T.topJava?.isSome) (hp : e.platform.polymorphicOnlyByInvokevirtual = true)
    (hW : s₀.WarmedH T.vm) (hE : s₀.MethodEntryUp e T.vm g.method.cls index c9 mi ci) (h1 : s₀.vm.classes[g.method.cls]? = some dk) (h2 : dk.cf = some cf)
    (h3 : cf.constantPool[index]? = some (.methodref ci n)) (h4 : cf.constantPool.nameAndType? n = some (name, desc))
    (hck : s₀.vm.classes[c9]? = some ck) (hnone : (ck.methods.any fun x => x.name == name && !x.isStatic && signaturePolymorphic ck x) = false) :
    wp (invokestatic.sem index) Q9 E9 e dd acts (T.setTop g) ↔ wp (invokestatic.sem index) Q9 E9 e dd acts ((T.setVm (T.vm.calledUp g.method.cls ci index c9 mi)).setTop g) := by
  obtain ⟨hgc, -, hW1, hgm⟩ := hE.classFirst
  obtain ⟨k0, hk0, he0⟩ := hW.alike.2.2 _ _ h1
  obtain ⟨k2, hk2, he2⟩ := hE.warmed.alike.2.2 _ _ h1
  obtain ⟨c1, hc1, hec1⟩ := hW1.alike.2.2 _ _ hck
  obtain ⟨c2, hc2, hec2⟩ := hE.warmed.alike.2.2 _ _ hck
  have h3' : cf.constantPool[index]? = some (if false then .interfaceMethodref ci n else .methodref ci n) := h3
  have hb0 := memberRef_ask_via (e := e) hk0 (by rw [he0]; exact h2) h3' h4
  have hb2 := memberRef_ask_via (e := e) hk2 (by rw [he2]; exact h2) h3' h4
  have hn1 : (c1.methods.any fun x => x.name == name && !x.isStatic && signaturePolymorphic c1 x) = false := by rw [hec1]; exact hnone
  have hn2 : (c2.methods.any fun x => x.name == name && !x.isStatic && signaturePolymorphic c2 x) = false := by rw [hec2]; exact hnone
  have hs1 : (T.setVm (T.vm.noted g.method.cls ci (.cls c9))).topJava?.isSome := hs
  have hs2 : (T.setVm (T.vm.calledUp g.method.cls ci index c9 mi)).topJava?.isSome := hs
  have hL : ∀ {Q' : ClassId → Pre} {d' : Bool} {acts' : List Action}, wp (Jvm.resolveClassAt ci) Q' E9 e d' acts' (T.setTop g) ↔ Q' c9 d' acts' ((T.setVm (T.vm.noted g.method.cls ci (.cls c9))).setTop g) :=
    Jvm.W.resolveClassAt_links (t := T.setTop g) (State.method?_setTop g hs) hgc
  have hM : ∀ {Q' : MethodId → Pre} {d' : Bool} {acts' : List Action}, wp (Jvm.resolveMethodAt index) Q' E9 e d' acts' ((T.setVm (T.vm.noted g.method.cls ci (.cls c9))).setTop g) ↔ Q' mi d' acts' ((T.setVm (T.vm.calledUp g.method.cls ci index c9 mi)).setTop g) :=
    Jvm.W.resolveMethodAt_links (t := (T.setVm (T.vm.noted g.method.cls ci (.cls c9))).setTop g) (State.method?_setTop g hs1) hgm
  simp [invokestatic.sem, hp, Seam.memberRefOf, State.method?_setTop g hs, State.method?_setTop g hs2, hb0, hb2, hL, Jvm.W.resolveClassAt_ready (s := (T.setVm (T.vm.calledUp g.method.cls ci index c9 mi)).setTop g) (State.method?_setTop g hs2) hE.classReady,
    hc1, hc2, hn1, hn2, hM, Jvm.W.resolveMethodAt_ready (s := (T.setVm (T.vm.calledUp g.method.cls ci index c9 mi)).setTop g) (State.method?_setTop g hs2) hE.ready, -Array.any_eq_true]
end UP
section UP2
variable {p : Program} {l : Launch} {e : Env} {R : Room} {s : State} {m : MethodId} {args : Array Value} {below : List Frame} {meth : Method} {c : Code} {T : State} {locs : List Loc} {cells slots : Nat}
theorem rt_stUp (X : Stand p l e R s m args below meth c T locs cells slots) (hexec : p.tables.exec = Jvm.exec)
    {own owner : String} {index : Nat} {x : MethodName} (hown : s.vm.findClass own = some m.cls) (hlink : (Cond.methodLink own index x).before args s = true)
    (hsame : (Cond.sameMethod x.cls owner x.name x.desc).before args s = true) (howner : owner ≠ "java/lang/invoke/MethodHandle" ∧ owner ≠ "java/lang/invoke/VarHandle")
    {m' : MethodId} {meth' : Method} {k' : Class} (hn : s.methodNamed? ⟨owner, x.name, x.desc⟩ = some m') (hm' : s.vm.method? m' = some meth') (hstatic : meth'.isStatic = true)
    (hk' : s.vm.classes[m'.cls]? = some k') (hinit : k'.init = .initialized)
    {g : JFrame} (hg : g.method = m) {argsL rest : List Value} (hlen : argsL.length = meth'.sig.parameters.length) (hstack : g.stack = argsL.reverse ++ rest)
    (hdg : decode c.code g.pc = .ok (.invokestatic index, 3)) :
    ∃ vm', Stand p l e R s m args below meth c (T.setVm vm') locs cells slots ∧
      ∀ target, (∀ acts, Steps p.tables e below (doInvoke e ((T.setVm vm').setTop { g with stack := rest }) acts m' argsL.toArray).1 target) → Steps p.tables e below (T.setTop g) target := by
  have hpl : e.platform.magicAccessors = ({} : Platform).magicAccessors := by rw [X.admits.platform]
  have hpv : e.platform.polymorphicOnlyByInvokevirtual = true := by rw [X.admits.platform]
  obtain ⟨cn, ck, r1, hcn, hck, hni, hf, hn1⟩ := Cond.sameMethod_found hsame
  cases hn.symm.trans hn1
  obtain ⟨ci, hl, hright⟩ := Cond.methodLink_specUp hown hcn hck hni hf hlink e.platform hpl (by rw [X.admits.platform])
  have hE : s.MethodEntryUp e T.vm m.cls index cn m' ci := State.methodEntryUp X.warmed hl hright
  obtain ⟨kx, hkx, hnx⟩ := className_of_methodNamed hn
  cases hk'.symm.trans hkx
  obtain ⟨dk, cfile, nt, mname, mdesc, ck', _, _, hd, hcf, hcp, hnt, -, -, hck', -, hnopoly, -⟩ := hl.here
  cases hck.symm.trans hck'
  have al := hE.warmed.alike
  obtain ⟨dk2, hdk2, hed2⟩ := al.2.2 _ _ hd
  obtain ⟨k2, hk2, he2⟩ := al.2.2 _ _ hk'
  obtain ⟨ck2, hck2, hec2⟩ := al.2.2 _ _ hck
  have hnone : (ck.methods.any fun y => y.name == mname && !y.isStatic && signaturePolymorphic ck y) = false := by simp [hnopoly]
  have hnone2 : (ck2.methods.any fun y => y.name == mname && !y.isStatic && signaturePolymorphic ck2 y) = false := by rw [hec2]; exact hnone
  have hcp' : cfile.constantPool[index]? = some (if false then .interfaceMethodref ci nt else .methodref ci nt) := hcp
  refine ⟨T.vm.calledUp m.cls ci index cn m', X.noted hE.warmed, fun target hrest => ?_⟩
  subst hg
  jvm_step X.here [hexec, hdg, rt_stUp0 (e := e) (T := T) (s₀ := s) (g := g) X.here.top hpv X.warmed hE hd hcf hcp hnt hck hnone,
    invokestatic.wp_ready (e := e) (s := T.setVm (T.vm.calledUp g.method.cls ci index cn m')) (k := k2) (meth := meth') (m := m') (args := argsL) (rest := rest) (f := g)
      X.here.top ⟨ci, mname, mdesc, false, cn, ck2, memberRef_ask_via (e := e) hdk2 (by rw [hed2]; exact hcf) hcp' hnt, hE.classReady, hck2, hnone2⟩ hE.ready hk2
      (by show (T.vm.calledUp g.method.cls ci index cn m').method? m' = some meth'; rw [al.method?]; exact hm')
      (by rw [he2]; show signaturePolymorphic k' meth' = false; simp [signaturePolymorphic, hnx, howner.1, howner.2]) hstatic (by rw [he2]; exact hinit) hlen hstack]
  exact fun acts => hrest _
end UP2
theorem rt_fws_D : ∀ C ∈ rt_mk, (C, rt_frm, rt_frm) ∈ rt_fws := by decide +kernel
section G
variable {X : rt_X} {Y : Nat → rt_Y} {cc : ByteArray} {nL : Nat} {own mn : String} {d : Nat} {l : Launch} {p : Program} {e : Env} {R : Room} {s : State} {m : MethodId} {args : Array Value} {below : List Frame} {meth : Method} {c : Code} {n0 : Nat} {ad0 : Nat → Nat} {Q : State → Prop} {ret : Option FieldType} {pc : Nat}
/-- super.method, of a class above the class above (follows vx_runSU) -/
theorem wv_SS {t k n i : Nat} {x : MethodName} {owner : String} (hd : decode cc pc = .ok (.invokespecial i, 3)) (hh : (Y k).2.2.2.2 = []) (hk : rt_kV (Y k) n) (hl : Cond.methodLink own i x ∈ lw_all) (hsm : Cond.sameMethod x.cls owner x.name x.desc ∈ lw_all) (hsup : Cond.superclass own x.cls ∈ lw_all) (hsup2 : Cond.superclass x.cls owner ∈ lw_all) (hx : (Y k).1 = ⟨owner, x.name, x.desc⟩) (hno : x.name ≠ "<init>") : rt_WV X Y cc nL own pc t k n := by
  intro d l p e R s m args below meth c mn H locs ls cells slots N M b As rest Pc Qc XC B hM hp ⟨q, cellB, hq, hcB, hoB, hclB⟩ hn hsz hW hf
  obtain ⟨h1, h2, h3, h4, h5, h6⟩ := hk
  have hr := rt_rmR B (N := N) (M := M) h4
  have hw : rt_ws (Y k) = ws_ (Y k).1 (Y k).2.1 (Y k).2.2.1 (Y k).2.2.2.1 := rt_ws_nil hh
  have hyw : rt_yw (Y k) = Cond.code (Y k).1 (Y k).2.1 (Y k).2.2.1 (Y k).2.2.2.1 := by unfold rt_yw; rw [hh]
  have h1' : Cond.code (Y k).1 (Y k).2.1 (Y k).2.2.1 (Y k).2.2.2.1 ∈ lw_all := by rw [← hyw]; exact h1
  have ht := B.2.2.2.2.1
  have hini := ht _ h2
  have hK : vx_Back l R p e below s args (Y k).1 3 8 (PreOf R (1200144 + (rx_H X).size - N) (5497210 - M) Pc) (PostOf Qc (1200144 + (rx_H X).size - N) (5497210 - M) (rt_fr X)) (vx_Post XC (1200144 + (rx_H X).size - N) (5497210 - M) (rt_fr X)) := vx_back (bytes := (Y k).2.1) (maxL := (Y k).2.2.1) (ret := (Y k).2.2.2.1) hM hp.1 rfl rfl hr.1 hr.2 (pay_in ht (rt_ws_good h1)) (by rw [hw]; exact List.mem_cons_self) (fun a' U hW => word_at hW (Or.inl (by first | rfl | simp [Cond.onTables, Cond.keeps, Cond.steady])) hini)
  obtain ⟨hfc, kB, hkB, -⟩ := (B.2.2.2.2.2.1.1 t q hq).2
  rw [Option.some.inj (hfc.symm.trans hclB)] at hkB
  obtain ⟨mk, methM, hnamed, hmethM, hstM, habM⟩ := Cond.instanceMethod_spec (ht _ h3)
  obtain ⟨methM', cM, hmethM', -, -, -, -, -, -, hsigM⟩ := Cond.code_spec hnamed (ht _ h1')
  cases hmethM.symm.trans hmethM'
  obtain ⟨ps, dk, kp, hps, hdk, hkp, hsuper, -, -, hnid⟩ := Cond.superclass_spec B.2.2.2.1 (ht _ hsup)
  have hnamed2 : s.methodNamed? ⟨owner, x.name, x.desc⟩ = some mk := by rw [← hx]; exact hnamed
  have hlen : As.length = methM.sig.parameters.length := hn.trans (rt_np_len h6 _ hsigM)
  have hsub : s.vm.isSubclass ps mk.cls = true := by
    obtain ⟨po, ko, kpo, e1, e2, -, e4, -, -, -⟩ := Cond.superclass_spec hps (ht _ hsup2)
    have e5 : s.vm.findClass owner = some mk.cls := findClass_of_methodNamed hnamed2
    have e6 : po = mk.cls := Option.some.inj (e1.symm.trans e5)
    have e7 : 0 < s.vm.classes.size := Nat.lt_of_le_of_lt (Nat.zero_le _) (Array.getElem?_eq_some_iff.mp e2).1
    obtain ⟨z, e8⟩ : ∃ z, s.vm.classes.size = z + 1 := ⟨s.vm.classes.size - 1, by omega⟩
    unfold Vm.isSubclass
    rw [e8]
    simp [Vm.isSubclassAux, e2, e4, e6]
  intro T hT X0
  obtain ⟨vm₁, X₁, hstep₁⟩ := X0.invokespecialUp B.1 B.2.2.2.1 (ht _ hl) (ht _ hsm) hnamed2 hmethM hstM habM hno hdk hnid hps hsuper hsub (a := b) (cell := cellB) (by rw [hT]; exact hcB)
    (fun z h => by rw [h] at hoB; cases hoB) hkB (g := F0 m pc ls (As.reverse ++ .ref b :: rest)) rfl (argsL := As) (rest := rest) hlen rfl (by rw [B.2.1]; exact hd)
  rcases hK m meth c ⟨T.setVm vm₁, locs, cells, slots⟩ { F0 m pc ls (As.reverse ++ .ref b :: rest) with stack := rest } (.invokespecial i) mk (Value.ref b :: As).toArray X₁ rfl (hsz.trans B.2.2.1.symm) (by rw [B.2.1]; exact hd) (by show 2 * 0 + (rest.map fun v => v.category).sum ≤ 8; omega) (X₁.named hnamed) ⟨hf.1, hf.2, hp.2 (T.setVm vm₁) hT X₁.warmed⟩ with ⟨v, ⟨U', l2, c2, s2⟩, X', ⟨g', mk', t', L, e1, e2, hq', g1, hL, g2, g3⟩, hsteps⟩ | ⟨q', ⟨U', l2, c2, s2⟩, X', ⟨g', mk', t', L, E, ce, e1, e2, hq', hce, hcv, hcl, g1, hL, g2, g3⟩, hsteps⟩
  · dsimp only [Pt.U, Pt.locs, Pt.cells, Pt.slots] at X' e1 e2 g1 g2 g3 hsteps
    subst g1; subst g2; subst g3
    exact Or.inl ⟨v, (T.setVm vm₁).calling g' mk' (Value.ref b :: As).toArray, t', U', L, hT, X', hL, e1, e2, hq', fun target h => hstep₁ _ (by rw [doInvoke_state]; exact hsteps.trans h)⟩
  · dsimp only [Pt.U, Pt.locs, Pt.cells, Pt.slots] at X' e1 e2 g1 g2 g3 hsteps hcl
    subst g1; subst g2; subst g3
    exact Or.inr ⟨q', (T.setVm vm₁).calling g' mk' (Value.ref b :: As).toArray, t', U', L, E, ce, hT, X', hL, e1, e2, hq', hce, hcv, vx_cls X₁.warmed hcl, hstep₁ _ (by rw [doInvoke_state]; exact hsteps)⟩
/-- a default method, through its interface (follows vx_runF, vx_callIF) -/
theorem wf_D {t k n i j : Nat} (hd : decode cc pc = .ok (.invokeinterface i j, 5)) (hh : (Y k).2.2.2.2 = []) (hk : rt_kV (Y k) n) (hl : Cond.methodLink own i rt_frm ∈ lw_all) (hx : (Y k).1 = rt_frm) (hC : (rt_cl[t]?).map Prod.fst ∈ rt_mk.map some) : rt_WF X Y cc nL own pc t k n := by
  intro d l p e R s m args below meth c mn H locs ls cells slots N M b As rest Pc Qc XC B hM hp ⟨q, cellB, hq, hcB, hoB, hclB⟩ hn hsz hW hf
  obtain ⟨h1, h2, h3, h4, h5, h6⟩ := hk
  obtain ⟨C, hCm, hCe⟩ := List.mem_map.mp hC
  rw [hq] at hCe
  have hCe2 : C = q.1 := Option.some.inj hCe
  have hr := rt_rmR B (N := N) (M := M) h4
  have hw : rt_ws (Y k) = ws_ (Y k).1 (Y k).2.1 (Y k).2.2.1 (Y k).2.2.2.1 := rt_ws_nil hh
  have ht := B.2.2.2.2.1
  have hini := ht _ h2
  have hK : vx_Back l R p e below s args (Y k).1 5 8 (PreOf R (1200144 + (rx_H X).size - N) (5497210 - M) Pc) (PostOf Qc (1200144 + (rx_H X).size - N) (5497210 - M) (rt_fr X)) (vx_Post XC (1200144 + (rx_H X).size - N) (5497210 - M) (rt_fr X)) := vx_back (bytes := (Y k).2.1) (maxL := (Y k).2.2.1) (ret := (Y k).2.2.2.1) hM hp.1 rfl rfl hr.1 hr.2 (pay_in ht (rt_ws_good h1)) (by rw [hw]; exact List.mem_cons_self) (fun a' U hW => word_at hW (Or.inl (by first | rfl | simp [Cond.onTables, Cond.keeps, Cond.steady])) hini)
  obtain ⟨hfc, kB, hkB, -⟩ := (B.2.2.2.2.2.1.1 t q hq).2
  rw [Option.some.inj (hfc.symm.trans hclB)] at hkB
  have hF : (C, rt_frm, rt_frm) ∈ rt_fws := rt_fws_D C hCm
  obtain ⟨w1, w2, w3, w4, w5⟩ := B.2.2.2.2.2.1.2.2.2.1 _ hF
  obtain ⟨cD, rD, mD, rmD, a1, a2, a3, a4, a5, ⟨mk9, a6, a7⟩, a8, -⟩ := Cond.landsInDefault_spec (args := #[]) (first := s) (o := none) (idx := []) (B.2.2.2.2.2.1.2.2.2.2.1 C hCm)
  rw [hCe2] at a1
  cases a1.symm.trans hclB
  rw [hx] at h3 h6
  obtain ⟨mk, methM, hnamed, hmethM, hstM, habM⟩ := Cond.instanceMethod_spec (ht _ h3)
  have eD : mk = mD := Option.some.inj (hnamed.symm.trans a3)
  subst eD
  have hfound : s.methodFound? rt_frm.cls rt_frm.name rt_frm.desc = some mk := State.methodFound?_of_named hnamed (by decide)
  have eR : mk = rD := Option.some.inj (hfound.symm.trans a2)
  subst eR
  have eM : methM = rmD := Option.some.inj (hmethM.symm.trans a4)
  subst eM
  obtain ⟨cL, kL, r1, hcL, hkL, hiL, hfoundL, hn1⟩ := Cond.interfaceMethod_spec (first := s) (o := none) (idx := []) (va_Nw.use (A := args) (w := .interfaceMethod rt_frm.cls rt_frm.cls rt_frm.name rt_frm.desc) rfl w2)
  obtain ⟨c3, t3, x1, x2, x3⟩ := Cond.castable_spec (va_Nw.use (A := args) (w := .castable C rt_frm.cls) rfl w5)
  rw [hCe2] at x1
  cases hclB.symm.trans x1
  have hmc : s.vm.findClass rt_frm.cls = some mk.cls := findClass_of_methodNamed hnamed
  have eT : mk.cls = t3 := Option.some.inj (hmc.symm.trans x2)
  subst eT
  have hpubM : hasFlag methM.accessFlags Acc.public_ = true := Cond.publicMethod_spec hnamed hmethM (va_Nw.use (A := args) (w := .publicMethod rt_frm) rfl w3)
  obtain ⟨r9, rm9, e1, e2, e3, e4⟩ := Cond.declares_spec (args := args) (s := s) (va_Nw.use (w := .declares rt_frm) rfl w1)
  have e5 : mk = r9 := Option.some.inj (hnamed.symm.trans e1)
  subst e5
  have e6 : methM = rm9 := Option.some.inj (hmethM.symm.trans e2)
  subst e6
  have hlen : As.length = methM.sig.parameters.length := hn.trans (rt_np_len h6 _ e4)
  intro T hT X0
  have hselP : selectMethod e.platform s.vm cellB.cls mk = .method mk := by rw [Launch.admits_selectMethod X0.admits]; exact a5
  obtain ⟨vm₁, X₁, hstep₁⟩ := X0.invokeinterface B.1 B.2.2.2.1 (ht _ hl) hnamed hmethM hstM a6 a7 (rt_fws_ok _ hF) (a := b) (cell := cellB) (kcell := kB) (by rw [hT]; exact hcB)
    (fun z h => by rw [h] at hoB; cases hoB) hkB x3 hselP hmethM a8 hpubM habM (g := F0 m pc ls (As.reverse ++ .ref b :: rest)) rfl (argsL := As) (rest := rest) hlen rfl (by rw [B.2.1]; exact hd)
  rcases hK m meth c ⟨T.setVm vm₁, locs, cells, slots⟩ { F0 m pc ls (As.reverse ++ .ref b :: rest) with stack := rest } (.invokeinterface i j) mk (Value.ref b :: As).toArray X₁ rfl (hsz.trans B.2.2.1.symm) (by rw [B.2.1]; exact hd) (by show 2 * 0 + (rest.map fun v => v.category).sum ≤ 8; omega) (by rw [hx]; exact X₁.named hnamed) ⟨hf.1, hf.2, hp.2 (T.setVm vm₁) hT X₁.warmed⟩ with ⟨v, ⟨U', l2, c2, s2⟩, X', ⟨g', mk', t', L, e1, e2, hq', g1, hL, g2, g3⟩, hsteps⟩ | ⟨q', ⟨U', l2, c2, s2⟩, X', ⟨g', mk', t', L, E, ce, e1, e2, hq', hce, hcv, hcl, g1, hL, g2, g3⟩, hsteps⟩
  · dsimp only [Pt.U, Pt.locs, Pt.cells, Pt.slots] at X' e1 e2 g1 g2 g3 hsteps
    subst g1; subst g2; subst g3
    exact Or.inl ⟨v, (T.setVm vm₁).calling g' mk' (Value.ref b :: As).toArray, t', U', L, hT, X', hL, e1, e2, hq', fun target h => hstep₁ _ fun acts => by rw [doInvoke_state]; exact hsteps.trans h⟩
  · dsimp only [Pt.U, Pt.locs, Pt.cells, Pt.slots] at X' e1 e2 g1 g2 g3 hsteps hcl
    subst g1; subst g2; subst g3
    exact Or.inr ⟨q', (T.setVm vm₁).calling g' mk' (Value.ref b :: As).toArray, t', U', L, E, ce, hT, X', hL, e1, e2, hq', hce, hcv, vx_cls X₁.warmed hcl, hstep₁ _ fun acts => by rw [doInvoke_state]; exact hsteps⟩
/-- a static method of a class above the one that is named -/
theorem ws_T {k n i : Nat} {x : MethodName} {owner : String} (hd : decode cc pc = .ok (.invokestatic i, 3)) (hh : (Y k).2.2.2.2 = []) (hk : rt_kS (Y k) n) (hl : Cond.methodLink own i x ∈ lw_all) (hsm : Cond.sameMethod x.cls owner x.name x.desc ∈ lw_all) (hx : (Y k).1 = ⟨owner, x.name, x.desc⟩) : rt_WS X Y cc nL own pc k n := by
  intro d l p e R s m args below meth c mn H locs ls cells slots N M As rest Pc Qc XC B hM hp hn hsz hW hf
  obtain ⟨h1, h2, h3, h4, h5, h6⟩ := hk
  have hr := rt_rmR B (N := N) (M := M) h4
  have hw : rt_ws (Y k) = ws_ (Y k).1 (Y k).2.1 (Y k).2.2.1 (Y k).2.2.2.1 := rt_ws_nil hh
  have hyw : rt_yw (Y k) = Cond.code (Y k).1 (Y k).2.1 (Y k).2.2.1 (Y k).2.2.2.1 := by unfold rt_yw; rw [hh]
  have h1' : Cond.code (Y k).1 (Y k).2.1 (Y k).2.2.1 (Y k).2.2.2.1 ∈ lw_all := by rw [← hyw]; exact h1
  have ht := B.2.2.2.2.1
  have hini := ht _ h2
  have hK : vx_Back l R p e below s args (Y k).1 3 8 (PreOf R (1200144 + (rx_H X).size - N) (5497210 - M) Pc) (PostOf Qc (1200144 + (rx_H X).size - N) (5497210 - M) (rt_fr X)) (vx_Post XC (1200144 + (rx_H X).size - N) (5497210 - M) (rt_fr X)) := vx_back (bytes := (Y k).2.1) (maxL := (Y k).2.2.1) (ret := (Y k).2.2.2.1) hM hp.1 rfl rfl hr.1 hr.2 (pay_in ht (rt_ws_good h1)) (by rw [hw]; exact List.mem_cons_self) (fun a' U hW => word_at hW (Or.inl (by first | rfl | simp [Cond.onTables, Cond.keeps, Cond.steady])) hini)
  obtain ⟨mk, hnamed⟩ := Cond.code_named (ht _ h1')
  obtain ⟨methM, cM, hmethM, -, -, -, -, -, -, hsigM⟩ := Cond.code_spec hnamed (ht _ h1')
  have hstatic : methM.isStatic = true := Cond.static_spec hnamed hmethM (ht _ h3)
  obtain ⟨kP, hkP, -⟩ := className_of_methodNamed hnamed
  have hinitP : kP.init = .initialized := Cond.initialized_spec (findClass_of_methodNamed hnamed) hkP hini
  have hlen : As.length = methM.sig.parameters.length := hn.trans (rt_np_len h6 _ hsigM)
  have hnamed2 : s.methodNamed? ⟨owner, x.name, x.desc⟩ = some mk := by rw [← hx]; exact hnamed
  have hnm : rt_nM owner := by rw [hx] at h5; exact h5
  intro T hT X0
  obtain ⟨vm₁, X₁, hstep₁⟩ := rt_stUp X0 B.1 B.2.2.2.1 (ht _ hl) (ht _ hsm) hnm hnamed2 hmethM hstatic hkP hinitP (g := F0 m pc ls (As.reverse ++ rest)) rfl (argsL := As) (rest := rest) hlen rfl (by rw [B.2.1]; exact hd)
  rcases hK m meth c ⟨T.setVm vm₁, locs, cells, slots⟩ { F0 m pc ls (As.reverse ++ rest) with stack := rest } (.invokestatic i) mk As.toArray X₁ rfl (hsz.trans B.2.2.1.symm) (by rw [B.2.1]; exact hd) (by show 2 * 0 + (rest.map fun v => v.category).sum ≤ 8; omega) (X₁.named hnamed) ⟨hf.1, hf.2, hp.2 (T.setVm vm₁) hT X₁.warmed⟩ with ⟨v, ⟨U', l2, c2, s2⟩, X', ⟨g', mk', t', L, e1, e2, hq', g1, hL, g2, g3⟩, hsteps⟩ | ⟨q', ⟨U', l2, c2, s2⟩, X', ⟨g', mk', t', L, E, ce, e1, e2, hq', hce, hcv, hcl, g1, hL, g2, g3⟩, hsteps⟩
  · dsimp only [Pt.U, Pt.locs, Pt.cells, Pt.slots] at X' e1 e2 g1 g2 g3 hsteps
    subst g1; subst g2; subst g3
    exact Or.inl ⟨v, (T.setVm vm₁).calling g' mk' As.toArray, t', U', L, hT, X', hL, e1, e2, hq', fun target h => hstep₁ _ fun acts => by rw [doInvoke_state]; exact hsteps.trans h⟩
  · dsimp only [Pt.U, Pt.locs, Pt.cells, Pt.slots] at X' e1 e2 g1 g2 g3 hsteps hcl
    subst g1; subst g2; subst g3
    exact Or.inr ⟨q', (T.setVm vm₁).calling g' mk' As.toArray, t', U', L, E, ce, hT, X', hL, e1, e2, hq', hce, hcv, vx_cls X₁.warmed hcl, hstep₁ _ fun acts => by rw [doInvoke_state]; exact hsteps⟩
end G
end SND16
