/-! ===== the abstract machine against the JVM: System.arraycopy ===== -/
section SND17
set_option maxHeartbeats 1000000 in
/-- the machine throws cls with the message text out of a native method, no traces kept (turned from vx_vmAt, EXCEPTIONS.to-paste) -/
theorem rt_nvmAt {p : Program} {l : Launch} {e : Env} {R : Room} {s : State} {m₀ : MethodId} {args : Array Value} {below : List Frame} {meth : Method} {c : Code} {W : State} {locs : List Loc} {cells slots : Nat}
    (X : Stand p l e R s m₀ args below meth c W locs cells slots) (hexec : p.tables.exec = Jvm.exec) (htr : e.platform.stackTraces = false) {cls : String} {names : List String} {text : String}
    (hcls : Bundle.fit cls = true) (hnames : ∀ n ∈ names, Bundle.fit n = true) (hsoe : (cls == "java/lang/StackOverflowError") = false) (hoom : (cls == "java/lang/OutOfMemoryError") = false)
    (h : ∀ a ∈ Bundle.messageArmAtoms cls names, a.before args s = true)
    (hlocs : ∀ x ∈ locs, ∀ cell, s.heap[x.base]? = some cell → cell.vm.isStatics = false)
    (htext : (text == notModelled) = false) (hlimit : ¬ (stringBytes (stringToUtf16 text)).size > e.platform.arrayLengthLimit) (hheap : ¬ (stringBytes (stringToUtf16 text)).size * componentBytes .byte > e.platform.maxHeapBytes)
    {g : JFrame} (hsize : g.locals.size = c.maxLocals) {nf : NFrame} (hnf : nf.words = 0)
    (hRframes : names.length + 5 < R.frames) (hRlocals : 2 * g.monitorRoom + (g.stack.map fun v => v.category).sum + 10240 ≤ R.locals) (hshort : 13 * names.length + 55 ≤ 10240)
    (hRcells : cells + 3 ≤ R.cells) (hRslots : slots + ((stringBytes (stringToUtf16 text)).size + 4 + 6) ≤ R.slots) :
    ∃ (S : State) (q : Addr) (ce : Cell), Steps p.tables e below (W.setFrames (.throwNew cls (some text) none :: .native nf :: .java g :: below)) (S.setFrames (.throwing q :: .native nf :: .java g :: below)) ∧
      Stand p l e R s m₀ args below meth c S locs (cells + 3) (slots + ((stringBytes (stringToUtf16 text)).size + 4 + 6)) ∧ S.heap[q]? = some ce ∧ s.vm.findClass cls = some ce.cls ∧ ce.vm = .none := by
  have howns : e.platform.frameOwnsMonitors = true := by rw [X.admits.platform]
  have hfin : e.platform.finalization = false := by rw [X.admits.platform]
  have hpl : e.platform.magicAccessors = ({} : Platform).magicAccessors := by rw [X.admits.platform]
  have a : ∀ x, x ∈ Bundle.messageArmAtoms cls names → x.holds args s none s [] = true := fun x hx => h x hx
  obtain ⟨T, Z0, L, -, Y⟩ := ThrowableC.of_atoms (args := args) howns hfin hpl (fun x hx => h x (by simp [Bundle.messageArmAtoms, hx]))
  obtain ⟨Z, M, LZ, LM, hnZ⟩ := Init0T.ofS_atoms (args := args) hpl L Y (fun x hx => h x (by simp [Bundle.messageArmAtoms, hx]))
  obtain ⟨P1, Ps, hlen, L1, hL, hP1m, hlink1, hlink⟩ := Bundle.chainS (args := args) hpl hnZ names cls hcls hnames (fun x hx => h x (by simp [Bundle.messageArmAtoms, hx]))
  obtain ⟨Zs, LZs, hn4, hfitv, hfitc⟩ := StringT.of_atoms (args := args) (fun x hx => h x (by simp [Bundle.messageArmAtoms, hx]))
  have hfound : s.vm.findClass cls = some P1.m.cls := findClass_of_methodNamed hP1m
  obtain ⟨c1, kX, hc1, hk, hord, -, -, hn6⟩ := Cond.instantiable_spec (a (.instantiable cls 6) (by simp [Bundle.messageArmAtoms]))
  cases Option.some.inj (hc1.symm.trans hfound)
  have hinit := Cond.initialized_spec hfound hk (a (.initialized cls) (by simp [Bundle.messageArmAtoms]))
  have hctor : kX.findMethod "<init>" "(Ljava/lang/String;)V" = some P1.m.idx := findMethod_of_methodNamed hP1m hk
  have hsel0 : selectMethod e.platform s.vm P1.m.cls T.fill0 = .method T.fill0 := by
    obtain ⟨c2, r2, m2, q1, q2, q3, q4, -⟩ := Cond.selects_spec (a (.selects cls Bundle.tFill0 Bundle.tFill0) (by simp [Bundle.messageArmAtoms]))
    cases Option.some.inj (q1.symm.trans hfound)
    cases Option.some.inj (q2.symm.trans (State.methodFound?_of_named Y.fill0 (by decide)))
    cases Option.some.inj (q3.symm.trans Y.fill0)
    rw [Launch.admits_selectMethod X.admits]; exact q4
  have hselF : selectMethod e.platform s.vm P1.m.cls T.fill = .method T.fill := by
    obtain ⟨c2, r2, m2, q1, q2, q3, q4, -⟩ := Cond.selects_spec (a (.selects cls Bundle.tFill Bundle.tFill) (by simp [Bundle.messageArmAtoms]))
    cases Option.some.inj (q1.symm.trans hfound)
    cases Option.some.inj (q2.symm.trans (State.methodFound?_of_named Y.fill (by decide)))
    cases Option.some.inj (q3.symm.trans Y.fill)
    rw [Launch.admits_selectMethod X.admits]; exact q4
  obtain ⟨cellS0, hcS0, hiss⟩ := Y.statics
  obtain ⟨u0, hu0⟩ := Cond.staticRefV Y.unassigned L.unassignedStatic L.statics hcS0 hiss (a (.isRef (.static Bundle.tN "UNASSIGNED_STACK" Bundle.steD)) (by simp [Bundle.messageArmAtoms]))
  obtain ⟨sen, hsen⟩ := Cond.staticRefV Y.sentinel L.sentinelStatic L.statics hcS0 hiss (a (.isRef (.static Bundle.tN "SUPPRESSED_SENTINEL" Bundle.listD)) (by simp [Bundle.messageArmAtoms]))
  obtain ⟨ci198, i198, fB, hk198, hg198, ha198, hsB, -, hnB, htB, hffB⟩ := Cond.ownField (t := .object "java/lang/Object") Y.found L.cls (by decide +kernel) (a (.fieldLink Bundle.tN 198 Bundle.tN "backtrace" "Ljava/lang/Object;") (by simp [Bundle.messageArmAtoms])) (a (.lays Bundle.tN Bundle.tN "backtrace" "Ljava/lang/Object;") (by simp [Bundle.messageArmAtoms])) e.platform hpl
  obtain ⟨cellS, hcS', heS, -, hkeep⟩ := X.same.2.2.2.2.2 T.aS cellS0 hcS0
  have hcellS : W.heap[T.aS]? = some cellS := hcS'
  have hout' : ∀ i, (⟨T.aS, i⟩ : Loc) ∉ locs := fun i hmem => by
    have := hlocs _ hmem cellS0 hcS0
    rw [hiss] at this; cases this
  have hknownS : cellS.vm ≠ .unknown := by
    rw [heS]; intro hu
    rw [show cellS0.vm = .unknown from hu] at hiss
    cases hiss
  have hvU : cellS.slots[T.fUnassigned.slot]? = some u0.v := by rw [hkeep _ (hout' _)]; exact hu0
  have hvSen : cellS.slots[T.fSentinel.slot]? = some sen.v := by rw [hkeep _ (hout' _)]; exact hsen
  obtain ⟨iM, hffM⟩ := Y.msg
  obtain ⟨tyC, dC, hdC, hdnC⟩ := Cond.laysAt hfound hk Y.cause (a (.lays cls Bundle.tN "cause" "Ljava/lang/Throwable;") (by simp [Bundle.messageArmAtoms]))
  obtain ⟨tyS, dS, hdS, hdnS⟩ := Cond.laysAt hfound hk Y.stack (a (.lays cls Bundle.tN "stackTrace" Bundle.steD) (by simp [Bundle.messageArmAtoms]))
  obtain ⟨tyP, dP, hdP, hdnP⟩ := Cond.laysAt hfound hk Y.supp (a (.lays cls Bundle.tN "suppressedExceptions" Bundle.listD) (by simp [Bundle.messageArmAtoms]))
  obtain ⟨tyM, dM, hdM, hdnM⟩ := Cond.laysAt hfound hk hffM (a (.lays cls Bundle.tN "detailMessage" "Ljava/lang/String;") (by simp [Bundle.messageArmAtoms]))
  obtain ⟨tyB, dB, hdB, hdnB⟩ := Cond.laysAt hfound hk hffB (a (.lays cls Bundle.tN "backtrace" "Ljava/lang/Object;") (by simp [Bundle.messageArmAtoms]))
  have bC := Cond.laysApart hdB hdC hdnB hdnC (by rw [hnB, Y.causeName]; decide)
  have bS := Cond.laysApart hdB hdS hdnB hdnS (by rw [hnB, Y.stackName]; decide)
  have bP := Cond.laysApart hdB hdP hdnB hdnP (by rw [hnB, Y.suppName]; decide)
  have hbk : ((preparedCellV T.toThrowableT (freshCell P1.m.cls kX) (W.heap.size + 2) u0 sen).withEntry W.cur).slots[fB.slot]? = some .null := by
    have := fresh_default (c := P1.m.cls) tyB
    rw [htB] at this
    simpa [preparedCellV, Cell.setSlot, Cell.withEntry, Array.getElem?_setIfInBounds, bC, bS, bP, bC.symm, bS.symm, bP.symm, defaultValue] using this
  have tkC := Takes.of_laid (v := .ref (W.heap.size + 2)) hk hord tyC (by rw [Y.causeType]; rfl)
  have tkS := Takes.of_laid (v := u0.v) hk hord tyS (by rw [Y.stackType]; exact fits_refV_array _ u0)
  have tkP := Takes.of_laid (v := sen.v) hk hord tyP (by rw [Y.suppType]; exact fits_refV_object _ sen)
  have tkM := Takes.of_laid (v := .ref (W.heap.size + 1)) hk hord tyM (by rw [Y.msgType]; rfl)
  have hskip : SkipFacts T e.platform s (fun u => u) u0 ((preparedCellV T.toThrowableT (freshCell P1.m.cls kX) (W.heap.size + 2) u0 sen).withEntry W.cur) := ⟨{ ci198 := ci198, i198 := i198, fBack := fB }, ⟨hk198, hg198, ha198, hsB⟩, hbk, fun _ _ => rfl⟩
  obtain ⟨vm', X5, st, -⟩ := X.nativeThrowsMessageColdBareV hexec hsize hnf T L Z LZ M LM Zs LZs P1 L1 Ps hL hlink1 hlink hsoe hoom hfound hk hinit hord hctor htext hlimit hheap
    (hfitv _) (hfitc _) hsel0 hselF hcellS hknownS hvU hvSen tkC tkS tkP tkM Y.objLocals hskip (fun _ u hA hW _ hroom t' hrest => L.nativeOff p htr hA hW hroom hrest)
    (by rw [hlen]; exact hRframes) hRlocals (by rw [hlen]; exact hshort) hRcells (by rw [hn4, hn6]; omega)
  obtain ⟨-, -, w3, -, -, -, -⟩ := withThrown_facts e.platform W Zs text P1.m.cls kX
  have ha : (W.heap.size + 2) < ((withThrown W Zs text P1.m.cls kX).setVm vm').heap.size := by show _ < (withThrown W Zs text P1.m.cls kX).heap.size; rw [w3]; omega
  have b1 : (bytesOf Zs.cB (stringToUtf16 text)).slots.size = (stringBytes (stringToUtf16 text)).size := by
    rw [(Cell.writeAll_facts _ _).2.2]; simp [bytes0]
  have b2 : (stringAt Zs.cS Zs.kS Zs.fv Zs.fc (stringToUtf16 text) W.heap.size).slots.size = 4 := by simp [string0, Cell.setSlot, hn4]
  have b3 : (freshCell P1.m.cls kX).slots.size = 6 := by simp [hn6]
  rw [b1, b2, b3] at X5
  have e9 : slots + (stringBytes (stringToUtf16 text)).size + 4 + 6 = slots + ((stringBytes (stringToUtf16 text)).size + 4 + 6) := by omega
  rw [e9] at X5
  refine ⟨_, W.heap.size + 2, _, st, X5.forget (fun y hy => ?_), heapAt_setCell_self _ ha, hfound, rfl⟩
  simp only [List.mem_cons, List.not_mem_nil, or_false] at hy
  have hge : s.heap.size ≤ W.heap.size := X.same.2.1
  rcases hy with rfl | rfl | rfl | rfl | rfl <;> exact Nat.le_trans hge (Nat.le_add_right _ 2)
section TX
theorem rt_int_print {z : Int} (h1 : -(2 : Int) ^ 33 ≤ z) (h2 : z ≤ 2 ^ 33) : (toString z).toList.length ≤ 11 := by
  cases h : z with
  | ofNat m =>
    rw [h] at h2
    have h2' : (m : Int) ≤ 2 ^ 33 := h2
    have := nat_print (n := m) (by omega)
    show (toString m).toList.length ≤ 11
    omega
  | negSucc m =>
    rw [h] at h1
    have h1' : -(2 : Int) ^ 33 ≤ -((m : Int) + 1) := by simpa [Int.negSucc_eq] using h1
    have := nat_print (n := m.succ) (by omega)
    show ("-" ++ toString m.succ).toList.length ≤ 11
    rw [String.toList_append, List.length_append]
    have h0 : "-".toList.length = 1 := by decide
    omega
theorem rt_tx_ok {w : String} (h : w.toList.length ≤ 200) : ("arraycopy: " ++ w == notModelled) = false ∧ (stringBytes (stringToUtf16 ("arraycopy: " ++ w))).size ≤ 1000 := by
  have b1 := stringBytes_size_le (stringToUtf16 ("arraycopy: " ++ w))
  have b2 := utf16_size_le ("arraycopy: " ++ w)
  have b3 : ("arraycopy: " ++ w).toList.length = 11 + w.toList.length := by rw [String.toList_append, List.length_append]; rfl
  refine ⟨?_, by omega⟩
  rw [beq_eq_false_iff_ne]
  intro h
  have h2 := congrArg String.toList h
  have h3 : ("arraycopy: " ++ w).toList = 'a' :: ("rraycopy: ".toList ++ w.toList) := by rw [String.toList_append]; rfl
  rw [h3] at h2
  have h4 : notModelled.toList = '\u0000' :: " a message that is not modelled".toList := by decide
  rw [h4] at h2
  simp at h2
theorem rt_fault {ty : FieldType} {n0 n1 : Nat} {sp dp n : Int32} (hty : (Native.java_lang_System.arraycopy.kindName ty).toList.length ≤ 12) (h0 : n0 < 2 ^ 31) (h1 : n1 < 2 ^ 31)
    (hbad : ¬ (¬ n < 0 ∧ ¬ sp < 0 ∧ ¬ dp < 0 ∧ sp.toNatClampNeg + n.toNatClampNeg ≤ n0 ∧ dp.toNatClampNeg + n.toNatClampNeg ≤ n1)) : ∃ w, copyFault ty ty n0 n1 sp dp n = some w ∧ w.toList.length ≤ 200 := by
  have p1 := int32_print sp
  have p2 := int32_print dp
  have p3 := int32_print n
  have p4 := nat_print (n := n0) (by omega)
  have p5 := nat_print (n := n1) (by omega)
  have i1 := Int32.toInt_lt sp
  have i2 := Int32.le_toInt sp
  have i3 := Int32.toInt_lt dp
  have i4 := Int32.le_toInt dp
  have i5 := Int32.toInt_lt n
  have i6 := Int32.le_toInt n
  have p6 := rt_int_print (z := sp.toInt + n.toInt) (by omega) (by omega)
  have p7 := rt_int_print (z := dp.toInt + n.toInt) (by omega) (by omega)
  have q1 : (toString "[").toList.length = 1 := by decide
  have q2 : (toString "]").toList.length = 1 := by decide
  have q3 : (toString (Native.java_lang_System.arraycopy.kindName ty)).toList.length ≤ 12 := hty
  have q4 : ∀ w : String, (toString w).toList.length = w.toList.length := fun _ => rfl
  have g0 : (toString (toString (Native.java_lang_System.arraycopy.kindName ty) ++ toString "[" ++ toString n0 ++ toString "]")).toList.length ≤ 30 := by
    rw [q4]
    simp only [String.toList_append, List.length_append]
    omega
  have g1 : (toString (toString (Native.java_lang_System.arraycopy.kindName ty) ++ toString "[" ++ toString n1 ++ toString "]")).toList.length ≤ 30 := by
    rw [q4]
    simp only [String.toList_append, List.length_append]
    omega
  have a0 : (toString " out of bounds for ").toList.length = 19 := by decide
  unfold copyFault
  by_cases c1 : sp < 0
  · rw [if_pos c1]
    refine ⟨_, rfl, ?_⟩
    show (toString "source index " ++ toString sp ++ toString " out of bounds for " ++ toString (toString (Native.java_lang_System.arraycopy.kindName ty) ++ toString "[" ++ toString n0 ++ toString "]")).toList.length ≤ 200
    simp only [String.toList_append, List.length_append] at g0 ⊢
    have a1 : (toString "source index ").toList.length = 13 := by decide
    omega
  · rw [if_neg c1]
    by_cases c2 : dp < 0
    · rw [if_pos c2]
      refine ⟨_, rfl, ?_⟩
      show (toString "destination index " ++ toString dp ++ toString " out of bounds for " ++ toString (toString (Native.java_lang_System.arraycopy.kindName ty) ++ toString "[" ++ toString n1 ++ toString "]")).toList.length ≤ 200
      simp only [String.toList_append, List.length_append] at g1 ⊢
      have a1 : (toString "destination index ").toList.length = 18 := by decide
      omega
    · rw [if_neg c2]
      by_cases c3 : n < 0
      · rw [if_pos c3]
        refine ⟨_, rfl, ?_⟩
        show (toString "length " ++ toString n ++ toString " is negative").toList.length ≤ 200
        simp only [String.toList_append, List.length_append]
        have a1 : (toString "length ").toList.length = 7 := by decide
        have a2 : (toString " is negative").toList.length = 12 := by decide
        omega
      · rw [if_neg c3]
        by_cases c4 : sp.toInt + n.toInt > n0
        · rw [if_pos c4]
          refine ⟨_, rfl, ?_⟩
          show (toString "last source index " ++ toString (sp.toInt + n.toInt) ++ toString " out of bounds for " ++ toString (toString (Native.java_lang_System.arraycopy.kindName ty) ++ toString "[" ++ toString n0 ++ toString "]")).toList.length ≤ 200
          simp only [String.toList_append, List.length_append] at g0 ⊢
          have a1 : (toString "last source index ").toList.length = 18 := by decide
          omega
        · rw [if_neg c4]
          by_cases c5 : dp.toInt + n.toInt > n1
          · rw [if_pos c5]
            refine ⟨_, rfl, ?_⟩
            show (toString "last destination index " ++ toString (dp.toInt + n.toInt) ++ toString " out of bounds for " ++ toString (toString (Native.java_lang_System.arraycopy.kindName ty) ++ toString "[" ++ toString n1 ++ toString "]")).toList.length ≤ 200
            simp only [String.toList_append, List.length_append] at g1 ⊢
            have a1 : (toString "last destination index ").toList.length = 23 := by decide
            omega
          · have nn : ∀ z : Int32, ¬ z < 0 → z.toInt = (z.toNatClampNeg : Int) := by
              intro z hz
              have hz0 : (0 : Int) ≤ z.toInt := by
                have := Int32.not_lt.mp hz
                simpa using Int32.le_iff_toInt_le.mp this
              show z.toInt = ((z.toInt.toNat : Nat) : Int)
              omega
            have e1 := nn sp c1
            have e2 := nn dp c2
            have e3 := nn n c3
            exact absurd ⟨c3, c1, c2, by omega, by omega⟩ hbad
end TX
section G
variable {X : rt_X} {Y : Nat → rt_Y} {cc : ByteArray} {nL : Nat} {own mn : String} {d : Nat} {l : Launch} {p : Program} {e : Env} {R : Room} {s : State} {m : MethodId} {args : Array Value} {below : List Frame} {meth : Method} {c : Code} {n0 : Nat} {ad0 : Nat → Nat} {Q : State → Prop} {ret : Option FieldType} {pc : Nat}
/-- arrays of ints, bytes, shorts -/
theorem rt_arr3 {t : Nat} (h : t = 100 ∨ t = 101 ∨ t = 103) : ∃ (j : Nat) (w : FieldType × Nat), t = 100 + j ∧ rt_ai[j]? = some w ∧ refKind w.1 = false ∧ (Native.java_lang_System.arraycopy.kindName w.1).toList.length ≤ 12 ∧ (∀ v : Value, rt_nv w.2 v = .int (rv_i (rt_nv w.2 v)) ∧ fits w.1 (rt_nv w.2 v) = true ∧ ∀ u, rt_nv w.2 v = u → rt_nv w.2 u = u) := by
  rcases h with rfl | rfl | rfl
  · exact ⟨0, (.int, 0), rfl, rfl, rfl, by decide, fun v => ⟨rfl, rfl, fun u hu => by rw [← hu]; rfl⟩⟩
  · refine ⟨1, (.byte, 4), rfl, rfl, rfl, by decide, fun v => ⟨rfl, ?_, fun u hu => ?_⟩⟩
    · show fits .byte (.int (rv_i v).toInt8.toInt32) = true
      have h1 := Int8.le_toInt (rv_i v).toInt8
      have h2 := Int8.toInt_lt (rv_i v).toInt8
      have h3 : ((-128 : Int32)).toInt = -128 := by decide
      have h4 : ((127 : Int32)).toInt = 127 := by decide
      simp only [fits, Bool.and_eq_true, decide_eq_true_eq, Int32.le_iff_toInt_le, Int8.toInt_toInt32, h3, h4]
      omega
    · rw [← hu]
      show Value.int ((rv_i v).toInt8.toInt32).toInt8.toInt32 = _
      rw [rt_i8]
      rfl
  · refine ⟨3, (.short, 5), rfl, rfl, rfl, by decide, fun v => ⟨rfl, ?_, fun u hu => ?_⟩⟩
    · show fits .short (.int (rv_i v).toInt16.toInt32) = true
      have h1 := Int16.le_toInt (rv_i v).toInt16
      have h2 := Int16.toInt_lt (rv_i v).toInt16
      have h3 : ((-32768 : Int32)).toInt = -32768 := by decide
      have h4 : ((32767 : Int32)).toInt = 32767 := by decide
      simp only [fits, Bool.and_eq_true, decide_eq_true_eq, Int32.le_iff_toInt_le, Int16.toInt_toInt32, h3, h4]
      omega
    · rw [← hu]
      show Value.int ((rv_i v).toInt16.toInt32).toInt16.toInt32 = _
      rw [rt_i16]
      rfl
theorem rt_nv_tr {ad : Nat → Nat} {t : Nat} {v : Value} (h : rt_nv t v = .int (rv_i (rt_nv t v))) : rt_tr ad (rt_nv t v) = rt_nv t v := by rw [h]; rfl
theorem sc_cpy {i nx : Nat} {tg : List Nat} (hd : decode cc pc = .ok (.invokestatic i, 3)) (hl : Cond.methodLink own i arraycopyName ∈ lw_all) (ht : ∀ t ∈ tg, t = 100 ∨ t = 101 ∨ t = 103) (hw1 : Cond.native arraycopyName ∈ lw_all) (hw2 : Cond.static arraycopyName ∈ lw_all) (hw3 : Cond.initialized "java/lang/System" ∈ lw_all) (hn : pc + 3 = nx) : rt_Sc X Y cc nL own mn ret pc (op_cpy tg nx) := by
  subst hn
  intro d l p e R s m args below meth c n0 ad0 Q C hd' Qr Qt B hC hR hT hM L S h h1 h2 ad ls H locs r
  match S, h1, h2, r with
  | vn :: vdp :: vd :: vsp :: vs :: S, h1, h2, r =>
    obtain ⟨g1, g2, g3, g4, g5, g6, g7, g8, g9⟩ := h1
    obtain ⟨k1, k2⟩ := Eq.mp rt_out_if h2
    obtain ⟨n, rfl⟩ : ∃ n, vn = .int n := ⟨_, rp_i_e g1⟩
    obtain ⟨dp, rfl⟩ : ∃ x, vdp = .int x := ⟨_, rp_i_e g2⟩
    obtain ⟨a1, rfl⟩ : ∃ a, vd = .ref a := ⟨_, rp_r_e g3⟩
    obtain ⟨sp, rfl⟩ : ∃ x, vsp = .int x := ⟨_, rp_i_e g4⟩
    obtain ⟨a0, rfl⟩ : ∃ a, vs = .ref a := ⟨_, rp_r_e g5⟩
    obtain ⟨j, w, e1, e2, e3, e4, e5⟩ := rt_arr3 (ht _ g6)
    have e1' : hp_t h a1 = 100 + j := g7.trans e1
    obtain ⟨s0, sa, sc⟩ := rt_arr r.1 e1 e2
    obtain ⟨t0, ta, tc⟩ := rt_arr r.1 e1' e2
    have hlt0 := rt_arr_lt r.1 e1 e2
    have hlt1 := rt_arr_lt r.1 e1' e2
    have hAF := (B.2.2.2.2.2.1.2.1 j _ e2)
    have ha := hAF.arr
    have hrm := B.2.2.2.2.2.2.2.2.1
    have hrest := r.tail.tail.tail.tail.tail.2.2.2.2.2.1
    have nn : ∀ z : Int32, ¬ z < 0 → z.toInt = (z.toNatClampNeg : Int) := by
      intro z hz
      have hz0 : (0 : Int) ≤ z.toInt := by
        have := Int32.not_lt.mp hz
        simpa using Int32.le_iff_toInt_le.mp this
      show z.toInt = ((z.toInt.toNat : Nat) : Int)
      omega
    obtain ⟨-, kc0, hk0, cm0, hkk0⟩ := ha (hp_l h a0) (fun i => rt_tr ad (rt_nv w.2 (hp_v h a0 i)))
    obtain ⟨-, kc1, hk1, cm1, hkk1⟩ := ha (hp_l h a1) (fun i => rt_tr ad (rt_nv w.2 (hp_v h a1 i)))
    have hread : ∀ k, rt_tr ad (rt_nv w.2 k) = rt_nv w.2 k := fun k => rt_nv_tr (e5 k).1
    by_cases hok : ¬ n < 0 ∧ ¬ sp < 0 ∧ ¬ dp < 0 ∧ sp.toNatClampNeg + n.toNatClampNeg ≤ hp_l h a0 ∧ dp.toNatClampNeg + n.toNatClampNeg ≤ hp_l h a1
    · obtain ⟨b3, b1, b2, b4, b5⟩ := hok
      have hJ := k1 ⟨b3, b1, b2, b4, b5⟩
      intro T hT2 X0
      obtain ⟨vm', X', st⟩ := X0.arraycopy B.1 B.2.2.2.1 (B.2.2.2.2.1 _ hl) (B.2.2.2.2.1 _ hw1) (B.2.2.2.2.1 _ hw2) (B.2.2.2.2.1 _ hw3) (srcPos := sp) (destPos := dp) (n := n) (by rw [hT2]; exact sc) (by rw [hT2]; exact tc)
        (fun _ q => by cases q) (fun _ q => by cases q) (fun q => by cases q) (fun q => by cases q) hk0 hk1 hkk0 hkk1 (by simp [e3]) b1 b2 b3
        (by rw [nn sp b1, nn n b3, arrV_size]; omega) (by rw [nn dp b2, nn n b3, arrV_size]; omega)
        (fun vm₁ _ i hi => by
          have e : (arrV (rx_A X j) (hp_l h a0) (fun i => rt_tr ad (rt_nv w.2 (hp_v h a0 i)))).slots.getD (sp.toNatClampNeg + i) .null = .int (rv_i (rt_nv w.2 (hp_v h a0 (sp.toNatClampNeg + i)))) := by
            rw [Array.getD_eq_getD_getElem?, arrV_read _ _ (by omega), hread]
            exact (e5 _).1
          refine ⟨?_, ?_⟩
          · rw [e, ← (e5 _).1]
            exact (e5 _).2.1
          · rw [e]
            exact trivial)
        (g := F0 m pc ls (Value.int n :: .int dp :: .ref (ad a1) :: .int sp :: .ref (ad a0) :: S.map (rt_tr ad))) rfl (r.2.2.2.2.2.2.1.trans B.2.2.1.symm) (rest := S.map (rt_tr ad)) rfl (by rw [B.2.1]; exact hd) (by omega) (by
          rw [rt_cw_sum hrest]
          have e9 : 2 * (F0 m pc ls (Value.int n :: .int dp :: .ref (ad a1) :: .int sp :: .ref (ad a0) :: S.map (rt_tr ad))).monitorRoom = 0 := rfl
          have e8 : nativeFrameWords "java/lang/System" "arraycopy" 5 + 11 ≤ 10240 := by decide +kernel
          rw [e9]; omega)
      have ec : copied (arrV (rx_A X j) (hp_l h a0) (fun i => rt_tr ad (rt_nv w.2 (hp_v h a0 i)))) (arrV (rx_A X j) (hp_l h a1) (fun i => rt_tr ad (rt_nv w.2 (hp_v h a1 i)))) sp dp n = arrV (rx_A X j) (hp_l h a1) (fun i => rt_tr ad (rt_nv w.2 (hp_v (hp_cpy h a1 dp.toNatClampNeg n.toNatClampNeg (fun k => hp_v h a0 (sp.toNatClampNeg + k))) a1 i))) := by
        have := va_copied (fun z : Value => z) (rx_A X j) (rx_A X j) (n0 := hp_l h a0) (n1 := hp_l h a1) (sp := sp.toNatClampNeg) (dp := dp.toNatClampNeg) (n := n.toNatClampNeg) (fun i => rt_tr ad (rt_nv w.2 (hp_v h a0 i))) (fun i => rt_tr ad (rt_nv w.2 (hp_v h a1 i))) b4
        refine Eq.trans this ?_
        congr 1
        funext i
        unfold va_cpy
        rw [hp_v_cpy]
        by_cases hi : dp.toNatClampNeg ≤ i ∧ i < dp.toNatClampNeg + n.toNatClampNeg
        · rw [if_pos hi, if_pos ⟨rfl, hi.1, hi.2⟩]
        · rw [if_neg hi, if_neg (fun z => hi ⟨z.2.1, z.2.2⟩)]
      rw [ec] at X' st
      have hl1 : ad a1 < H.size := (r.1.2.1 a1 t0 ta).2
      generalize hH1 : H.setIfInBounds (ad a1) (arrV (rx_A X j) (hp_l h a1) (fun i => rt_tr ad (rt_nv w.2 (hp_v (hp_cpy h a1 dp.toNatClampNeg n.toNatClampNeg (fun k => hp_v h a0 (sp.toNatClampNeg + k))) a1 i)))) = H1
      have z1 : H1.size = H.size := by rw [← hH1, Array.size_setIfInBounds]
      have o1 : ∀ q : Nat, q ≠ ad a1 → H1[q]? = H[q]? := fun q hq => by rw [← hH1, Array.getElem?_setIfInBounds_ne (Ne.symm hq)]
      have c1 : H1[ad a1]? = some (arrV (rx_A X j) (hp_l h a1) (fun i => rt_tr ad (rt_nv w.2 (hp_v (hp_cpy h a1 dp.toNatClampNeg n.toNatClampNeg (fun k => hp_v h a0 (sp.toNatClampNeg + k))) a1 i)))) := by rw [← hH1, Array.getElem?_setIfInBounds_self_of_lt hl1]
      have hHR : rt_HR X ad (hp_cpy h a1 dp.toNatClampNeg n.toNatClampNeg (fun k => hp_v h a0 (sp.toNatClampNeg + k))) H1 := by
        refine rt_HR_put r.1 t0 ta rfl rfl rfl rfl rfl (fun x k hx => ?_) (fun k => ?_) ⟨fun q' hq' => ?_, fun j' w' hj' hw' => ?_⟩ z1 o1 (fun c c9 hc hc9 => ?_)
        · rw [hp_v_cpy, if_neg (fun z => hx z.1)]
        · rw [hp_v_cpy]
          split
          · exact r.1.2.2.2.2.2.1 a0 _ sa
          · exact r.1.2.2.2.2.2.1 a1 _ ta
        · have := rt_cl_lt _ q' hq'
          rw [hp_t_cpy, e1'] at this
          omega
        · rw [hp_t_cpy, e1'] at hj'
          have e : j' = j := by omega
          subst e
          rw [e2] at hw'
          cases hw'
          rw [c1, hp_l_cpy]
        · rw [tc] at hc
          cases hc
          rw [c1] at hc9
          cases hc9
          rw [arrV_size, arrV_size]
      have hr' : rt_Rel X nL s n0 ad0 L S (hp_cpy h a1 dp.toNatClampNeg n.toNatClampNeg (fun k => hp_v h a0 (sp.toNatClampNeg + k))) ad ls H1 (locs ++ ((arrV (rx_A X j) (hp_l h a0) (fun i => rt_tr ad (rt_nv w.2 (hp_v h a0 i)))).stretch sp.toNatClampNeg n.toNatClampNeg).zipIdx.map fun q => ⟨ad a1, dp.toNatClampNeg + q.2⟩) := by
        refine ⟨hHR, ⟨r.2.1.1, r.2.1.2.1, ?_⟩, ⟨by rw [z1]; exact r.2.2.1.1, fun q q1 q2 => ?_, fun z hz => ?_⟩, r.2.2.2.1, r.2.2.2.2.1, hrest, r.2.2.2.2.2.2⟩
        · rw [rt_ss_put z1 o1 tc c1 (by rw [arrV_size, arrV_size])]
          exact r.2.1.2.2
        · rw [o1 q (fun e => q2 (by rw [e]; exact (r.1.2.1 a1 t0 ta).1))]
          exact r.2.2.1.2.1 q q1 q2
        · rcases List.mem_append.mp hz with hz | hz
          · exact r.2.2.1.2.2 z hz
          · obtain ⟨y, -, hy⟩ := List.mem_map.mp hz
            rw [← hy]
            exact (r.1.2.1 a1 t0 ta).1
      have hh : ((T.setVm vm').setCell (ad a1) (arrV (rx_A X j) (hp_l h a1) (fun i => rt_tr ad (rt_nv w.2 (hp_v (hp_cpy h a1 dp.toNatClampNeg n.toNatClampNeg (fun k => hp_v h a0 (sp.toNatClampNeg + k))) a1 i))))).heap = H1 := by rw [← hH1, ← hT2]; rfl
      obtain ⟨t, p1, p2⟩ := rt_tight B.2.2.2.2.2.2.1.1 (hJ ad ls H1 _ hr') _ hh X'
      exact ⟨t, st t p1, p2⟩
    · obtain ⟨what, f1, f2⟩ := rt_fault e4 hlt0 hlt1 hok
      have hJ := k2 hok
      obtain ⟨x1, x2⟩ := rt_tx_ok f2
      intro T hT2 X0
      have hrm2 := rt_room B r g8
      obtain ⟨z1, z2⟩ := rt_zq B
      have wN := B.2.2.2.2.1 _ hw1
      have wS := B.2.2.2.2.1 _ hw2
      obtain ⟨rS, kS, methS, hnS, hmS, hkS, NN⟩ := NativeOf.of_static wN wS (ps := [.object "java/lang/Object", .int, .object "java/lang/Object", .int, .int]) (ret := none) (by decide +kernel)
      have hinitS : kS.init = .initialized := Cond.initialized_spec (findClass_of_methodNamed hnS) hkS (B.2.2.2.2.1 _ hw3)
      obtain ⟨vm₁, X1, st1⟩ := X0.invokestatic B.1 B.2.2.2.1 (B.2.2.2.2.1 _ hl) hnS hmS NN.static hkS hinitS (by decide) (g := F0 m pc ls (Value.int n :: .int dp :: .ref (ad a1) :: .int sp :: .ref (ad a0) :: S.map (rt_tr ad))) rfl (argsL := [.ref (ad a0), .int sp, .ref (ad a1), .int dp, .int n]) (rest := S.map (rt_tr ad)) (by rw [NN.sig]; rfl) rfl (by rw [B.2.1]; exact hd)
      have htr : e.platform.stackTraces = false := (show e.platform.stackTraces = l.stackTraces by rw [X0.admits.platform]).trans B.2.2.2.2.2.2.2.2.2.1
      have YY := vx_rebase X1 (R' := { frames := R.frames, locals := R.locals, cells := 3, slots := 1010 }) (Nat.le_refl _) (Nat.le_refl _) hrm2.1 hrm2.2
      obtain ⟨s1, hs1⟩ : ∃ z, z = ((T.setVm vm₁).setVm s.vm).setFrames (.invoking m args :: below) := ⟨_, rfl⟩
      have hvm1 : s1.vm = s.vm := by rw [hs1]; rfl
      have hhp1 : s1.heap = H := by rw [hs1]; exact hT2
      have hW1 : s.WarmedH s1.vm := by rw [hvm1]; exact State.WarmedH.refl s
      have hat1 : ∀ w ∈ vx_atM "java/lang/ArrayIndexOutOfBoundsException" rt_nmA, w.before args s1 = true := fun w hw => vx_ot_at hW1 hvm1.symm (rt_okw_ot (rt_atA w hw).2) (rt_hat B rt_atA w hw)
      have hU1 : vx_Zq Bundle.tN "UNASSIGNED_STACK" Bundle.steD (rt_fr X) s1 s1.heap := by rw [hhp1]; exact vx_Zq.moved hW1.alike (z1.kept r.2.2.1.2.1)
      have hN1 : vx_Zq Bundle.tN "SUPPRESSED_SENTINEL" Bundle.listD (rt_fr X) s1 s1.heap := by rw [hhp1]; exact vx_Zq.moved hW1.alike (z2.kept r.2.2.1.2.1)
      have hws1 : ∀ w ∈ Bundle.messageArmAtoms "java/lang/ArrayIndexOutOfBoundsException" rt_nmA, w.before args s1 = true := vx_own hat1 (vx_isRefq hU1.1) (vx_isRefq hN1.1) hU1.2.word hN1.2.word
      have wN1 : (Cond.native arraycopyName).before args s1 = true := vx_ot_at hW1 hvm1.symm rfl wN
      have wS1 : (Cond.static arraycopyName).before args s1 = true := vx_ot_at hW1 hvm1.symm rfl wS
      have YY' : Stand p l e { frames := R.frames, locals := R.locals, cells := 3, slots := 1010 } s1 m args below meth c (T.setVm vm₁) [] 0 0 := by rw [hs1]; exact YY
      obtain ⟨ks', hks', hes⟩ := X1.warmed.alike.2.2 _ _ hk0
      obtain ⟨kd', hkd', hed⟩ := X1.warmed.alike.2.2 _ _ hk1
      have hBT : BackT l { frames := R.frames, locals := R.locals, cells := 3, slots := 1010 } p e below s1 args arraycopyName 3 8 (fun A a => A = ⟨T.setVm vm₁, [], 0, 0⟩ ∧ a = #[.ref (ad a0), .int sp, .ref (ad a1), .int dp, .int n])
          (fun A a t Bp => Bp.locs = [] ∧ Bp.cells = 3 ∧ Bp.slots ≤ 1010 ∧ ∃ ce : Cell, Bp.U.heap[t]? = some ce ∧ s1.vm.findClass "java/lang/ArrayIndexOutOfBoundsException" = some ce.cls ∧ ce.vm = .none) := by
        refine BackT.of_native (row := arraycopyRow) (words := 5) (arraycopy_row p) (nativeStatic wN1 wS1 NT.descCopy) (by show 1 ≤ R.frames; omega) ?_ ?_
        · have e8 : nativeFrameWords arraycopyName.cls arraycopyName.name 5 + 11 ≤ 10240 := by decide +kernel
          show 8 + _ ≤ R.locals
          omega
        · intro m9 meth9 c9 A a x g mk X9 hg hsize hW9 hn9 hst hps hA
          obtain ⟨rfl, rfl⟩ := hA
          refine ⟨rfl, by simp [seenByNative, hst, hps, narrow], "java/lang/ArrayIndexOutOfBoundsException", some ("arraycopy: " ++ what), fun u => u, fun _ => rfl, rfl, fun fs E hE => ?_, ?_⟩
          · rw [arraycopyRow_sem]
            refine Jvm.W.arraycopy_bounds (s := (T.setVm vm₁).setFrames fs) (cs := arrV (rx_A X j) (hp_l h a0) (fun i => rt_tr ad (rt_nv w.2 (hp_v h a0 i)))) (cd := arrV (rx_A X j) (hp_l h a1) (fun i => rt_tr ad (rt_nv w.2 (hp_v h a1 i)))) (what := what) (sType := w.1) (dType := w.1) (by show T.heap[_]? = _; rw [hT2]; exact sc) (by show T.heap[_]? = _; rw [hT2]; exact tc) (fun _ q => by cases q) (fun _ q => by cases q) hks' hkd' (by rw [hes]; exact hkk0) (by rw [hed]; exact hkk1) (by simp [e3]) (by rw [arrV_size, arrV_size]; exact f1) (hE _)
          · obtain ⟨S9, q9, ce9, st9, Z9, hce9, hcl9, hv9⟩ := rt_nvmAt X9 B.1 htr (cls := "java/lang/ArrayIndexOutOfBoundsException") (names := rt_nmA) (text := "arraycopy: " ++ what) (by decide +kernel) (by decide +kernel) (by decide +kernel) (by decide +kernel) hws1 (fun x hx => nomatch hx) x1
              (by rw [Launch.admits_arrayLengthLimit X9.admits]; omega) (by rw [Launch.admits_maxHeapBytes X9.admits]; simp only [componentBytes]; omega)
              (g := g) hsize (nf := { method := mk, args := #[.ref (ad a0), .int sp, .ref (ad a1), .int dp, .int n], locked := none }) rfl (by show 3 + 5 < R.frames; omega) (by show _ ≤ R.locals; omega) (by decide +kernel) (by show 0 + 3 ≤ 3; omega) (by show 0 + (_ + 4 + 6) ≤ 1010; omega)
            exact ⟨q9, ⟨S9, [], 0 + 3, _⟩, Z9, ⟨rfl, rfl, by show 0 + (_ + 4 + 6) ≤ 1010; omega, ce9, hce9, hcl9, hv9⟩, st9⟩
      obtain ⟨q9, ⟨U9, L9, c9, s9⟩, XB, ⟨b1, b2, b3, ce, hce, hcl, hvm⟩, hsteps⟩ := hBT m meth c ⟨T.setVm vm₁, [], 0, 0⟩ { F0 m pc ls (Value.int n :: .int dp :: .ref (ad a1) :: .int sp :: .ref (ad a0) :: S.map (rt_tr ad)) with stack := S.map (rt_tr ad) } (.invokestatic i) rS #[.ref (ad a0), .int sp, .ref (ad a1), .int dp, .int n] YY' rfl (r.2.2.2.2.2.2.1.trans B.2.2.1.symm) (by rw [B.2.1]; exact hd) (by
          have e9 := rt_cw_sum (ad := ad) hrest
          show 2 * 0 + ((S.map (rt_tr ad)).map fun v => v.category).sum ≤ 8
          omega) (X1.named hnS) ⟨rfl, rfl⟩
      dsimp only [Pt.U, Pt.locs, Pt.cells, Pt.slots] at XB b1 b2 b3 hce hsteps
      subst b1; subst b2
      obtain ⟨y1, y2⟩ := vx_frame XB.same
      rw [hhp1] at y1 y2
      have y2' : ∀ q : Nat, q < H.size → U9.heap[q]? = H[q]? := fun q hq => y2 q hq (fun z hz => nomatch hz)
      rw [hs1] at XB
      have X5 := vx_back9 X1 YY XB
      have X6 : Stand p l e R s m args below meth c U9 locs (H.size - s.heap.size + 3) (rt_ss (rx_H X).size H - rt_ss (rx_H X).size s.heap + 1010) := { X5 with same := X5.same.mono (Nat.le_refl _) (by omega) }
      rw [hvm1] at hcl
      have hW9 := rt_thrown (kk := 3) (rest := S.map (rt_tr ad)) B hT r g8 y1 y2' ⟨Nat.le_trans r.2.2.1.1 y1, fun q h1 h2 => (y2' q (Nat.lt_of_lt_of_le h1 r.2.2.1.1)).trans (r.2.2.1.2.1 q h1 h2), r.2.2.1.2.2⟩ hce hvm hcl (by decide) hJ
      obtain ⟨t, p1, p2⟩ := hW9 U9 rfl X6
      exact ⟨t, st1 t fun acts => by rw [doInvoke_state]; exact hsteps.trans p1, p2⟩
end G
end SND17
