/-! ===== the abstract machine against the JVM: frames, instructions that don't touch the heap ===== -/
section SND1
/-- an array class, by the tables -/
def rt_AF (U : State) (cA : ClassId) (ty : FieldType) : Prop := ∃ (kA : Class) (comp : ClassId), U.vm.findClass ("[" ++ ty.toString) = some cA ∧ U.vm.classes[cA]? = some kA ∧ kA.kind = .array comp ty ∧ (∀ C, ty = .object C → U.vm.findClass C = some comp) ∧ (∀ t, ty = .array t → U.vm.findClass ty.toString = some comp)
theorem rt_AF.moved {u U : State} (hvm : u.vm.Alike U.vm) {cA : ClassId} {ty : FieldType} (h : rt_AF u cA ty) : rt_AF U cA ty := by
  obtain ⟨kA, comp, h1, h2, h3, h4, h5⟩ := h
  obtain ⟨k', hk', he⟩ := hvm.2.2 _ _ h2
  exact ⟨k', comp, by rw [hvm.findClass]; exact h1, hk', by rw [he]; exact h3, fun C e => by rw [hvm.findClass]; exact h4 C e, fun t e => by rw [hvm.findClass]; exact h5 t e⟩
theorem rt_AF.arr {U : State} {cA : ClassId} {ty : FieldType} (h : rt_AF U cA ty) : ArrOfT U cA ty := by
  obtain ⟨kA, comp, h1, h2, h3, -⟩ := h
  exact fun N z => ⟨(fun k h => by cases h), kA, h2, comp, h3⟩
/-- the words that don't ride in lists -/
def rt_nk : Cond → Bool | .fieldLinkNest _ _ _ _ _ _ => true | .methodLinkNest _ _ _ _ => true | .castable _ _ => true | .declares _ => true | _ => false
theorem rt_nk_warm {w : Cond} (hk : rt_nk w = true) {s U : State} (hW : s.WarmedH U.vm) (h : va_Nw w s) : va_Nw w U := by
  cases w <;> first | exact absurd hk (by decide) | exact va_Nw.warmF hW h | exact va_Nw.warmM hW h | exact va_Nw.warmC hW h | exact va_Nw.warmD hW h | (exact absurd hk Bool.false_ne_true)
/-- the interfaces' calls, the classes that aren't castable, the defaults -/
def rt_fws : List (String × MethodName × MethodName) :=
  (["RoomTrees$Bytes", "RoomTrees$Shorts", "RoomTrees$Ints"].flatMap fun C => [("puts", "(II)V"), ("number", "(I)I"), ("bits", "()I"), ("held", "()Ljava/lang/Object;"), ("length", "()I")].map fun y => (C, ⟨"RoomTrees$Row", y.1, y.2⟩, ⟨C, y.1, y.2⟩)) ++
  ([("RoomTrees$Plain", "RoomTrees$Plain"), ("RoomTrees$Both", "RoomTrees$Both"), ("RoomTrees$Absorber", "RoomTrees$Absorber"), ("RoomTrees$Late", "RoomTrees$Both"), ("RoomTrees$Splitter", "RoomTrees$Splitter"), ("RoomTrees$Shy", "RoomTrees$Plain")].flatMap fun q => [(q.1, ⟨"RoomTrees$Marks", "m", "()I"⟩, ⟨"RoomTrees$Plain", "m", "()I"⟩), (q.1, ⟨"RoomTrees$Chooses", "chooses", "(LRoomTrees$Forest;)I"⟩, ⟨q.2, "chooses", "(LRoomTrees$Forest;)I"⟩), (q.1, ⟨"RoomTrees$Marks", "from", "()I"⟩, ⟨"RoomTrees$Marks", "from", "()I"⟩)]) ++
  [("RoomTrees$Fewer", ⟨"java/util/Comparator", "compare", "(Ljava/lang/Object;Ljava/lang/Object;)I"⟩, ⟨"RoomTrees$Fewer", "compare", "(Ljava/lang/Object;Ljava/lang/Object;)I"⟩), ("RoomTrees$Written", ⟨"java/lang/Comparable", "compareTo", "(Ljava/lang/Object;)I"⟩, ⟨"RoomTrees$Written", "compareTo", "(Ljava/lang/Object;)I"⟩)]
def rt_mk : List String := ["RoomTrees$Plain", "RoomTrees$Both", "RoomTrees$Absorber", "RoomTrees$Late", "RoomTrees$Splitter", "RoomTrees$Shy"]
def rt_frm : MethodName := ⟨"RoomTrees$Marks", "from", "()I"⟩
def rt_fr (X : rt_X) : Nat → Prop := fun q => (rx_H X).size ≤ q
/-- what the tables and the old heap say, all through a run -/
def rt_env (X : rt_X) (U : State) : Prop :=
  (∀ (t : Nat) (q : vw_C), rt_cl[t]? = some q → u_Kn U q.1 q.2.1 q.2.2 ((rx_D X).1 t) ((rx_D X).2 t)) ∧
  (∀ (j : Nat) (e : FieldType × Nat), rt_ai[j]? = some e → rt_AF U (rx_A X j) e.1) ∧
  (∀ w ∈ lw_tbl, rt_nk w = true → va_Nw w U) ∧
  (∀ q ∈ rt_fws, va_Fw q.1 q.2.1 q.2.2 U) ∧
  (∀ C ∈ rt_mk, (Cond.landsInDefault C rt_frm rt_frm).before #[] U = true) ∧
  va_Nc "java/lang/ArrayIndexOutOfBoundsException" "java/lang/NullPointerException" U ∧
  (va_X (rx_b X) (rx_L X) (rx_x X) U (rx_H X) ∧ rx_b X < (rx_H X).size ∧ rx_L X ≤ 144) ∧
  (vx_Zq Bundle.tN "UNASSIGNED_STACK" Bundle.steD (rt_fr X) U (rx_H X) ∧ vx_Zq Bundle.tN "SUPPRESSED_SENTINEL" Bundle.listD (rt_fr X) U (rx_H X)) ∧
  vk_R "java/lang/Math" 111 "integer overflow" (rx_s X) U ∧
  (∀ (j : Nat) (e : FieldType × Nat), rt_ai[j]? = some e → ∀ C, e.1 = .object C → va_AO C U) ∧
  va_Nw (.arrayOver (.array .int)) U
theorem rt_fws_ok : ∀ q ∈ rt_fws, q.2.1.cls ≠ "java/lang/invoke/MethodHandle" ∧ q.2.1.cls ≠ "java/lang/invoke/VarHandle" := by decide +kernel
theorem rt_env.warm {X : rt_X} {s U : State} (hW : s.WarmedH U.vm) (h : rt_env X s) : rt_env X U := by
  obtain ⟨h1, h2, h3, h4, h5, h6, ⟨h7, h8, h8b⟩, ⟨h9, h10⟩, h11, h12, h13⟩ := h
  have ha := hW.alike
  refine ⟨fun t q e => u_Kn_moved ha (h1 t q e), fun j e w => (h2 j e w).moved ha, fun w hw hk => rt_nk_warm hk hW (h3 w hw hk), fun q hq => (h4 q hq).moved (rt_fws_ok q hq) ha, fun C hC => ?_, h6.moved ha, ⟨h7.moved ha, h8, h8b⟩, ⟨h9.moved ha, h10.moved ha⟩, h11.warm hW, fun j e w C hC => (h12 j e w C hC).moved ha, (Cond.arrayOver_setVmC (args := #[]) ha (.array .int)).trans h13⟩
  have e := Cond.landsInDefault_setVm (args := #[]) (args' := #[]) (s := s) ha (cls := C) (x := rt_frm) (y := rt_frm) (State.methodFound?_setVm ha _ _ _)
  exact e.trans (h5 C hC)
/-- a frame of the machine: its method's code, locals, class; callees of depth d -/
def rt_Bd (X : rt_X) (cc : ByteArray) (nL : Nat) (own mn : String) (d : Nat) (l : Launch) (p : Program) (R : Room) (s : State) (m : MethodId) (args : Array Value) (meth : Method) (c : Code) : Prop :=
  p.tables.exec = Jvm.exec ∧ c.code = cc ∧ c.maxLocals = nL ∧ s.vm.findClass own = some m.cls ∧ (∀ w ∈ lw_all, w.before args s = true) ∧ rt_env X s ∧ ((rx_H X).size ≤ s.heap.size ∧ ∀ q : Nat, q < (rx_H X).size → s.heap[q]? = (rx_H X)[q]?) ∧
  meth.locks = false ∧ (d + 20 ≤ R.frames ∧ 60 * d + 10400 ≤ R.locals ∧ R.cells + s.heap.size = 1200144 + (rx_H X).size ∧ R.slots + rt_ss (rx_H X).size s.heap = 5497210) ∧ l.stackTraces = false ∧ meth.name = mn
/-- the machine stands as the abstract frame does -/
def rt_Rel (X : rt_X) (nL : Nat) (s : State) (n0 : Nat) (ad0 : Nat → Nat) (L S : List Value) (h : rt_H) (ad : Nat → Nat) (ls : Array Slot) (H : Heap) (locs : List Loc) : Prop :=
  rt_HR X ad h H ∧ (n0 ≤ hp_n h ∧ (∀ k, k < n0 → ad k = ad0 k) ∧ rt_ss (rx_H X).size s.heap ≤ rt_ss (rx_H X).size H) ∧ va_S (rt_fr X) s.heap H locs ∧ L.length = nL ∧ (∀ v ∈ L, rt_vn (hp_n h) v) ∧ (∀ v ∈ S, rt_vn (hp_n h) v) ∧ lv_has ls nL (rt_lv ad L)
section F
variable (X : rt_X) (nL : Nat) (p : Program) (l : Launch) (e : Env) (R : Room) (s : State) (m : MethodId) (args : Array Value) (below : List Frame) (meth : Method) (c : Code) (n0 : Nat) (ad0 : Nat → Nat) (Q : State → Prop)
/-- the walk goes on: counters as the heap has them -/
def rt_W (H : Heap) (locs : List Loc) (g : JFrame) : Prop := W p l e R s m args below meth c H locs (H.size - s.heap.size) (rt_ss (rx_H X).size H - rt_ss (rx_H X).size s.heap) Q g
def rt_J : rt_P := fun pc L S h => ∀ (ad : Nat → Nat) (ls : Array Slot) (H : Heap) (locs : List Loc), rt_Rel X nL s n0 ad0 L S h ad ls H locs → rt_W X p l e R s m args below meth c Q H locs (F0 m pc ls (S.map (rt_tr ad)))
end F
theorem rt_drop_sum {n : Nat} {A B : List Nat} {z : Nat} (hz : z ≤ n) (hA : A.length = n) (hB : B.take n = A) : (B.drop z).sum = (A.drop z).sum + (B.drop n).sum := by
  have e : B = A ++ B.drop n := by rw [← hB]; exact (List.take_append_drop n B).symm
  have e2 : B.drop z = A.drop z ++ B.drop n := by
    conv => lhs; rw [e]
    rw [List.drop_append_of_le_length (by omega)]
  rw [e2, List.sum_append]
/-- what the slots' sum is above an older heap, whose cells have kept their sizes -/
theorem rt_ss_old {z : Nat} {H0 H : Heap} (hz : z ≤ H0.size) (hH : H0.size ≤ H.size) (hs : ∀ (a : Nat) (c : Cell), H0[a]? = some c → ∃ c', H[a]? = some c' ∧ c'.slots.size = c.slots.size) : rt_ss z H = rt_ss z H0 + rt_ss H0.size H := by
  unfold rt_ss
  rw [List.map_drop, List.map_drop, List.map_drop]
  refine rt_drop_sum (A := H0.toList.map (fun c : Cell => c.slots.size)) hz (by simp) ?_
  apply List.ext_getElem?
  intro i
  rw [List.getElem?_take, List.getElem?_map, List.getElem?_map, Array.getElem?_toList, Array.getElem?_toList]
  split
  · rename_i hi
    have e1 : H0[i]? = some H0[i] := Array.getElem?_eq_getElem hi
    obtain ⟨c', h1, h2⟩ := hs i _ e1
    rw [h1, e1]
    exact congrArg some h2
  · rename_i hi
    have : H0[i]? = none := Array.getElem?_eq_none (by omega)
    rw [this]; rfl
section G
variable {X : rt_X} {cc : ByteArray} {nL : Nat} {own mn : String} {d : Nat} {l : Launch} {p : Program} {e : Env} {R : Room} {s : State} {m : MethodId} {args : Array Value} {below : List Frame} {meth : Method} {c : Code} {n0 : Nat} {ad0 : Nat → Nat} {Q : State → Prop}
/-- counters don't matter: the heap knows them -/
theorem rt_tight {H : Heap} {locs : List Loc} {cells slots : Nat} {g : JFrame} (hz : (rx_H X).size ≤ s.heap.size) (k : rt_W X p l e R s m args below meth c Q H locs g) : W p l e R s m args below meth c H locs cells slots Q g := by
  intro T hT X0
  refine k T hT ?_
  obtain ⟨q1, q2, q3, q4, q5, q6⟩ := X0.same
  have hh : (T.setVm s.vm).heap = H := hT
  rw [hh] at q2 q3 q4 q5 q6
  have hsum := rt_ss_old (z := (rx_H X).size) hz q2 (fun a c hc => by
    obtain ⟨c', h1, -, h3, -⟩ := q6 a c hc
    exact ⟨c', h1, h3⟩)
  refine { X0 with same := ⟨q1, by rw [hh]; exact q2, by rw [hh]; omega, by rw [hh]; exact q4, ?_, by rw [hh]; exact q6⟩ }
  rw [hh]
  show rt_ss s.heap.size H ≤ _
  rw [hsum]; omega
theorem rt_Rel.stack {L S S' : List Value} {h : rt_H} {ad : Nat → Nat} {ls : Array Slot} {H : Heap} {locs : List Loc} (r : rt_Rel X nL s n0 ad0 L S h ad ls H locs) (hS : ∀ v ∈ S', rt_vn (hp_n h) v) : rt_Rel X nL s n0 ad0 L S' h ad ls H locs := ⟨r.1, r.2.1, r.2.2.1, r.2.2.2.1, r.2.2.2.2.1, hS, r.2.2.2.2.2.2⟩
theorem rt_Rel.tail {L r : List Value} {v : Value} {h : rt_H} {ad : Nat → Nat} {ls : Array Slot} {H : Heap} {locs : List Loc} (q : rt_Rel X nL s n0 ad0 L (v :: r) h ad ls H locs) : rt_Rel X nL s n0 ad0 L r h ad ls H locs := q.stack fun w hw => q.2.2.2.2.2.1 w (List.mem_cons_of_mem _ hw)
theorem rt_Rel.push {L S : List Value} {v : Value} {h : rt_H} {ad : Nat → Nat} {ls : Array Slot} {H : Heap} {locs : List Loc} (q : rt_Rel X nL s n0 ad0 L S h ad ls H locs) (hv : rt_vn (hp_n h) v) : rt_Rel X nL s n0 ad0 L (v :: S) h ad ls H locs := q.stack fun w hw => by
  rcases List.mem_cons.mp hw with rfl | hw
  · exact hv
  · exact q.2.2.2.2.2.1 w hw
theorem rt_Rel.head {L r : List Value} {v : Value} {h : rt_H} {ad : Nat → Nat} {ls : Array Slot} {H : Heap} {locs : List Loc} (q : rt_Rel X nL s n0 ad0 L (v :: r) h ad ls H locs) : rt_vn (hp_n h) v := q.2.2.2.2.2.1 v List.mem_cons_self
theorem rt_Rel.nd {L S : List Value} {h : rt_H} {ad : Nat → Nat} {ls : Array Slot} {H : Heap} {locs : List Loc} (q : rt_Rel X nL s n0 ad0 L S h ad ls H locs) : ∀ w ∈ L, ∀ b, w ≠ .double b := fun w hw b e => by
  have := q.2.2.2.2.1 w hw
  rw [e] at this; exact this
theorem lk_s_mem {L : List Value} {i : Nat} {v w : Value} (h : w ∈ lk_s L i v) : w = v ∨ w ∈ L ∨ w = lk_u := by
  by_cases hb : rb_v w = true
  · obtain ⟨j, hj⟩ := List.getElem?_of_mem h
    rcases lk_s_get L i v j w hj hb with ⟨-, e⟩ | ⟨-, e, -⟩
    · exact Or.inl e
    · exact Or.inr (Or.inl (List.mem_of_getElem? e))
  · induction L generalizing i with
    | nil => cases i <;> cases h
    | cons a L ih =>
      match i, h with
      | 0, h => rcases List.mem_cons.mp h with e | h
                · exact Or.inl e
                · exact Or.inr (Or.inl (List.mem_cons_of_mem _ h))
      | 1, h => rcases List.mem_cons.mp h with e | h
                · cases q : rb_l a with
                  | true => rw [q] at e; exact Or.inr (Or.inr e)
                  | false => rw [q] at e; exact Or.inr (Or.inl (by rw [e]; exact List.mem_cons_self))
                · rcases ih h with e | e | e
                  · exact Or.inl e
                  · exact Or.inr (Or.inl (List.mem_cons_of_mem _ e))
                  · exact Or.inr (Or.inr e)
      | i + 2, h => rcases List.mem_cons.mp h with e | h
                    · exact Or.inr (Or.inl (by rw [e]; exact List.mem_cons_self))
                    · rcases ih h with e | e | e
                      · exact Or.inl e
                      · exact Or.inr (Or.inl (List.mem_cons_of_mem _ e))
                      · exact Or.inr (Or.inr e)
theorem lk_2_mem : ∀ {L : List Value} {i : Nat} {v w : Value}, w ∈ lk_2 L i v → w = v ∨ w ∈ L ∨ w = lk_u
  | [], i, v, w, h => by cases i <;> cases h
  | [_], 0, v, w, h => Or.inl (List.mem_singleton.mp h)
  | [_], i + 1, v, w, h => Or.inl (List.mem_singleton.mp h)
  | a :: b :: L, 0, v, w, h => by
    rcases List.mem_cons.mp h with e | h
    · exact Or.inl e
    · rcases List.mem_cons.mp h with e | h
      · exact Or.inr (Or.inr e)
      · exact Or.inr (Or.inl (List.mem_cons_of_mem _ (List.mem_cons_of_mem _ h)))
  | a :: b :: L, 1, v, w, h => by
    rcases List.mem_cons.mp h with e | h
    · cases q : rb_l a with
      | true => rw [q] at e; exact Or.inr (Or.inr e)
      | false => rw [q] at e; exact Or.inr (Or.inl (by rw [e]; exact List.mem_cons_self))
    · rcases lk_2_mem h with e | e | e
      · exact Or.inl e
      · exact Or.inr (Or.inl (List.mem_cons_of_mem _ e))
      · exact Or.inr (Or.inr e)
  | a :: b :: L, i + 2, v, w, h => by
    rcases List.mem_cons.mp h with e | h
    · exact Or.inr (Or.inl (by rw [e]; exact List.mem_cons_self))
    · rcases lk_2_mem h with e | e | e
      · exact Or.inl e
      · exact Or.inr (Or.inl (List.mem_cons_of_mem _ e))
      · exact Or.inr (Or.inr e)
theorem rt_vn_u {n : Nat} : rt_vn n lk_u := trivial
theorem rt_Rel.store {L r : List Value} {i : Nat} {v : Value} {h : rt_H} {ad : Nat → Nat} {ls ls' : Array Slot} {H : Heap} {locs : List Loc} (q : rt_Rel X nL s n0 ad0 L r h ad ls H locs) (hv : rt_vn (hp_n h) v) (hl : lv_has ls' nL ((i, rt_tr ad v) :: (rt_lv ad L).filter (fun q => !(q.1 == i) && !(q.1 + 1 == i && q.2.category == 2)))) : rt_Rel X nL s n0 ad0 (lk_s L i v) r h ad ls' H locs :=
  ⟨q.1, q.2.1, q.2.2.1, by rw [lk_s_len]; exact q.2.2.2.1, fun w hw => by
    rcases lk_s_mem hw with e | e | e
    · rw [e]; exact hv
    · exact q.2.2.2.2.1 w e
    · rw [e]; trivial, q.2.2.2.2.2.1, rt_lv_s q.nd hl⟩
theorem rt_Rel.store2 {L r : List Value} {i : Nat} {v : Value} {h : rt_H} {ad : Nat → Nat} {ls ls' : Array Slot} {H : Heap} {locs : List Loc} (q : rt_Rel X nL s n0 ad0 L r h ad ls H locs) (hi : i + 1 < L.length) (hv : rt_vn (hp_n h) v) (hl : lv_has ls' nL ((i, rt_tr ad v) :: (rt_lv ad L).filter (fun q => !(q.1 == i) && (!(q.1 == i + 1) && !(q.1 + 1 == i && q.2.category == 2))))) : rt_Rel X nL s n0 ad0 (lk_2 L i v) r h ad ls' H locs :=
  ⟨q.1, q.2.1, q.2.2.1, by rw [lk_2_len]; exact q.2.2.2.1, fun w hw => by
    rcases lk_2_mem hw with e | e | e
    · rw [e]; exact hv
    · exact q.2.2.2.2.1 w e
    · rw [e]; trivial, q.2.2.2.2.2.1, rt_lv_2 hi q.nd hl⟩
theorem rp_i_e {v : Value} (h : rp_i v) : v = .int (rv_i v) := by cases v <;> first | rfl | exact h.elim
theorem rp_l_e {v : Value} (h : rp_l v) : v = .long (rv_l v) := by cases v <;> first | rfl | exact h.elim
theorem rp_r_e {v : Value} (h : rp_r v) : v = .ref (rv_a v) := by cases v <;> first | rfl | exact h.elim
theorem rp_a_e {v : Value} (h : rp_a v) : v = .null ∨ v = .ref (rv_a v) := by cases v <;> first | exact Or.inl rfl | exact Or.inr rfl | exact h.elim
/-- an instruction of the abstract machine is what the code has at pc -/
def rt_Sd (X : rt_X) (cc : ByteArray) (nL : Nat) (own mn : String) (pc : Nat) (o : rt_Op) : Prop :=
  ∀ {d : Nat} {l : Launch} {p : Program} {e : Env} {R : Room} {s : State} {m : MethodId} {args : Array Value} {below : List Frame} {meth : Method} {c : Code} {n0 : Nat} {ad0 : Nat → Nat} {Q : State → Prop} {C : rt_Ca} {hd : Nat → Nat → Option (Nat × Nat)} {Qr : rt_Qr} {Qt : rt_Qt},
    rt_Bd X cc nL own mn d l p R s m args meth c → ∀ {L S : List Value} {h : rt_H}, (o L S h).1 → rt_out C hd Qr Qt (rt_J X nL p l e R s m args below meth c n0 ad0 Q) pc L (o L S h).2 → rt_J X nL p l e R s m args below meth c n0 ad0 Q pc L S h
variable {pc : Nat}
theorem sd_il_n {i nx : Nat} {k : Fin 4} (hd : decode cc pc = .ok (.iload_n k, 1)) (hi : (k : Nat) = i) (hn : pc + 1 = nx) : rt_Sd X cc nL own mn pc (op_il i nx) := by
  subst hn
  intro d l p e R s m args below meth c n0 ad0 Q C hd' Qr Qt B L S h h1 h2 ad ls H locs r
  have e1 := rp_i_e h1
  exact lv_iload_n B.1 B.2.1 hd hi (rt_lv_at r.2.2.2.2.2.2 e1 rfl) (h2 ad ls H locs (r.push trivial))
theorem sd_il {i nx : Nat} (hd : decode cc pc = .ok (.iload i, 2)) (hn : pc + 2 = nx) : rt_Sd X cc nL own mn pc (op_il i nx) := by
  subst hn
  intro d l p e R s m args below meth c n0 ad0 Q C hd' Qr Qt B L S h h1 h2 ad ls H locs r
  have e1 := rp_i_e h1
  exact lv_iload B.1 B.2.1 hd (rt_lv_at r.2.2.2.2.2.2 e1 rfl) (h2 ad ls H locs (r.push trivial))
theorem sd_ll_n {i nx : Nat} {k : Fin 4} (hd : decode cc pc = .ok (.lload_n k, 1)) (hi : (k : Nat) = i) (hn : pc + 1 = nx) : rt_Sd X cc nL own mn pc (op_ll i nx) := by
  subst hn
  intro d l p e R s m args below meth c n0 ad0 Q C hd' Qr Qt B L S h h1 h2 ad ls H locs r
  have e1 := rp_l_e h1
  exact lv_lload_n B.1 B.2.1 hd hi (rt_lv_at r.2.2.2.2.2.2 e1 rfl) (h2 ad ls H locs (r.push trivial))
theorem sd_ll {i nx : Nat} (hd : decode cc pc = .ok (.lload i, 2)) (hn : pc + 2 = nx) : rt_Sd X cc nL own mn pc (op_ll i nx) := by
  subst hn
  intro d l p e R s m args below meth c n0 ad0 Q C hd' Qr Qt B L S h h1 h2 ad ls H locs r
  have e1 := rp_l_e h1
  exact lv_lload B.1 B.2.1 hd (rt_lv_at r.2.2.2.2.2.2 e1 rfl) (h2 ad ls H locs (r.push trivial))
theorem lk_g_mem {L : List Value} {i : Nat} {v : Value} (h : lk_g L i = v) (hv : rb_v v = true) : v ∈ L := List.mem_of_getElem? (lk_g_some h hv)
theorem sd_al_n {i nx : Nat} {k : Fin 4} (hd : decode cc pc = .ok (.aload_n k, 1)) (hi : (k : Nat) = i) (hn : pc + 1 = nx) : rt_Sd X cc nL own mn pc (op_al i nx) := by
  subst hn
  intro d l p e R s m args below meth c n0 ad0 Q C hd' Qr Qt B L S h h1 h2 ad ls H locs r
  rcases rp_a_e h1 with e1 | e1
  · have h3 := h2 ad ls H locs (r.push (by rw [e1]; trivial))
    rw [List.map_cons, e1] at h3
    exact lv_aload_nN B.1 B.2.1 hd hi (rt_lv_at r.2.2.2.2.2.2 e1 rfl) h3
  · have h3 := h2 ad ls H locs (r.push (by rw [e1]; exact r.2.2.2.2.1 _ (lk_g_mem e1 rfl)))
    rw [List.map_cons, e1] at h3
    exact lv_aload_n B.1 B.2.1 hd hi (rt_lv_at r.2.2.2.2.2.2 e1 rfl) h3
theorem sd_al {i nx : Nat} (hd : decode cc pc = .ok (.aload i, 2)) (hn : pc + 2 = nx) : rt_Sd X cc nL own mn pc (op_al i nx) := by
  subst hn
  intro d l p e R s m args below meth c n0 ad0 Q C hd' Qr Qt B L S h h1 h2 ad ls H locs r
  rcases rp_a_e h1 with e1 | e1
  · have h3 := h2 ad ls H locs (r.push (by rw [e1]; trivial))
    rw [List.map_cons, e1] at h3
    exact lv_aloadN B.1 B.2.1 hd (rt_lv_at r.2.2.2.2.2.2 e1 rfl) h3
  · have h3 := h2 ad ls H locs (r.push (by rw [e1]; exact r.2.2.2.2.1 _ (lk_g_mem e1 rfl)))
    rw [List.map_cons, e1] at h3
    exact lv_aload B.1 B.2.1 hd (rt_lv_at r.2.2.2.2.2.2 e1 rfl) h3
theorem sd_is_n {i nx : Nat} {k : Fin 4} (hd : decode cc pc = .ok (.istore_n k, 1)) (hi : (k : Nat) = i) (hn : pc + 1 = nx) : rt_Sd X cc nL own mn pc (op_is i nx) := by
  subst hn
  intro d l p e R s m args below meth c n0 ad0 Q C hd' Qr Qt B L S h h1 h2 ad ls H locs r
  match S, h1, h2, r with
  | v :: S, h1, h2, r =>
    obtain ⟨x, rfl⟩ : ∃ x, v = .int x := ⟨_, rp_i_e h1.1⟩
    exact lv_istore_n B.1 B.2.1 hd hi r.2.2.2.2.2.2 (by rw [← r.2.2.2.1]; exact h1.2) rfl fun ls' hl => h2 ad ls' H locs (r.tail.store trivial hl)
theorem sd_is {i nx : Nat} (hd : decode cc pc = .ok (.istore i, 2)) (hn : pc + 2 = nx) : rt_Sd X cc nL own mn pc (op_is i nx) := by
  subst hn
  intro d l p e R s m args below meth c n0 ad0 Q C hd' Qr Qt B L S h h1 h2 ad ls H locs r
  match S, h1, h2, r with
  | v :: S, h1, h2, r =>
    obtain ⟨x, rfl⟩ : ∃ x, v = .int x := ⟨_, rp_i_e h1.1⟩
    exact lv_istore B.1 B.2.1 hd r.2.2.2.2.2.2 (by rw [← r.2.2.2.1]; exact h1.2) rfl fun ls' hl => h2 ad ls' H locs (r.tail.store trivial hl)
theorem sd_ls_n {i nx : Nat} {k : Fin 4} (hd : decode cc pc = .ok (.lstore_n k, 1)) (hi : (k : Nat) = i) (hn : pc + 1 = nx) : rt_Sd X cc nL own mn pc (op_ls i nx) := by
  subst hn
  intro d l p e R s m args below meth c n0 ad0 Q C hd' Qr Qt B L S h h1 h2 ad ls H locs r
  match S, h1, h2, r with
  | v :: S, h1, h2, r =>
    obtain ⟨x, rfl⟩ : ∃ x, v = .long x := ⟨_, rp_l_e h1.1⟩
    exact lv_lstore_n B.1 B.2.1 hd hi r.2.2.2.2.2.2 (by rw [← r.2.2.2.1]; exact h1.2) rfl fun ls' hl => h2 ad ls' H locs (r.tail.store2 h1.2 trivial hl)
theorem sd_ls {i nx : Nat} (hd : decode cc pc = .ok (.lstore i, 2)) (hn : pc + 2 = nx) : rt_Sd X cc nL own mn pc (op_ls i nx) := by
  subst hn
  intro d l p e R s m args below meth c n0 ad0 Q C hd' Qr Qt B L S h h1 h2 ad ls H locs r
  match S, h1, h2, r with
  | v :: S, h1, h2, r =>
    obtain ⟨x, rfl⟩ : ∃ x, v = .long x := ⟨_, rp_l_e h1.1⟩
    exact lv_lstore B.1 B.2.1 hd r.2.2.2.2.2.2 (by rw [← r.2.2.2.1]; exact h1.2) rfl fun ls' hl => h2 ad ls' H locs (r.tail.store2 h1.2 trivial hl)
theorem sd_as_n {i nx : Nat} {k : Fin 4} (hd : decode cc pc = .ok (.astore_n k, 1)) (hi : (k : Nat) = i) (hn : pc + 1 = nx) : rt_Sd X cc nL own mn pc (op_as i nx) := by
  subst hn
  intro d l p e R s m args below meth c n0 ad0 Q C hd' Qr Qt B L S h h1 h2 ad ls H locs r
  match S, h1, h2, r with
  | v :: S, h1, h2, r =>
    rcases rp_a_e h1.1 with e1 | e1
    · subst e1
      exact lv_astore_nN B.1 B.2.1 hd hi r.2.2.2.2.2.2 (by rw [← r.2.2.2.1]; exact h1.2) rfl fun ls' hl => h2 ad ls' H locs (r.tail.store trivial hl)
    · obtain ⟨a, rfl⟩ : ∃ a, v = .ref a := ⟨_, e1⟩
      exact lv_astore_n B.1 B.2.1 hd hi r.2.2.2.2.2.2 (by rw [← r.2.2.2.1]; exact h1.2) rfl fun ls' hl => h2 ad ls' H locs (r.tail.store r.head hl)
theorem sd_as {i nx : Nat} (hd : decode cc pc = .ok (.astore i, 2)) (hn : pc + 2 = nx) : rt_Sd X cc nL own mn pc (op_as i nx) := by
  subst hn
  intro d l p e R s m args below meth c n0 ad0 Q C hd' Qr Qt B L S h h1 h2 ad ls H locs r
  match S, h1, h2, r with
  | v :: S, h1, h2, r =>
    rcases rp_a_e h1.1 with e1 | e1
    · subst e1
      exact lv_astoreN B.1 B.2.1 hd r.2.2.2.2.2.2 (by rw [← r.2.2.2.1]; exact h1.2) rfl fun ls' hl => h2 ad ls' H locs (r.tail.store trivial hl)
    · obtain ⟨a, rfl⟩ : ∃ a, v = .ref a := ⟨_, e1⟩
      exact lv_astore B.1 B.2.1 hd r.2.2.2.2.2.2 (by rw [← r.2.2.2.1]; exact h1.2) rfl fun ls' hl => h2 ad ls' H locs (r.tail.store r.head hl)
theorem sd_inc {i nx : Nat} {n : Int} {k : Int32} (hd : decode cc pc = .ok (.iinc i n, 3)) (hk : Int32.ofInt n = k) (hn : pc + 3 = nx) : rt_Sd X cc nL own mn pc (op_inc i k nx) := by
  subst hn; subst hk
  intro d l p e R s m args below meth c n0 ad0 Q C hd' Qr Qt B L S h h1 h2 ad ls H locs r
  have e1 := rp_i_e h1.1
  have hm : (i, Value.int (rv_i (lk_g L i))) ∈ rt_lv ad L := rt_lv_mem.mpr ⟨_, lk_g_some e1 rfl, rfl, rfl⟩
  obtain ⟨k, hk⟩ := List.getElem?_of_mem hm
  exact lv_iinc B.1 B.2.1 hd r.2.2.2.2.2.2 hk rfl (by rw [← r.2.2.2.1]; exact h1.2) rfl fun ls' hl => h2 ad ls' H locs (r.store trivial hl)
theorem sd_iconst {x : Int32} {n : Int} {nx : Nat} (hd : decode cc pc = .ok (.iconst n, 1)) (hx : Int32.ofInt n = x) (hn : pc + 1 = nx) : rt_Sd X cc nL own mn pc (op_ci x nx) := by
  subst hn
  intro d l p e R s m args below meth c n0 ad0 Q C hd' Qr Qt B L S h h1 h2 ad ls H locs r
  exact lv_iconst B.1 B.2.1 hd hx (h2 ad ls H locs (r.push trivial))
theorem sd_bipush {x : Int32} {n : Int} {nx : Nat} (hd : decode cc pc = .ok (.bipush n, 2)) (hx : (Int8.ofInt n).toInt32 = x) (hn : pc + 2 = nx) : rt_Sd X cc nL own mn pc (op_ci x nx) := by
  subst hn
  intro d l p e R s m args below meth c n0 ad0 Q C hd' Qr Qt B L S h h1 h2 ad ls H locs r
  exact lv_bipush B.1 B.2.1 hd hx (h2 ad ls H locs (r.push trivial))
theorem sd_sipush {x : Int32} {n : Int} {nx : Nat} (hd : decode cc pc = .ok (.sipush n, 3)) (hx : (Int16.ofInt n).toInt32 = x) (hn : pc + 3 = nx) : rt_Sd X cc nL own mn pc (op_ci x nx) := by
  subst hn
  intro d l p e R s m args below meth c n0 ad0 Q C hd' Qr Qt B L S h h1 h2 ad ls H locs r
  exact lv_sipush B.1 B.2.1 hd hx (h2 ad ls H locs (r.push trivial))
theorem sd_lconst {x : Int64} {n : Fin 2} {nx : Nat} (hd : decode cc pc = .ok (.lconst n, 1)) (hx : Int64.ofNat (n : Nat) = x) (hn : pc + 1 = nx) : rt_Sd X cc nL own mn pc (op_cl x nx) := by
  subst hn
  intro d l p e R s m args below meth c n0 ad0 Q C hd' Qr Qt B L S h h1 h2 ad ls H locs r
  exact lv_lconst B.1 B.2.1 hd hx (h2 ad ls H locs (r.push trivial))
theorem sd_null {nx : Nat} (hd : decode cc pc = .ok (.aconst_null, 1)) (hn : pc + 1 = nx) : rt_Sd X cc nL own mn pc (op_cn nx) := by
  subst hn
  intro d l p e R s m args below meth c n0 ad0 Q C hd' Qr Qt B L S h h1 h2 ad ls H locs r
  exact lv_null B.1 B.2.1 hd (h2 ad ls H locs (r.push trivial))
theorem sd_ldc {x : Int32} {i nx : Nat} (hd : decode cc pc = .ok (.ldc i, 2)) (hw : Cond.constant own i x ∈ lw_all) (hn : pc + 2 = nx) : rt_Sd X cc nL own mn pc (op_ci x nx) := by
  subst hn
  intro d l p e R s m args below meth c n0 ad0 Q C hd' Qr Qt B L S h h1 h2 ad ls H locs r
  exact lv_ldc B.1 B.2.1 B.2.2.2.1 (B.2.2.2.2.1 _ hw) hd (h2 ad ls H locs (r.push trivial))
theorem sd_ldcw {x : Int32} {i nx : Nat} (hd : decode cc pc = .ok (.ldc_w i, 3)) (hw : Cond.constant own i x ∈ lw_all) (hn : pc + 3 = nx) : rt_Sd X cc nL own mn pc (op_ci x nx) := by
  subst hn
  intro d l p e R s m args below meth c n0 ad0 Q C hd' Qr Qt B L S h h1 h2 ad ls H locs r
  exact lv_ldcw B.1 B.2.1 B.2.2.2.1 (B.2.2.2.2.1 _ hw) hd (h2 ad ls H locs (r.push trivial))
theorem sd_ldc2 {x : Int64} {i nx : Nat} (hd : decode cc pc = .ok (.ldc2_w i, 3)) (hw : Cond.constantLong own i x ∈ lw_all) (hn : pc + 3 = nx) : rt_Sd X cc nL own mn pc (op_cl x nx) := by
  subst hn
  intro d l p e R s m args below meth c n0 ad0 Q C hd' Qr Qt B L S h h1 h2 ad ls H locs r
  exact lv_ldc2 B.1 B.2.1 B.2.2.2.1 (B.2.2.2.2.1 _ hw) hd (h2 ad ls H locs (r.push trivial))
theorem sd_go {t : Nat} {off : Int} (hd : decode cc pc = .ok (.goto off, 3)) (ht : (pc : Int) + off = (t : Int)) : rt_Sd X cc nL own mn pc (op_go t) := by
  intro d l p e R s m args below meth c n0 ad0 Q C hd' Qr Qt B L S h h1 h2 ad ls H locs r
  exact lv_goto B.1 B.2.1 hd ht (h2 ad ls H locs r)
end G
end SND1
