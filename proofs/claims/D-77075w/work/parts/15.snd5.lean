/-! ===== the abstract machine against the JVM: contracts, returns, throws ===== -/
section SND5
/-- the classes of what is thrown -/
def rt_xn : Nat → String | 0 => "RoomTrees$Fault" | 1 => "java/lang/ArithmeticException" | 2 => "java/lang/NullPointerException" | 3 => "java/lang/ArrayIndexOutOfBoundsException" | _ => "java/lang/NegativeArraySizeException"
/-- a method: its name, code, locals, answer, table, number of what comes in -/
abbrev rt_Y : Type := MethodName × ByteArray × Nat × Option FieldType × List (Nat × Nat × Nat × Nat)
def rt_yw (y : rt_Y) : Cond := match y.2.2.2.2 with | [] => .code y.1 y.2.1 y.2.2.1 y.2.2.2.1 | q :: r => .codeWith y.1 y.2.1 y.2.2.1 y.2.2.2.1 (q :: r)
def rt_ws (y : rt_Y) : List Cond := rt_yw y :: lw_all
/-- what a run leaves: the heap lies at addresses that go on from the old ones -/
def rt_End (X : rt_X) (n0 : Nat) (ad0 : Nat → Nat) (st t : State) (ad : Nat → Nat) (h : rt_H) : Prop :=
  rt_HR X ad h t.heap ∧ n0 ≤ hp_n h ∧ (∀ k, k < n0 → ad k = ad0 k) ∧ va_F (rt_fr X) st t ∧ rt_ss (rx_H X).size st.heap ≤ rt_ss (rx_H X).size t.heap
def rt_Pc (X : rt_X) (as : List Value) (h : rt_H) (ad : Nat → Nat) (N M : Nat) : Array Value → State → Prop := fun a U =>
  a = (as.map (rt_tr ad)).toArray ∧ rt_HR X ad h U.heap ∧ (∀ v ∈ as, rt_vn (hp_n h) v) ∧ U.heap.size = N ∧ rt_ss (rx_H X).size U.heap = M ∧ rt_env X U
def rt_Qc (X : rt_X) (n0 : Nat) (ad0 : Nat → Nat) (Qr : rt_Qr) : Array Value → State → Outcome → State → Prop := fun _ st o t =>
  ∃ (ad : Nat → Nat) (v : Option Value) (h : rt_H), o = .returned (v.map (rt_tr ad)) ∧ rt_End X n0 ad0 st t ad h ∧ (∀ w, v = some w → rt_vn (hp_n h) w) ∧ Qr v h
def rt_Xc (X : rt_X) (n0 : Nat) (ad0 : Nat → Nat) (Qt : rt_Qt) : Addr → String → State → State → Prop := fun q E st t =>
  ∃ (ad : Nat → Nat) (k a : Nat) (h : rt_H), E = rt_xn k ∧ (k = 0 → q = ad a ∧ a < hp_n h) ∧ rt_End X n0 ad0 st t ad h ∧ Qt k a h
def rt_rm (X : rt_X) (d N M : Nat) : Room := { frames := d + 19, cells := 1200144 + (rx_H X).size - N, slots := 5497210 - M, locals := 60 * d + 10340 }
/-- the methods that may be called, by their contracts -/
def rt_Cs (X : rt_X) (l : Launch) (Y : Nat → rt_Y) (C : rt_Ca) (d : Nat) : Prop := ∀ (m : Nat) (as : List Value) (h : rt_H) (Qr : rt_Qr) (Qt : rt_Qt), C m as h Qr Qt → ∀ (ad : Nat → Nat) (N M : Nat),
  vx_Met l (Y m).1 (rt_ws (Y m)) (rt_rm X d N M) (rt_Pc X as h ad N M) (rt_Qc X (hp_n h) ad Qr) (rt_Xc X (hp_n h) ad Qt) (1200144 + (rx_H X).size - N) (5497210 - M) (rt_fr X)
theorem rt_warm_self (U V : State) (h : V.vm = U.vm) : U.WarmedH V.vm := by
  rw [h]
  exact State.WarmedH.refl U
theorem rt_blind {X : rt_X} {as : List Value} {h : rt_H} {ad : Nat → Nat} {N M : Nat} : FrameBlind (rt_Pc X as h ad N M) := by
  intro a U g mk ⟨h1, h2, h3, h4, h5, h6⟩
  exact ⟨h1, h2, h3, h4, h5, h6.warm (rt_warm_self U _ rfl)⟩
section F
variable (X : rt_X) (nL : Nat) (p : Program) (l : Launch) (e : Env) (R : Room) (s : State) (m : MethodId) (args : Array Value) (below : List Frame) (meth : Method) (c : Code) (n0 : Nat) (ad0 : Nat → Nat) (Q : State → Prop)
/-- what an answer's instruction asks -/
def rt_rd (cc : ByteArray) (pc : Nat) (ret : Option FieldType) : Option Value → Prop
  | none => decode cc pc = .ok (.return_, 1) ∧ ret = none
  | some (.int x) => decode cc pc = .ok (.ireturn, 1) ∧ ∃ ty, ret = some ty ∧ narrow ty (.int x) = .int x
  | some (.long _) => decode cc pc = .ok (.lreturn, 1) ∧ ret = some .long
  | some v => decode cc pc = .ok (.areturn, 1) ∧ (∃ ty, ret = some ty ∧ ((∃ n, ty = .object n) ∨ ∃ t, ty = .array t)) ∧ (v = .null ∨ ∃ a, v = .ref a)
/-- the frame may return what Qr says -/
def rt_Rt (cc : ByteArray) (ret : Option FieldType) (Qr : rt_Qr) : Prop := ∀ (ad : Nat → Nat) (h : rt_H) (H : Heap) (locs : List Loc) (L : List Value) (ls : Array Slot) (pc : Nat) (v : Option Value), Qr v h → rt_Rel X nL s n0 ad0 L [] h ad ls H locs → (∀ w, v = some w → rt_vn (hp_n h) w) → rt_rd cc pc ret v → rt_W X p l e R s m args below meth c Q H locs (F0 m pc ls (v.map (rt_tr ad)).toList)
def rt_xW (H : Heap) (locs : List Loc) (g : JFrame) (q : Addr) : Prop := vx_W p l e R s m args below meth c H locs (H.size - s.heap.size) (rt_ss (rx_H X).size H - rt_ss (rx_H X).size s.heap) Q g q
/-- what is thrown goes where hd says -/
def rt_Th (hd : Nat → Nat → Option (Nat × Nat)) (Qt : rt_Qt) : Prop := ∀ (ad : Nat → Nat) (h : rt_H) (H : Heap) (locs : List Loc) (L S : List Value) (ls : Array Slot) (rest : List Value) (pc k a : Nat) (q : Addr) (ce : Cell), rt_Rel X nL s n0 ad0 L S h ad ls H locs → H[q]? = some ce → ce.vm = .none → s.vm.findClass (rt_xn k) = some ce.cls → (k = 0 → q = ad a ∧ a < hp_n h) →
  rt_hd hd Qt (rt_J X nL p l e R s m args below meth c n0 ad0 Q) pc L k a h → rt_xW X p l e R s m args below meth c Q H locs (F0 m pc ls rest) q
end F
/-- an instruction of the abstract machine is what the code has at pc: calls, returns, throws too -/
def rt_Sc (X : rt_X) (Y : Nat → rt_Y) (cc : ByteArray) (nL : Nat) (own mn : String) (ret : Option FieldType) (pc : Nat) (o : rt_Op) : Prop :=
  ∀ {d : Nat} {l : Launch} {p : Program} {e : Env} {R : Room} {s : State} {m : MethodId} {args : Array Value} {below : List Frame} {meth : Method} {c : Code} {n0 : Nat} {ad0 : Nat → Nat} {Q : State → Prop} {C : rt_Ca} {hd : Nat → Nat → Option (Nat × Nat)} {Qr : rt_Qr} {Qt : rt_Qt},
    rt_Bd X cc nL own mn d l p R s m args meth c → rt_Cs X l Y C d → rt_Rt X nL p l e R s m args below meth c n0 ad0 Q cc ret Qr → rt_Th X nL p l e R s m args below meth c n0 ad0 Q hd Qt → (own = "java/lang/Math" → hd = fun _ _ => none) → ∀ {L S : List Value} {h : rt_H}, (o L S h).1 → rt_out C hd Qr Qt (rt_J X nL p l e R s m args below meth c n0 ad0 Q) pc L (o L S h).2 → rt_J X nL p l e R s m args below meth c n0 ad0 Q pc L S h
theorem rt_Sc.of {X : rt_X} {Y : Nat → rt_Y} {cc : ByteArray} {nL : Nat} {own mn : String} {ret : Option FieldType} {pc : Nat} {o : rt_Op} (h : rt_Sd X cc nL own mn pc o) : rt_Sc X Y cc nL own mn ret pc o := fun B _ _ _ _ => h B
section G
variable {X : rt_X} {Y : Nat → rt_Y} {cc : ByteArray} {nL : Nat} {own mn : String} {d : Nat} {l : Launch} {p : Program} {e : Env} {R : Room} {s : State} {m : MethodId} {args : Array Value} {below : List Frame} {meth : Method} {c : Code} {n0 : Nat} {ad0 : Nat → Nat} {Q : State → Prop} {ret : Option FieldType} {pc : Nat}
theorem sc_stuck : rt_Sc X Y cc nL own mn ret pc op_stuck := fun _ _ _ _ _ _ _ _ h => h.elim
theorem sc_ret (hd : decode cc pc = .ok (.return_, 1)) (hr : ret = none) : rt_Sc X Y cc nL own mn ret pc op_ret := by
  intro d l p e R s m args below meth c n0 ad0 Q C hd' Qr Qt B hC hR hT hM L S h h1 h2 ad ls H locs r
  have hS : S = [] := h1
  subst hS
  exact hR ad h H locs L ls pc none h2 r (fun w e => by cases e) ⟨hd, hr⟩
theorem sc_ireturn {ty : Nat} (hd : decode cc pc = .ok (.ireturn, 1)) (hr : (ty = 0 ∧ ret = some .int) ∨ (ty = 3 ∧ ret = some .boolean)) : rt_Sc X Y cc nL own mn ret pc (op_retv ty) := by
  intro d l p e R s m args below meth c n0 ad0 Q C hd' Qr Qt B hC hR hT hM L S h h1 h2 ad ls H locs r
  match S, h1, h2, r with
  | v :: S, h1, h2, r =>
    have hS : S = [] := h1.2
    subst hS
    have hv : v = .int (rv_i v) := by
      rcases hr with ⟨rfl, -⟩ | ⟨rfl, -⟩
      · exact rp_i_e h1.1
      · exact rp_i_e h1.1.1
    have hk := r.head
    refine hR ad h H locs L ls pc (some v) h2 r.tail (fun w e => by cases e; exact hk) ?_
    rw [hv]
    rcases hr with ⟨rfl, q⟩ | ⟨rfl, q⟩
    · exact ⟨hd, .int, q, rfl⟩
    · refine ⟨hd, .boolean, q, ?_⟩
      rcases h1.1.2 with e | e <;> rw [e] <;> rfl
theorem sc_lreturn (hd : decode cc pc = .ok (.lreturn, 1)) (hr : ret = some .long) : rt_Sc X Y cc nL own mn ret pc (op_retv 1) := by
  intro d l p e R s m args below meth c n0 ad0 Q C hd' Qr Qt B hC hR hT hM L S h h1 h2 ad ls H locs r
  match S, h1, h2, r with
  | v :: S, h1, h2, r =>
    have hS : S = [] := h1.2
    subst hS
    obtain ⟨x, rfl⟩ : ∃ x, v = .long x := ⟨_, rp_l_e h1.1⟩
    exact hR ad h H locs L ls pc (some (.long x)) h2 r.tail (fun w e => by cases e; trivial) ⟨hd, hr⟩
theorem sc_areturn {ty : FieldType} (hd : decode cc pc = .ok (.areturn, 1)) (hr : ret = some ty) (hty : (∃ n, ty = .object n) ∨ ∃ t, ty = .array t) : rt_Sc X Y cc nL own mn ret pc (op_retv 2) := by
  intro d l p e R s m args below meth c n0 ad0 Q C hd' Qr Qt B hC hR hT hM L S h h1 h2 ad ls H locs r
  match S, h1, h2, r with
  | v :: S, h1, h2, r =>
    have hS : S = [] := h1.2
    subst hS
    have hk := r.head
    refine hR ad h H locs L ls pc (some v) h2 r.tail (fun w e => by cases e; exact hk) ?_
    rcases rp_a_e h1.1 with e | e <;> rw [e]
    · exact ⟨hd, ⟨ty, hr, hty⟩, Or.inl rfl⟩
    · exact ⟨hd, ⟨ty, hr, hty⟩, Or.inr ⟨_, rfl⟩⟩
/-- throw of a Fault -/
theorem sc_athrow (hd : decode cc pc = .ok (.athrow, 1)) : rt_Sc X Y cc nL own mn ret pc (op_athrow 12) := by
  intro d l p e R s m args below meth c n0 ad0 Q C hd' Qr Qt B hC hR hT hM L S h h1 h2 ad ls H locs r
  match S, h1, h2, r with
  | v :: S, h1, h2, r =>
    obtain ⟨a, rfl⟩ : ∃ a, v = .ref a := ⟨_, rp_r_e h1.1⟩
    obtain ⟨cell, q1, q2, q3⟩ := rt_recv B.2.2.2.2.2.1 r.1 (t := 12) h1.2 rfl
    have hob := (rt_obj r.1 (t := 12) h1.2 rfl)
    obtain ⟨h0, ha, cell', q1', q2', q3', -⟩ := hob
    cases q1.symm.trans q1'
    exact vx_athrow B.1 B.2.1 hd (hT ad h H locs L _ ls _ pc 0 a _ cell r q1 q3' q3 (fun _ => ⟨rfl, ha⟩) h2)
end G
end SND5
