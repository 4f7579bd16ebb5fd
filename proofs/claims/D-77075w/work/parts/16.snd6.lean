/-! ===== the abstract machine against the JVM: frames closed, handlers, contracts by depth ===== -/
section SND6
/-- where a throw goes: rows (from, to, kind, behind the handler's store, its local) -/
def rt_hdl : List (Nat × Nat × Nat × Nat × Nat) → Nat → Nat → Option (Nat × Nat)
  | [], _, _ => none
  | q :: r, pc, k => if q.1 ≤ pc ∧ pc < q.2.1 then (if k = q.2.2.1 then some (q.2.2.2.1, q.2.2.2.2) else if q.2.2.1 = 2 ∧ k = 3 then rt_hdl r pc k else some (9999, 0)) else rt_hdl r pc k
/-- the rows are the table's -/
def rt_mt (own : String) (cc : ByteArray) (nL : Nat) : List (Nat × Nat × Nat × Nat × Nat) → List (Nat × Nat × Nat × Nat) → Prop
  | [], [] => True
  | q :: r, x :: t => (q.1 = x.1 ∧ q.2.1 = x.2.1 ∧ x.2.2.2 ≠ 0 ∧ q.2.2.2.2 < nL ∧ (∃ nm : String, Cond.classLink own x.2.2.2 nm ∈ lw_all ∧ Cond.castable (rt_xn q.2.2.1) nm ∈ lw_tbl ∧ (q.2.2.1 = 2 → nm = "java/lang/NullPointerException")) ∧
      ((decode cc x.2.2.1 = .ok (.astore q.2.2.2.2, 2) ∧ q.2.2.2.1 = x.2.2.1 + 2) ∨ (∃ kk : Fin 4, decode cc x.2.2.1 = .ok (.astore_n kk, 1) ∧ (kk : Nat) = q.2.2.2.2 ∧ q.2.2.2.1 = x.2.2.1 + 1))) ∧ rt_mt own cc nL r t
  | _, _ => False
section G
variable {X : rt_X} {Y : Nat → rt_Y} {cc : ByteArray} {nL : Nat} {own mn : String} {d : Nat} {l : Launch} {p : Program} {e : Env} {R : Room} {s : State} {m : MethodId} {args : Array Value} {below : List Frame} {meth : Method} {c : Code} {n0 : Nat} {ad0 : Nat → Nat} {Q : State → Prop} {ret : Option FieldType} {pc : Nat}
theorem rt_tightX {H : Heap} {locs : List Loc} {cells slots : Nat} {g : JFrame} {q : Addr} (hz : (rx_H X).size ≤ s.heap.size) (k : rt_xW X p l e R s m args below meth c Q H locs g q) : vx_W p l e R s m args below meth c H locs cells slots Q g q := by
  intro T hT X0
  refine k T hT ?_
  obtain ⟨q1, q2, q3, q4, q5, q6⟩ := X0.same
  have hh : (T.setVm s.vm).heap = H := hT
  rw [hh] at q2 q3 q4 q5 q6
  have hsum := rt_ss_old (z := (rx_H X).size) hz q2 (fun a c hc => by
    obtain ⟨c', h1, -, h3, -⟩ := q6 a c hc
    exact ⟨c', h1, h3⟩)
  refine { X0 with same := ⟨q1, by rw [hh]; exact q2, by rw [hh]; omega, by rw [hh]; exact q4, ?_, by rw [hh]; exact q6⟩ }
  rw [hh]
  show rt_ss s.heap.size H ≤ _
  rw [hsum]; omega
/-- what the frame's end says, of a heap that lies as it should -/
theorem rt_Rel.end {L S : List Value} {h : rt_H} {ad : Nat → Nat} {ls : Array Slot} {H : Heap} {locs : List Loc} (r : rt_Rel X nL s n0 ad0 L S h ad ls H locs) {t : State} (ht : t.heap = H) : rt_End X n0 ad0 s t ad h := by
  subst ht
  exact ⟨r.1, r.2.1.1, r.2.1.2.1, ⟨r.2.2.1.1, r.2.2.1.2.1⟩, r.2.1.2.2⟩
theorem rt_Rel.cnt {L S : List Value} {h : rt_H} {ad : Nat → Nat} {ls : Array Slot} {H : Heap} {locs : List Loc} (r : rt_Rel X nL s n0 ad0 L S h ad ls H locs) : H.size - s.heap.size ≤ 1200144 + (rx_H X).size - s.heap.size ∧ rt_ss (rx_H X).size H - rt_ss (rx_H X).size s.heap ≤ 5497210 - rt_ss (rx_H X).size s.heap := by
  have h1 := r.1.2.2.2.2.2.2.1
  have h2 := h1.2.2
  unfold rt_bud at h2
  omega
abbrev rt_mq (X : rt_X) (n0 : Nat) (ad0 : Nat → Nat) (Qr : rt_Qr) (Qt : rt_Qt) (below : List Frame) (args : Array Value) (s : State) : State → Prop := vx_MQ below (rt_Qc X n0 ad0 Qr) (rt_Xc X n0 ad0 Qt) args s (1200144 + (rx_H X).size - s.heap.size) (5497210 - rt_ss (rx_H X).size s.heap) (rt_fr X)
theorem rt_Rt_of {Qr : rt_Qr} {Qt : rt_Qt} (B : rt_Bd X cc nL own mn d l p R s m args meth c) (hr : meth.sig.returnType = ret) : rt_Rt X nL p l e R s m args below meth c n0 ad0 (rt_mq X n0 ad0 Qr Qt below args s) cc ret Qr := by
  intro ad h H locs L ls pc v hQ r hv hrd
  have hlk := B.2.2.2.2.2.2.2.1
  have hfin : ∀ t : State, t.heap = H → s.WarmedH t.vm → rt_Qc X n0 ad0 Qr args s (.returned (v.map (rt_tr ad))) t := fun t ht _ => ⟨ad, v, h, rfl, r.end ht, hv, hQ⟩
  have hcnt := r.cnt
  intro T hT X0
  have X1 := stand_widen X0 hcnt.1 hcnt.2
  match v, hrd, hfin with
  | none, hrd, hfin => exact vx_ret (W.vret B.1 B.2.1 (hr.trans hrd.2) hfin r.2.2.1.2.2 hrd.1 hlk) T hT X1
  | some (.int x), hrd, hfin =>
    obtain ⟨h1, ty, h2, h3⟩ := hrd
    exact vx_ret (W.zret B.1 B.2.1 (hr.trans h2) h3 hfin r.2.2.1.2.2 h1 hlk) T hT X1
  | some (.long x), hrd, hfin => exact vx_ret (W.lret B.1 B.2.1 (hr.trans hrd.2) hfin r.2.2.1.2.2 hrd.1 hlk) T hT X1
  | some .null, hrd, hfin =>
    obtain ⟨h1, ⟨ty, h2, h3⟩, -⟩ := hrd
    exact vx_ret (W.aret B.1 B.2.1 (hr.trans h2) h3 (Or.inl rfl) hfin r.2.2.1.2.2 h1 hlk) T hT X1
  | some (.ref a), hrd, hfin =>
    obtain ⟨h1, ⟨ty, h2, h3⟩, -⟩ := hrd
    exact vx_ret (W.aret B.1 B.2.1 (hr.trans h2) h3 (Or.inr ⟨_, rfl⟩) hfin r.2.2.1.2.2 h1 hlk) T hT X1
  | some (.float a), hrd, _ => rcases hrd.2.2 with h | ⟨a, h⟩ <;> cases h
  | some (.double a), hrd, _ => rcases hrd.2.2 with h | ⟨a, h⟩ <;> cases h
  | some (.retAddr a), hrd, _ => rcases hrd.2.2 with h | ⟨a, h⟩ <;> cases h
theorem rt_Rel.kill {L S : List Value} {h : rt_H} {ad : Nat → Nat} {ls ls' : Array Slot} {H : Heap} {locs : List Loc} {i : Nat} {w : Value} (q : rt_Rel X nL s n0 ad0 L S h ad ls H locs) (hl : lv_has ls' nL ((i, w) :: (rt_lv ad L).filter (fun q => !(q.1 == i) && !(q.1 + 1 == i && q.2.category == 2)))) : rt_Rel X nL s n0 ad0 (lk_s L i lk_u) [] h ad ls' H locs := by
  have hl' : lv_has ls' nL ((rt_lv ad L).filter (fun q => !(q.1 == i) && !(q.1 + 1 == i && q.2.category == 2))) := ⟨hl.1, hl.2.1, fun z hz => hl.2.2 z (List.mem_cons_of_mem _ hz)⟩
  refine ⟨q.1, q.2.1, q.2.2.1, by rw [lk_s_len]; exact q.2.2.2.1, fun w hw => ?_, fun w hw => absurd hw List.not_mem_nil, hl'.1, hl'.2.1, fun z hz => ?_⟩
  · rcases lk_s_mem hw with e | e | e
    · rw [e]; trivial
    · exact q.2.2.2.2.1 w e
    · rw [e]; trivial
  · obtain ⟨j, w⟩ := z
    obtain ⟨v, h1, h2, h3⟩ := rt_lv_mem.mp hz
    rcases lk_s_get L i lk_u j v h1 h2 with ⟨-, e⟩ | ⟨e1, e2, e3⟩
    · subst e; cases h2
    · refine hl'.2.2 _ (List.mem_filter.mpr ⟨rt_lv_mem.mpr ⟨v, e2, h2, h3⟩, ?_⟩)
      have h5 : ∀ b, v ≠ .double b := fun b hb => by
        have := q.nd v (List.mem_of_getElem? e2) b
        exact this hb
      show (!(j == i) && !(j + 1 == i && w.category == 2)) = true
      have h6 : (j == i) = false := by simpa using e1
      rw [h6]
      by_cases h7 : j + 1 = i
      · have h8 := e3 h7
        have h9 : w.category = 1 := by
          rw [h3, rt_tr_cat]
          cases v <;> first | rfl | (cases h8; done) | exact absurd rfl (h5 _)
        simp [h9]
      · have : (j + 1 == i) = false := by simpa using h7
        rw [this]; rfl
theorem rt_hdl_ok {Qt : rt_Qt} {Qr : rt_Qr} (B : rt_Bd X cc nL own mn d l p R s m args meth c) {ad : Nat → Nat} {h : rt_H} {H : Heap} {locs : List Loc} {L S : List Value} {ls : Array Slot} {rest : List Value} {pc k a : Nat} {q : Addr} {ce : Cell} (r : rt_Rel X nL s n0 ad0 L S h ad ls H locs) (hce : H[q]? = some ce) (hvm : ce.vm = .none) (hcl : s.vm.findClass (rt_xn k) = some ce.cls) (hk : k = 0 → q = ad a ∧ a < hp_n h) :
    ∀ (rows : List (Nat × Nat × Nat × Nat × Nat)) (hh : List (Nat × Nat × Nat × Nat)) (pre : List ExceptionTableEntry), rt_mt own cc nL rows hh → c.exceptionTable.toList = pre ++ tableOf hh → (∀ z ∈ pre, covers z pc = false ∨ (z.catchType ≠ 0 ∧ ∃ nm : String, (Cond.classLink own z.catchType nm).before args s = true ∧ va_Nc (rt_xn k) nm s)) →
    rt_hd (rt_hdl rows) Qt (rt_J X nL p l e R s m args below meth c n0 ad0 (rt_mq X n0 ad0 Qr Qt below args s)) pc L k a h → rt_xW X p l e R s m args below meth c (rt_mq X n0 ad0 Qr Qt below args s) H locs (F0 m pc ls rest) q
  | [], [], pre, _, ht, hp, hJ => by
    have ht' : c.exceptionTable.toList = pre := by rw [ht]; exact List.append_nil _
    have hQ : Qt k a h := hJ
    have hcnt := r.cnt
    intro T hT X0
    exact vx_outP B.2.2.2.1 B.2.2.2.2.2.2.2.1 (by rw [ht']; exact hp) hce hvm hcl (fun t ht2 _ => ⟨ad, k, a, h, rfl, hk, r.end ht2, hQ⟩) r.2.2.1.2.2 (Nat.le_refl _) (Nat.le_refl _) T hT (stand_widen X0 hcnt.1 hcnt.2)
  | [], _ :: _, _, hm, _, _, _ => hm.elim
  | _ :: _, [], _, hm, _, _, _ => hm.elim
  | w :: rows, x :: hh, pre, hm, ht, hp, hJ => by
    obtain ⟨⟨m1, m2, m3, m4, ⟨nm, m5, m6, m7⟩, m8⟩, hm2⟩ := hm
    have ht2 : c.exceptionTable.toList = pre ++ (⟨x.1, x.2.1, x.2.2.1, x.2.2.2⟩ : ExceptionTableEntry) :: tableOf hh := ht
    have ht3 : c.exceptionTable.toList = (pre ++ [(⟨x.1, x.2.1, x.2.2.1, x.2.2.2⟩ : ExceptionTableEntry)]) ++ tableOf hh := by rw [ht2]; simp
    have hcov : covers (⟨x.1, x.2.1, x.2.2.1, x.2.2.2⟩ : ExceptionTableEntry) pc = decide (w.1 ≤ pc ∧ pc < w.2.1) := by
      rw [m1, m2]
      by_cases h1 : x.1 ≤ pc <;> by_cases h2 : pc < x.2.1 <;> simp [covers, h1, h2]
    by_cases hc : w.1 ≤ pc ∧ pc < w.2.1
    · by_cases hkk : k = w.2.2.1
      · have hhd : rt_hdl (w :: rows) pc k = some (w.2.2.2.1, w.2.2.2.2) := by rw [rt_hdl, if_pos hc, if_pos hkk]
        unfold rt_hd at hJ
        rw [hhd] at hJ
        refine vx_catch B.2.2.2.1 pre _ (tableOf hh) ht2 hp (by rw [hcov]; exact decide_eq_true hc) m3 (B.2.2.2.2.1 _ m5) (name := nm) (E := rt_xn k) ?_ hce hvm hcl ?_
        · rw [hkk]; exact va_Nw.use rfl (B.2.2.2.2.2.1.2.2.1 _ m6 rfl)
        · have hJ2 := hJ.2
          show W p l e R s m args below meth c H locs _ _ _ (F0 m x.2.2.1 ls [.ref q])
          have key : ∀ ls' : Array Slot, lv_has ls' nL ((w.2.2.2.2, Value.ref q) :: (rt_lv ad L).filter (fun z => !(z.1 == w.2.2.2.2) && !(z.1 + 1 == w.2.2.2.2 && z.2.category == 2))) → rt_W X p l e R s m args below meth c (rt_mq X n0 ad0 Qr Qt below args s) H locs (F0 m w.2.2.2.1 ls' []) := by
            intro ls' hl
            by_cases hk0 : k = 0
            · obtain ⟨e1, e2⟩ := hk hk0
              have e3 : rt_x k a = .ref a := by rw [hk0]; rfl
              rw [e3] at hJ2
              refine hJ2 ad ls' H locs ((r.stack (S' := []) (fun v hv => absurd hv List.not_mem_nil)).store (v := .ref a) e2 ?_)
              rw [e1] at hl
              exact hl
            · have e3 : rt_x k a = lk_u := by
                unfold rt_x
                have : (k == 0) = false := by simpa using hk0
                rw [this]; rfl
              rw [e3] at hJ2
              exact hJ2 ad ls' H locs (r.kill hl)
          have hi : w.2.2.2.2 < nL := m4
          rcases m8 with ⟨d1, d2⟩ | ⟨kk, d1, d2, d3⟩
          · refine lv_astore B.1 B.2.1 d1 r.2.2.2.2.2.2 hi rfl fun ls' hl => ?_
            have := key ls' hl
            rw [d2] at this
            exact this
          · refine lv_astore_n B.1 B.2.1 d1 d2 r.2.2.2.2.2.2 hi rfl fun ls' hl => ?_
            have := key ls' hl
            rw [d3] at this
            exact this
      · by_cases h23 : w.2.2.1 = 2 ∧ k = 3
        · have hhd : rt_hdl (w :: rows) pc k = rt_hdl rows pc k := by rw [rt_hdl, if_pos hc, if_neg hkk, if_pos h23]
          refine rt_hdl_ok B r hce hvm hcl hk rows hh _ hm2 ht3 (fun z hz => ?_) ?_
          · rcases List.mem_append.mp hz with hz | hz
            · exact hp z hz
            · rw [List.mem_singleton.mp hz]
              refine Or.inr ⟨m3, nm, B.2.2.2.2.1 _ m5, ?_⟩
              rw [h23.2, m7 h23.1]
              exact B.2.2.2.2.2.1.2.2.2.2.2.1
          · unfold rt_hd at hJ ⊢
            rw [hhd] at hJ
            exact hJ
        · have hhd : rt_hdl (w :: rows) pc k = some (9999, 0) := by rw [rt_hdl, if_pos hc, if_neg hkk, if_neg h23]
          unfold rt_hd at hJ
          rw [hhd] at hJ
          exact absurd hJ.1 (Nat.lt_irrefl _)
    · have hhd : rt_hdl (w :: rows) pc k = rt_hdl rows pc k := by rw [rt_hdl, if_neg hc]
      refine rt_hdl_ok B r hce hvm hcl hk rows hh _ hm2 ht3 (fun z hz => ?_) ?_
      · rcases List.mem_append.mp hz with hz | hz
        · exact hp z hz
        · rw [List.mem_singleton.mp hz]
          exact Or.inl (by rw [hcov]; exact decide_eq_false hc)
      · unfold rt_hd at hJ ⊢
        rw [hhd] at hJ
        exact hJ
theorem rt_Th_of {Qr : rt_Qr} {Qt : rt_Qt} (B : rt_Bd X cc nL own mn d l p R s m args meth c) {rows : List (Nat × Nat × Nat × Nat × Nat)} {hh : List (Nat × Nat × Nat × Nat)} (hm : rt_mt own cc nL rows hh) (ht : c.exceptionTable.toList = tableOf hh) : rt_Th X nL p l e R s m args below meth c n0 ad0 (rt_mq X n0 ad0 Qr Qt below args s) (rt_hdl rows) Qt := by
  intro ad h H locs L S ls rest pc k a q ce r hce hvm hcl hk hJ
  exact rt_hdl_ok B r hce hvm hcl hk rows hh [] hm ht (fun z hz => absurd hz List.not_mem_nil) hJ
end G
end SND6
