/-! ===== the abstract machine against the JVM: the calls as instructions ===== -/
section SND10
section G
variable {X : rt_X} {Y : Nat → rt_Y} {cc : ByteArray} {nL : Nat} {own mn : String} {d : Nat} {l : Launch} {p : Program} {e : Env} {R : Room} {s : State} {m : MethodId} {args : Array Value} {below : List Frame} {meth : Method} {c : Code} {n0 : Nat} {ad0 : Nat → Nat} {Q : State → Prop} {ret : Option FieldType} {pc : Nat}
theorem rt_preS (B : rt_Bd X cc nL own mn d l p R s m args meth c) {L S as : List Value} {h : rt_H} {ad : Nat → Nat} {ls : Array Slot} {H : Heap} {locs : List Loc} (r : rt_Rel X nL s n0 ad0 L S h ad ls H locs) (has : ∀ v ∈ as, v ∈ S) : PreS s H (rt_Pc X as h ad H.size (rt_ss (rx_H X).size H)) (as.map (rt_tr ad)) := by
  refine ⟨rt_blind, fun U hU hW => ?_⟩
  subst hU
  exact ⟨rfl, r.1, fun v hv => r.2.2.2.2.2.1 v (has v hv), rfl, rfl, B.2.2.2.2.2.1.warm hW⟩
theorem rt_cells (B : rt_Bd X cc nL own mn d l p R s m args meth c) {L S : List Value} {h : rt_H} {ad : Nat → Nat} {ls : Array Slot} {H : Heap} {locs : List Loc} (r : rt_Rel X nL s n0 ad0 L S h ad ls H locs) : H.size - s.heap.size + (1200144 + (rx_H X).size - H.size) ≤ R.cells ∧ rt_ss (rx_H X).size H - rt_ss (rx_H X).size s.heap + (5497210 - rt_ss (rx_H X).size H) ≤ R.slots := by
  have h1 := B.2.2.2.2.2.2.2.2.1
  have h2 := r.1.2.2.2.2.2.2.1
  have h3 := h2.2.2
  have h6 := r.2.1.2.2
  have h7 := r.2.2.1.1
  have h5 := B.2.2.2.2.2.2.1.1
  unfold rt_bud at h3
  omega
theorem rt_S_split {n : Nat} {S : List Value} (f : Value → Value) : S.map f = (((S.take n).reverse).map f).reverse ++ (S.drop n).map f := by
  rw [List.map_reverse, List.reverse_reverse, ← List.map_append, List.take_append_drop]
theorem sc_call {k nx : Nat} {ts : List Nat} (hw : rt_WS X Y cc nL own pc k ts.length) (hn : pc + 3 = nx) : rt_Sc X Y cc nL own mn ret pc (op_call k ts nx) := by
  subst hn
  intro d l p e R s m args below meth c n0 ad0 Q C hd' Qr Qt B hC hR hT hM L S h h1 h2 ad ls H locs r
  have hrest : ∀ v ∈ S.drop ts.length, rt_vn (hp_n h) v := fun v hv => r.2.2.2.2.2.1 v (List.mem_of_mem_drop hv)
  have hMC := hC k _ h _ _ h2 ad H.size (rt_ss (rx_H X).size H)
  have hp := rt_preS B r (as := (S.take ts.length).reverse) (fun v hv => List.mem_of_mem_take (List.mem_reverse.mp hv))
  rw [rt_S_split (n := ts.length) (rt_tr ad)]
  refine rt_run B hT r hrest (hw B hMC hp ?_ r.2.2.2.2.2.2.1 ?_ (rt_cells B r))
  · rw [List.length_map, List.length_reverse, List.length_take]
    exact Nat.min_eq_left h1.1
  · rw [rt_cw_sum hrest]; exact h1.2
theorem rt_S_at {n : Nat} : ∀ {S : List Value}, n + 1 ≤ S.length → S = S.take n ++ S.getD n lk_u :: S.drop (n + 1) := by
  intro S h
  have hlt : n < S.length := h
  have e : S.getD n lk_u = S[n] := by simp [List.getD_eq_getElem?_getD, hlt]
  rw [e, ← List.drop_eq_getElem_cons hlt, List.take_append_drop]
theorem rt_S_rev {n : Nat} {S : List Value} (h : n + 1 ≤ S.length) : (S.take (n + 1)).reverse = S.getD n lk_u :: (S.take n).reverse := by
  have hlt : n < S.length := h
  have e : S.getD n lk_u = S[n] := by simp [List.getD_eq_getElem?_getD, hlt]
  rw [e, List.take_succ_eq_append_getElem hlt, List.reverse_append]
  rfl
theorem rt_vl_in : ∀ {vt : List (Nat × Nat)} {t : Nat}, t ∈ vt.map Prod.fst → (t, rt_vl vt t) ∈ vt
  | [], _, h => absurd h List.not_mem_nil
  | q :: r, t, h => by
    by_cases e : t = q.1
    · have : rt_vl (q :: r) t = q.2 := by rw [rt_vl, if_pos e]
      rw [this, e]
      exact List.mem_cons_self
    · have : rt_vl (q :: r) t = rt_vl r t := by rw [rt_vl, if_neg e]
      rw [this]
      rw [List.map_cons] at h
      rcases List.mem_cons.mp h with h | h
      · exact absurd h e
      · exact List.mem_cons_of_mem _ (rt_vl_in h)
/-- the receiver, and what lies on the stack -/
theorem rt_recvS (B : rt_Bd X cc nL own mn d l p R s m args meth c) {n : Nat} {L S : List Value} {h : rt_H} {ad : Nat → Nat} {ls : Array Slot} {H : Heap} {locs : List Loc} {vt : List (Nat × Nat)} (r : rt_Rel X nL s n0 ad0 L S h ad ls H locs) (hl : n + 1 ≤ S.length) (hr : rp_r (S.getD n lk_u)) (ht : hp_t h (rv_a (S.getD n lk_u)) ∈ vt.map Prod.fst) (hcl : ∀ t ∈ vt.map Prod.fst, (rt_cl[t]?).isSome = true) :
    S.map (rt_tr ad) = (((S.take n).reverse).map (rt_tr ad)).reverse ++ .ref (ad (rv_a (S.getD n lk_u))) :: (S.drop (n + 1)).map (rt_tr ad) ∧
    ((S.take (n + 1)).reverse).map (rt_tr ad) = .ref (ad (rv_a (S.getD n lk_u))) :: ((S.take n).reverse).map (rt_tr ad) ∧
    (∃ (q : vw_C) (cellB : Cell), rt_cl[hp_t h (rv_a (S.getD n lk_u))]? = some q ∧ H[ad (rv_a (S.getD n lk_u))]? = some cellB ∧ cellB.vm.isStatics = false ∧ s.vm.findClass q.1 = some cellB.cls) := by
  have e1 := rp_r_e hr
  refine ⟨?_, ?_, ?_⟩
  · conv => lhs; rw [rt_S_at hl]
    rw [List.map_append, List.map_cons, List.map_reverse, List.reverse_reverse]
    have : rt_tr ad (S.getD n lk_u) = .ref (ad (rv_a (S.getD n lk_u))) := by
      conv => lhs; rw [e1]
      rfl
    rw [this]
  · rw [rt_S_rev hl, List.map_cons]
    have : rt_tr ad (S.getD n lk_u) = .ref (ad (rv_a (S.getD n lk_u))) := by
      conv => lhs; rw [e1]
      rfl
    rw [this]
  · obtain ⟨q, hq⟩ := Option.isSome_iff_exists.mp (hcl _ ht)
    obtain ⟨cell, q1, q2, q3⟩ := rt_recv B.2.2.2.2.2.1 r.1 rfl hq
    exact ⟨q, cell, hq, q1, q2, q3⟩
theorem sc_callv {vt : List (Nat × Nat)} {nx : Nat} {ts : List Nat} (hcl : ∀ t ∈ vt.map Prod.fst, (rt_cl[t]?).isSome = true) (hw : ∀ q ∈ vt, rt_WV X Y cc nL own pc q.1 q.2 ts.length) (hn : pc + 3 = nx) : rt_Sc X Y cc nL own mn ret pc (op_callv vt ts nx) := by
  subst hn
  intro d l p e R s m args below meth c n0 ad0 Q C hd' Qr Qt B hC hR hT hM L S h h1 h2 ad ls H locs r
  obtain ⟨g1, g2, g3, g4⟩ := h1
  have hrest : ∀ v ∈ S.drop (ts.length + 1), rt_vn (hp_n h) v := fun v hv => r.2.2.2.2.2.1 v (List.mem_of_mem_drop hv)
  have hMC := hC _ _ h _ _ h2 ad H.size (rt_ss (rx_H X).size H)
  have hp := rt_preS B r (as := (S.take (ts.length + 1)).reverse) (fun v hv => List.mem_of_mem_take (List.mem_reverse.mp hv))
  obtain ⟨k1, k2, k3⟩ := rt_recvS B r g1 g3 g4 hcl
  rw [k1]
  rw [k2] at hp
  refine rt_run B hT r hrest (hw _ (rt_vl_in g4) B hMC hp k3 ?_ r.2.2.2.2.2.2.1 ?_ (rt_cells B r))
  · rw [List.length_map, List.length_reverse, List.length_take]
    exact Nat.min_eq_left (by omega)
  · rw [rt_cw_sum hrest]; exact g2
theorem sc_callf {vt : List (Nat × Nat)} {nx : Nat} {ts : List Nat} (hcl : ∀ t ∈ vt.map Prod.fst, (rt_cl[t]?).isSome = true) (hw : ∀ q ∈ vt, rt_WF X Y cc nL own pc q.1 q.2 ts.length) (hn : pc + 5 = nx) : rt_Sc X Y cc nL own mn ret pc (op_callv vt ts nx) := by
  subst hn
  intro d l p e R s m args below meth c n0 ad0 Q C hd' Qr Qt B hC hR hT hM L S h h1 h2 ad ls H locs r
  obtain ⟨g1, g2, g3, g4⟩ := h1
  have hrest : ∀ v ∈ S.drop (ts.length + 1), rt_vn (hp_n h) v := fun v hv => r.2.2.2.2.2.1 v (List.mem_of_mem_drop hv)
  have hMC := hC _ _ h _ _ h2 ad H.size (rt_ss (rx_H X).size H)
  have hp := rt_preS B r (as := (S.take (ts.length + 1)).reverse) (fun v hv => List.mem_of_mem_take (List.mem_reverse.mp hv))
  obtain ⟨k1, k2, k3⟩ := rt_recvS B r g1 g3 g4 hcl
  rw [k1]
  rw [k2] at hp
  refine rt_run5 B hT r hrest (hw _ (rt_vl_in g4) B hMC hp k3 ?_ r.2.2.2.2.2.2.1 ?_ (rt_cells B r))
  · rw [List.length_map, List.length_reverse, List.length_take]
    exact Nat.min_eq_left (by omega)
  · rw [rt_cw_sum hrest]; exact g2
/-- Object's constructor -/
theorem sc_obj {i nx : Nat} (hd : decode cc pc = .ok (.invokespecial i, 3)) (hl : Cond.methodLink own i Lib.objectInit ∈ lw_all) (hi : Cond.instanceMethod Lib.objectInit ∈ lw_all) (hc : Cond.code Lib.objectInit ⟨#[0xb1]⟩ 1 none ∈ lw_all) (hn : pc + 3 = nx) : rt_Sc X Y cc nL own mn ret pc (op_obj nx) := by
  subst hn
  intro d l p e R s m args below meth c n0 ad0 Q C hd' Qr Qt B hC hR hT hM L S h h1 h2 ad ls H locs r
  match S, h1, h2, r with
  | v :: S, h1, h2, r =>
    obtain ⟨a, rfl⟩ : ∃ a, v = .ref a := ⟨_, rp_r_e h1.1⟩
    have ht := B.2.2.2.2.1
    have hrm := B.2.2.2.2.2.2.2.2.1
    refine W.objInit B.1 B.2.1 B.2.2.2.1 (ht _ hl) (ht _ hi) (ht _ hc) rfl (r.2.2.2.2.2.2.1.trans B.2.2.1.symm) rfl hd (by omega) ?_ (h2 ad ls H locs r.tail)
    rw [rt_cw_sum r.tail.2.2.2.2.2.1]
    have e0 : 2 * (F0 m pc ls ((Value.ref a :: S).map (rt_tr ad))).monitorRoom = 0 := rfl
    rw [e0]
    have := h1.2
    omega
end G
end SND10
