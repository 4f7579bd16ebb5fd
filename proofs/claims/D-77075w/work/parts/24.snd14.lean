/-! ===== the abstract machine against the JVM: arrays of arrays, calls of null, exact arithmetic ===== -/
section SND14
section R
variable {h : rt_H} {t n : Nat}
theorem hp_rows_n : ∀ {k : Nat}, hp_n (hp_rows h t n k) = hp_n h + k
  | 0 => rfl
  | k + 1 => by rw [hp_rows, hp_n_set, hp_n_new, hp_rows_n]; rfl
theorem hp_rows_c : ∀ {k : Nat}, hp_c (hp_rows h t n k) = hp_c h + k
  | 0 => rfl
  | k + 1 => by rw [hp_rows, hp_c_set, hp_c_new, hp_rows_c]; rfl
theorem hp_rows_s : ∀ {k : Nat}, hp_s (hp_rows h t n k) = hp_s h + k * n
  | 0 => by rw [Nat.zero_mul]; rfl
  | k + 1 => by rw [hp_rows, hp_s_set, hp_s_new, hp_rows_s, Nat.succ_mul]; omega
theorem hp_rows_t : ∀ {k x : Nat}, x < hp_n h → hp_t (hp_rows h t n k) x = hp_t h x
  | 0, _, _ => rfl
  | k + 1, x, hx => by rw [hp_rows, hp_t_set, hp_t_new, if_neg (by rw [hp_rows_n]; omega), hp_rows_t hx]
end R
section G
variable {X : rt_X} {Y : Nat → rt_Y} {cc : ByteArray} {nL : Nat} {own mn : String} {d : Nat} {l : Launch} {p : Program} {e : Env} {R : Room} {s : State} {m : MethodId} {args : Array Value} {below : List Frame} {meth : Method} {c : Code} {n0 : Nat} {ad0 : Nat → Nat} {Q : State → Prop} {ret : Option FieldType} {pc : Nat}
theorem rt_Rel.locs {L S : List Value} {h : rt_H} {ad : Nat → Nat} {ls : Array Slot} {H : Heap} {locs locs' : List Loc} (r : rt_Rel X nL s n0 ad0 L S h ad ls H locs') (hl : ∀ z ∈ locs, z ∈ locs') : rt_Rel X nL s n0 ad0 L S h ad ls H locs := ⟨r.1, r.2.1, ⟨r.2.2.1.1, r.2.2.1.2.1, fun z hz => r.2.2.1.2.2 z (hl z hz)⟩, r.2.2.2⟩
theorem rt_fill {L S : List Value} {h : rt_H} {ad : Nat → Nat} {ls : Array Slot} {H : Heap} {locs : List Loc} {U : State} {N M : Nat} (r : rt_Rel X nL s n0 ad0 L S h ad ls H locs) (hU : U.heap = H) (hb : rt_bud h (N + 1) (N + N * M)) :
    ∀ i, i ≤ N → ∃ (ad' : Nat → Nat) (locs' : List Loc), rt_Rel X nL s n0 ad0 L (.ref (hp_n h) :: S) (hp_rows (hp_new h 114 N N (fun _ => .null)) 100 M i) ad' ls (Jvm.Free.Multi.fill U (rx_A X 14) (rx_A X 0) N M (.int 0) i).heap (locs ++ locs') ∧ ad' (hp_n h) = H.size ∧ ∀ k, k < hp_n h → ad' k = ad k
  | 0, _ => by
    have hb1 : rt_bud h 1 N := by unfold rt_bud at hb ⊢; omega
    have e0 : (Jvm.Free.Multi.fill U (rx_A X 14) (rx_A X 0) N M (.int 0) 0).heap = H.push (arrV (rx_A X 14) N (fun _ => .null)) := by
      show U.heap.push _ = _
      rw [hU, ← arrV_new]
      rfl
    rw [e0]
    refine ⟨va_up ad (hp_n h) H.size, [], ?_, by simp [va_up], fun k hk => by simp [va_up, Nat.ne_of_lt hk]⟩
    rw [List.append_nil]
    exact rt_Rel.newa (j := 14) (w := (.array .int, 2)) r hb1 rfl (fun _ => rfl) (by rw [Array.getElem?_push_size]) (by rw [Array.size_push]) (fun q hq => by rw [Array.getElem?_push, if_neg (Nat.ne_of_lt hq)])
  | i + 1, hi => by
    obtain ⟨ad', locs', r', e1, e2⟩ := rt_fill r hU hb i (by omega)
    obtain ⟨f1, f2, -, -⟩ := Jvm.Free.Multi.fill_facts U (rx_A X 14) (rx_A X 0) N M (.int 0) i
    have hsz : U.heap.size = H.size := by rw [hU]
    have hn1 : hp_n (hp_rows (hp_new h 114 N N (fun _ => .null)) 100 M i) = hp_n h + 1 + i := by rw [hp_rows_n, hp_n_new]
    have hmul : i * M + M ≤ N * M := by
      rw [← Nat.succ_mul]
      exact Nat.mul_le_mul_right M hi
    have hb2 : rt_bud (hp_rows (hp_new h 114 N N (fun _ => .null)) 100 M i) 1 M := by
      unfold rt_bud at hb ⊢
      rw [hp_rows_c, hp_rows_s, hp_c_new, hp_s_new]
      omega
    have r2 := rt_Rel.newa (j := 0) (w := (.int, 0)) (n := M) (D := .int 0) (H1 := (Jvm.Free.Multi.fill U (rx_A X 14) (rx_A X 0) N M (.int 0) i).heap.push (arrV (rx_A X 0) M (fun _ => .int 0))) r' hb2 rfl (fun _ => rfl) (by rw [Array.getElem?_push_size]) (by rw [Array.size_push]) (fun q hq => by rw [Array.getElem?_push, if_neg (Nat.ne_of_lt hq)])
    have ht : hp_t (hp_new (hp_rows (hp_new h 114 N N (fun _ => .null)) 100 M i) 100 M M (fun _ => rt_df 0)) (hp_n h) = 114 := by
      rw [hp_t_new, if_neg (by rw [hn1]; omega), hp_rows_t (by rw [hp_n_new]; omega), hp_t_new, if_pos rfl]
    obtain ⟨h0, ha, hc⟩ := rt_arr r2.1 (j := 14) (w := (.array .int, 2)) ht rfl
    have ead : va_up ad' (hp_n (hp_rows (hp_new h 114 N N (fun _ => .null)) 100 M i)) (Jvm.Free.Multi.fill U (rx_A X 14) (rx_A X 0) N M (.int 0) i).heap.size (hp_n h) = H.size := by
      rw [hn1]
      simp only [va_up]
      rw [if_neg (by omega), e1]
    have hlt : H.size < (Jvm.Free.Multi.fill U (rx_A X 14) (rx_A X 0) N M (.int 0) i).heap.size := by rw [f1, hsz]; omega
    have hc2 : ((Jvm.Free.Multi.fill U (rx_A X 14) (rx_A X 0) N M (.int 0) i).heap.push (arrV (rx_A X 0) M (fun _ => .int 0)))[H.size]? = some (Jvm.Free.Multi.outerC (rx_A X 14) N H.size i) := by
      rw [Array.getElem?_push, if_neg (Nat.ne_of_lt hlt), ← hsz, f2]
    rw [ead] at hc
    have hcell := Option.some.inj (hc.symm.trans hc2)
    have eheap : (Jvm.Free.Multi.fill U (rx_A X 14) (rx_A X 0) N M (.int 0) (i + 1)).heap = ((Jvm.Free.Multi.fill U (rx_A X 14) (rx_A X 0) N M (.int 0) i).heap.push (arrV (rx_A X 0) M (fun _ => .int 0))).setIfInBounds H.size ((Jvm.Free.Multi.outerC (rx_A X 14) N H.size i).setSlot i (.ref (H.size + 1 + i))) := by
      rw [← hsz, ← arrV_new]
      rfl
    have r3 := rt_Rel.aput (a := hp_n h) (j := 14) (k := i) (x := (.array .int, 2)) (v := .ref (hp_n h + 1 + i)) (w := .ref (H.size + 1 + i)) (H1 := (Jvm.Free.Multi.fill U (rx_A X 14) (rx_A X 0) N M (.int 0) (i + 1)).heap) r2.tail ht rfl (by rw [hp_n_new, hn1]; exact Nat.lt_succ_self _) ?_ ?_ ?_ ?_
    · refine ⟨_, locs' ++ [⟨va_up ad' (hp_n (hp_rows (hp_new h 114 N N (fun _ => .null)) 100 M i)) (Jvm.Free.Multi.fill U (rx_A X 14) (rx_A X 0) N M (.int 0) i).heap.size (hp_n h), i⟩], ?_, ead, fun k hk => ?_⟩
      · rw [← List.append_assoc]
        exact r3
      · rw [hn1]
        simp only [va_up]
        rw [if_neg (by omega), e2 k hk]
    · show rt_tr _ (.ref (hp_n h + 1 + i)) = _
      rw [rt_tr_ref, hn1]
      simp only [va_up]
      rw [if_pos trivial, f1, hsz]
    · rw [ead, hcell, eheap, Array.getElem?_setIfInBounds_self_of_lt]
      rw [Array.size_push]; omega
    · rw [eheap, Array.size_setIfInBounds]
    · intro q hq
      rw [ead] at hq
      rw [eheap, Array.getElem?_setIfInBounds_ne (Ne.symm hq)]
theorem sc_multi {i nx : Nat} {x y : Int32} (hd : decode cc pc = .ok (.multianewarray i 2, 4)) (hl : Cond.classLink own i "[[I" ∈ lw_all) (hc : Cond.arrayClass .int ∈ lw_all) (hx : ¬ x < 0) (hy : ¬ y < 0) (hx2 : x.toNatClampNeg ≤ 5000) (hy2 : y.toNatClampNeg ≤ 5000) (hn : pc + 4 = nx) : rt_Sc X Y cc nL own mn ret pc (op_multi 114 100 x y nx) := by
  subst hn
  intro d l p e R s m args below meth c n0 ad0 Q C hd' Qr Qt B hC hR hT hM L S h h1 h2 ad ls H locs r
  match S, h1, h2, r with
  | b :: a :: S, h1, h2, r =>
    obtain ⟨rfl, rfl, hb⟩ := h1
    have hrm := rt_room B r hb
    have hov : (Cond.arrayOver (.array .int)).before args s = true := B.2.2.2.2.2.1.2.2.2.2.2.2.2.2.2.2
    intro T hT2 X0
    obtain ⟨vm₁, cA, comp, hW, hfA, hfC, -, -, X1, st⟩ := X0.multianewarray2F B.1 (own := own) (index := i) (ty := .int) B.2.2.2.1 (B.2.2.2.2.1 _ hl) hov (B.2.2.2.2.1 _ hc) (g := F0 m pc ls (((Value.int y) :: .int x :: S).map (rt_tr ad))) rfl (by rw [B.2.1]; exact hd) (n := x) (k := y) (rest := S.map (rt_tr ad)) rfl hx hy (by omega) (by show y.toNatClampNeg * 4 ≤ _; omega) (by omega) rfl rfl (by have := hrm.1; omega) (by have := hrm.2; omega)
    have eA := rt_AF.cls (B.2.2.2.2.2.1.2.1 14 (.array .int, 2) rfl) hfA
    have eC := rt_AF.cls (B.2.2.2.2.2.1.2.1 0 (.int, 0) rfl) hfC
    subst eA
    subst eC
    obtain ⟨ad', locs', r', e1, e2⟩ := rt_fill (U := T.setVm vm₁) (N := x.toNatClampNeg) (M := y.toNatClampNeg) r.tail.tail hT2 hb x.toNatClampNeg (Nat.le_refl _)
    have h3 := rt_tight B.2.2.2.2.2.2.1.1 (h2 ad' ls _ locs (r'.locs (fun z hz => List.mem_append_left _ hz))) _ rfl X1
    obtain ⟨t, a1, b1⟩ := h3
    refine ⟨t, st t ?_, b1⟩
    have e3 : ((Value.ref (hp_n h) :: S).map (rt_tr ad')) = .ref T.heap.size :: S.map (rt_tr ad) := by
      rw [List.map_cons, rt_tr_ref, e1, hT2, rt_map_ad r.tail.tail.2.2.2.2.2.1 e2]
    rw [e3] at a1
    exact a1
theorem rt_face {x : MethodName} (h : (Cond.interfaceMethod x.cls x.cls x.name x.desc).before args s = true) : ∃ (m : MethodId) (k : Class), s.methodNamed? x = some m ∧ s.vm.classes[m.cls]? = some k ∧ k.isInterface = true := by
  obtain ⟨c, k, m, h1, h2, h3, -, h5⟩ := Cond.interfaceMethod_spec (first := s) (o := none) (idx := []) h
  have h6 : s.vm.findClass x.cls = some m.cls := findClass_of_methodNamed h5
  cases h1.symm.trans h6
  exact ⟨m, k, h5, h2, h3⟩
/-- a call through an interface, of an object or of null -/
theorem sc_callx {vt : List (Nat × Nat)} {nx i j : Nat} {ts : List Nat} {x y : MethodName} {Cn : String} (hd : decode cc pc = .ok (.invokeinterface i j, 5)) (hl : Cond.methodLink own i x ∈ lw_all) (hF : (Cn, x, y) ∈ rt_fws) (hnp : rt_np x ts.length) (hcl : ∀ t ∈ vt.map Prod.fst, (rt_cl[t]?).isSome = true) (hw : ∀ q ∈ vt, rt_WF X Y cc nL own pc q.1 q.2 ts.length) (hn : pc + 5 = nx) : rt_Sc X Y cc nL own mn ret pc (op_callx vt ts nx) := by
  intro d l p e R s m args below meth c n0 ad0 Q C hd' Qr Qt B hC hR hT hM L S h h1 h2 ad ls H locs r
  obtain ⟨g1, g2, g3, g4, g5, g6⟩ := h1
  obtain ⟨k1, k2⟩ := Eq.mp rt_out_if h2
  by_cases hnull : S.getD ts.length lk_u = .null
  · have hrest : ∀ v ∈ S.drop (ts.length + 1), rt_vn (hp_n h) v := fun v hv => r.2.2.2.2.2.1 v (List.mem_of_mem_drop hv)
    have hrm := rt_room B r g6
    have hJ := k1 hnull
    obtain ⟨f1, f2, -, -⟩ := B.2.2.2.2.2.2.2.2.1
    obtain ⟨z1, z2⟩ := rt_zq B
    obtain ⟨w1, w2, w3, w4, w5⟩ := B.2.2.2.2.2.1.2.2.2.1 _ hF
    have hst : S.map (rt_tr ad) = (((S.take ts.length).reverse).map (rt_tr ad)).reverse ++ .null :: (S.drop (ts.length + 1)).map (rt_tr ad) := by
      conv => lhs; rw [rt_S_at g1]
      rw [List.map_append, List.map_cons, List.map_reverse, List.reverse_reverse, hnull]
      rfl
    intro T hT2 X0
    obtain ⟨r0, rm, d1, d2, d3, d4⟩ := Cond.declares_spec (args := args) (s := s) (va_Nw.use (w := .declares x) rfl w1)
    obtain ⟨kx, hkx, hkxi⟩ : ∃ ki : Class, s.vm.classes[r0.cls]? = some ki ∧ ki.isInterface = true := by
      have hw2 : (Cond.interfaceMethod x.cls x.cls x.name x.desc).before args s = true := va_Nw.use (w := .interfaceMethod x.cls x.cls x.name x.desc) rfl w2
      obtain ⟨r1, k1, e1, e2, e3⟩ := rt_face hw2
      cases e1.symm.trans d1
      exact ⟨k1, e2, e3⟩
    have hlen : (((S.take ts.length).reverse).map (rt_tr ad)).length = rm.sig.parameters.length := by
      rw [List.length_map, List.length_reverse, List.length_take, Nat.min_eq_left (by omega)]
      exact rt_np_len hnp _ d4
    obtain ⟨vm', X1, st1⟩ := X0.invokeinterfaceNull B.1 B.2.2.2.1 (B.2.2.2.2.1 _ hl) d1 d2 d3 hkx hkxi (rt_fws_ok _ hF) (g := F0 m pc ls (S.map (rt_tr ad))) rfl hlen hst (by rw [B.2.1]; exact hd)
    have hnote : vx_NoteN p l e R s m args below meth c H locs (H.size - s.heap.size) (rt_ss (rx_H X).size H - rt_ss (rx_H X).size s.heap) Q (F0 m pc ls ((S.drop (ts.length + 1)).map (rt_tr ad))) := by
      refine vx_npe (nb := 8) (A := rt_fr X) B.1 B.2.2.2.2.2.2.2.2.2.1 (rt_hat B rt_atP) (fun w hw => rt_okw_ot (rt_atP w hw).2) z1 z2 r.2.2.1 (r.2.2.2.2.2.2.1.trans B.2.2.1.symm) ?_ ?_ hrm.1 (by omega) B.2.2.2.2.2.2.2.1 ?_
      · omega
      · rw [rt_cw_sum hrest]; omega
      · intro H1 q9 ce z o hS hce hvm hcl9
        exact vx_widen (Nat.le_refl _) (by omega) (rt_thrown (kk := 2) B hT r g6 z o hS hce hvm hcl9 (by decide) hJ)
    obtain ⟨t, st, q⟩ := hnote (T.setVm vm') hT2 X1
    exact ⟨t, st1 t st, q⟩
  · have hr : rp_r (S.getD ts.length lk_u) := by
      rcases rp_a_e g4 with e | e
      · exact absurd e hnull
      · rw [e]; trivial
    exact sc_callf hcl hw hn B hC hR hT hM (S := S) ⟨g1, g3, hr, g5 hnull⟩ (k2 hnull) ad ls H locs r
end G
end SND14
