/-! ===== the abstract machine against the JVM: calls ===== -/
section SND8
theorem rt_ws_nil {y : rt_Y} (h : y.2.2.2.2 = []) : rt_ws y = ws_ y.1 y.2.1 y.2.2.1 y.2.2.2.1 := by
  obtain ⟨a, b, c, d, e⟩ := y
  cases h
  rfl
theorem rt_ws_good {y : rt_Y} (h : rt_yw y ∈ lw_all) : GoodIn lw_all (rt_ws y) := by
  intro w hw
  rcases List.mem_cons.mp hw with e | e
  · rw [e]; exact lw_self _ h
  · exact lw_self _ e
theorem rt_lv_ad {n : Nat} {ad ad' : Nat → Nat} {L : List Value} (hL : ∀ v ∈ L, rt_vn n v) (ha : ∀ k, k < n → ad' k = ad k) : ∀ z ∈ rt_lv ad' L, z ∈ rt_lv ad L := by
  intro z hz
  obtain ⟨j, w⟩ := z
  obtain ⟨v, h1, h2, h3⟩ := rt_lv_mem.mp hz
  refine rt_lv_mem.mpr ⟨v, h1, h2, ?_⟩
  rw [h3]
  have := hL v (List.mem_of_getElem? h1)
  cases v <;> first | rfl | exact congrArg Value.ref (ha _ this)
theorem rt_map_ad {n : Nat} {ad ad' : Nat → Nat} {L : List Value} (hL : ∀ v ∈ L, rt_vn n v) (ha : ∀ k, k < n → ad' k = ad k) : L.map (rt_tr ad') = L.map (rt_tr ad) := by
  refine List.map_congr_left fun v hv => ?_
  have := hL v hv
  cases v <;> first | rfl | exact congrArg Value.ref (ha _ this)
theorem rt_cw_sum {n : Nat} {ad : Nat → Nat} : ∀ {S : List Value}, (∀ v ∈ S, rt_vn n v) → ((S.map (rt_tr ad)).map fun v => v.category).sum = rt_cw S
  | [], _ => rfl
  | v :: S, h => by
    have ih := rt_cw_sum (S := S) (ad := ad) (n := n) (fun w hw => h w (List.mem_cons_of_mem _ hw))
    rw [List.map_cons, List.map_cons, List.sum_cons, ih, rt_cw_s, rt_tr_cat]
    have hv := h v List.mem_cons_self
    cases v <;> first | rfl | exact hv.elim
section G
variable {X : rt_X} {Y : Nat → rt_Y} {cc : ByteArray} {nL : Nat} {own mn : String} {d : Nat} {l : Launch} {p : Program} {e : Env} {R : Room} {s : State} {m : MethodId} {args : Array Value} {below : List Frame} {meth : Method} {c : Code} {n0 : Nat} {ad0 : Nat → Nat} {Q : State → Prop} {ret : Option FieldType} {pc : Nat}
/-- a frame that goes on from an end's heap -/
theorem rt_Rel.goes {L S rest : List Value} {h h' : rt_H} {ad ad' : Nat → Nat} {ls : Array Slot} {H : Heap} {locs Lc : List Loc} {st₀ t T' : State} {v : Option Value} (r : rt_Rel X nL s n0 ad0 L S h ad ls H locs) (hrest : ∀ v ∈ rest, rt_vn (hp_n h) v) (h0 : st₀.heap = H) (hL : ∀ q ∈ Lc, rt_fr X q.base) (e1 : T'.heap = t.heap) (hE : rt_End X (hp_n h) ad st₀ t ad' h') (hv : ∀ w, v = some w → rt_vn (hp_n h') w) :
    rt_Rel X nL s n0 ad0 L (v.toList ++ rest) h' ad' ls T'.heap (locs ++ Lc) := by
  obtain ⟨g1, g2, g3, g4, g5⟩ := hE
  obtain ⟨k1, k2, k3⟩ := vx_keep h0 e1 r.2.2.1 (fun _ _ z => z) (fun _ z => z) hL g4
  refine ⟨by rw [e1]; exact g1, ⟨Nat.le_trans r.2.1.1 g2, fun k hk => by rw [g3 k (Nat.lt_of_lt_of_le hk r.2.1.1)]; exact r.2.1.2.1 k hk, ?_⟩, k3, r.2.2.2.1, fun w hw => rt_vn_mono g2 (r.2.2.2.2.1 w hw), fun w hw => ?_, ?_⟩
  · rw [h0] at g5
    rw [e1]
    exact Nat.le_trans r.2.1.2.2 g5
  · rcases List.mem_append.mp hw with hw | hw
    · cases v with
      | none => cases hw
      | some x => exact hv w (by rw [List.mem_singleton.mp hw])
    · exact rt_vn_mono g2 (hrest w hw)
  · exact ⟨r.2.2.2.2.2.2.1, r.2.2.2.2.2.2.2.1, fun z hz => r.2.2.2.2.2.2.2.2 z (rt_lv_ad r.2.2.2.2.1 g3 z hz)⟩
theorem rt_bk1 {L S rest : List Value} {h : rt_H} {ad : Nat → Nat} {ls : Array Slot} {H : Heap} {locs Lc : List Loc} {st₀ t T' : State} {v : Option Value} {nx cells slots : Nat} {a : Array Value} (B : rt_Bd X cc nL own mn d l p R s m args meth c) (r : rt_Rel X nL s n0 ad0 L S h ad ls H locs) (hrest : ∀ v ∈ rest, rt_vn (hp_n h) v) (h0 : st₀.heap = H) (X' : Stand p l e R s m args below meth c T' (locs ++ Lc) cells slots) (hL : ∀ q ∈ Lc, rt_fr X q.base) (e1 : T'.heap = t.heap)
    (hq : rt_Qc X (hp_n h) ad (fun v h1 => rt_J X nL p l e R s m args below meth c n0 ad0 Q nx L (v.toList ++ rest) h1) a st₀ (.returned v) t) : ∃ t2, Steps p.tables e below (T'.setTop (F0 m nx ls (v.toList ++ rest.map (rt_tr ad)))) t2 ∧ Q t2 := by
  obtain ⟨ad', v', h', hv, hE, hvn, hJ⟩ := hq
  have hv2 : v = v'.map (rt_tr ad') := by injection hv
  have hW := rt_tight B.2.2.2.2.2.2.1.1 (hJ ad' ls T'.heap (locs ++ Lc) (r.goes hrest h0 hL e1 hE hvn)) (cells := cells) (slots := slots) T' rfl X'
  have e2 : (v'.toList ++ rest).map (rt_tr ad') = v.toList ++ rest.map (rt_tr ad) := by
    rw [List.map_append, rt_map_ad hrest hE.2.2.1, hv2]
    cases v' <;> rfl
  rw [e2] at hW
  exact hW
theorem rt_bk2 {L S : List Value} {h : rt_H} {ad : Nat → Nat} {ls : Array Slot} {H : Heap} {locs Lc : List Loc} {st₀ t T' : State} {q : Addr} {E : String} {ce : Cell} {pc cells slots : Nat} {rs : List Value} {hd : Nat → Nat → Option (Nat × Nat)} {Qt : rt_Qt} (B : rt_Bd X cc nL own mn d l p R s m args meth c) (hT : rt_Th X nL p l e R s m args below meth c n0 ad0 Q hd Qt) (r : rt_Rel X nL s n0 ad0 L S h ad ls H locs) (h0 : st₀.heap = H) (X' : Stand p l e R s m args below meth c T' (locs ++ Lc) cells slots) (hL : ∀ q ∈ Lc, rt_fr X q.base) (e1 : T'.heap = t.heap)
    (hce : t.heap[q]? = some ce) (hcv : ce.vm = .none) (hcl : s.vm.findClass E = some ce.cls)
    (hq : rt_Xc X (hp_n h) ad (fun k a h1 => rt_hd hd Qt (rt_J X nL p l e R s m args below meth c n0 ad0 Q) pc L k a h1) q E st₀ t) : ∃ t2, Steps p.tables e below ((T'.setTop (F0 m pc ls rs)).pushFrame (.throwing q)) t2 ∧ Q t2 := by
  obtain ⟨ad', k, a, h', hE, hk, hEnd, hJ⟩ := hq
  have r' := r.goes (rest := []) (v := none) (fun v hv => absurd hv List.not_mem_nil) h0 hL e1 hEnd (fun w hw => by cases hw)
  subst hE
  exact rt_tightX B.2.2.2.2.2.2.1.1 (hT ad' h' T'.heap (locs ++ Lc) L _ ls rs pc k a q ce r' (by rw [e1]; exact hce) hcv hcl hk hJ) T' rfl X'
theorem rt_run {L S rest : List Value} {h : rt_H} {ad : Nat → Nat} {ls : Array Slot} {H : Heap} {locs : List Loc} {pc mc ms : Nat} {st0 : List Value} {a : Array Value} {hd : Nat → Nat → Option (Nat × Nat)} {Qt : rt_Qt} (B : rt_Bd X cc nL own mn d l p R s m args meth c) (hT : rt_Th X nL p l e R s m args below meth c n0 ad0 Q hd Qt) (r : rt_Rel X nL s n0 ad0 L S h ad ls H locs) (hrest : ∀ v ∈ rest, rt_vn (hp_n h) v)
    (hr : vx_Run p l e R s m args below meth c H locs (H.size - s.heap.size) (rt_ss (rx_H X).size H - rt_ss (rx_H X).size s.heap) mc ms (F0 m pc ls st0) (rest.map (rt_tr ad)) (rt_Qc X (hp_n h) ad (fun v h1 => rt_J X nL p l e R s m args below meth c n0 ad0 Q (pc + 3) L (v.toList ++ rest) h1) a) (rt_Xc X (hp_n h) ad (fun k a h1 => rt_hd hd Qt (rt_J X nL p l e R s m args below meth c n0 ad0 Q) pc L k a h1)) (rt_fr X)) :
    rt_W X p l e R s m args below meth c Q H locs (F0 m pc ls st0) := by
  intro T hT2 X0
  rcases hr T hT2 X0 with ⟨v, st₀, t, T', Lc, h0, X', hL, e1, e2, hq, st⟩ | ⟨q, st₀, t, T', Lc, E, ce, h0, X', hL, e1, e2, hq, hce, hcv, hcl, st⟩
  · obtain ⟨t2, a1, b1⟩ := rt_bk1 B r hrest h0 X' hL e1 hq
    exact ⟨t2, st t2 a1, b1⟩
  · obtain ⟨t2, a1, b1⟩ := rt_bk2 B hT r h0 X' hL e1 hce hcv hcl hq (rs := rest.map (rt_tr ad))
    exact ⟨t2, st.trans a1, b1⟩
theorem rt_run5 {L S rest : List Value} {h : rt_H} {ad : Nat → Nat} {ls : Array Slot} {H : Heap} {locs : List Loc} {pc mc ms : Nat} {st0 : List Value} {a : Array Value} {hd : Nat → Nat → Option (Nat × Nat)} {Qt : rt_Qt} (B : rt_Bd X cc nL own mn d l p R s m args meth c) (hT : rt_Th X nL p l e R s m args below meth c n0 ad0 Q hd Qt) (r : rt_Rel X nL s n0 ad0 L S h ad ls H locs) (hrest : ∀ v ∈ rest, rt_vn (hp_n h) v)
    (hr : vx_Run5 p l e R s m args below meth c H locs (H.size - s.heap.size) (rt_ss (rx_H X).size H - rt_ss (rx_H X).size s.heap) mc ms (F0 m pc ls st0) (rest.map (rt_tr ad)) (rt_Qc X (hp_n h) ad (fun v h1 => rt_J X nL p l e R s m args below meth c n0 ad0 Q (pc + 5) L (v.toList ++ rest) h1) a) (rt_Xc X (hp_n h) ad (fun k a h1 => rt_hd hd Qt (rt_J X nL p l e R s m args below meth c n0 ad0 Q) pc L k a h1)) (rt_fr X)) :
    rt_W X p l e R s m args below meth c Q H locs (F0 m pc ls st0) := by
  intro T hT2 X0
  rcases hr T hT2 X0 with ⟨v, st₀, t, T', Lc, h0, X', hL, e1, e2, hq, st⟩ | ⟨q, st₀, t, T', Lc, E, ce, h0, X', hL, e1, e2, hq, hce, hcv, hcl, st⟩
  · obtain ⟨t2, a1, b1⟩ := rt_bk1 B r hrest h0 X' hL e1 hq
    exact ⟨t2, st t2 a1, b1⟩
  · obtain ⟨t2, a1, b1⟩ := rt_bk2 B hT r h0 X' hL e1 hce hcv hcl hq (rs := rest.map (rt_tr ad))
    exact ⟨t2, st.trans a1, b1⟩
end G
end SND8
