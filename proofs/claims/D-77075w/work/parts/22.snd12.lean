/-! ===== the abstract machine against the JVM: throws of the machine's own ===== -/
section SND12
theorem rt_nk_tab {w : Cond} (h : rt_nk w = true) : w.onTables = true := by cases w <;> first | rfl | cases h
theorem rt_okw_ot {w : Cond} (h : rt_okw w = true) : vx_ot w = true := by
  unfold rt_okw at h
  unfold vx_ot
  rw [Bool.or_eq_true] at h ⊢
  exact h.elim Or.inr (fun z => Or.inl (rt_nk_tab z))
theorem rt_sum_ge {α : Type} {f : α → Nat} {a : α} : ∀ {l : List α}, a ∈ l → f a ≤ (l.map f).sum
  | [], h => absurd h List.not_mem_nil
  | b :: r, h => by
    rw [List.map_cons, List.sum_cons]
    rcases List.mem_cons.mp h with e | h
    · rw [e]; omega
    · have := rt_sum_ge (f := f) h
      omega
theorem rt_ss_ge {z q : Nat} {H : Heap} {c : Cell} (hz : z ≤ q) (h : H[q]? = some c) : c.slots.size ≤ rt_ss z H := by
  unfold rt_ss
  refine rt_sum_ge (f := fun c : Cell => c.slots.size) ?_
  refine List.mem_iff_getElem?.mpr ⟨q - z, ?_⟩
  rw [List.getElem?_drop, show z + (q - z) = q by omega, Array.getElem?_toList]
  exact h
section G
variable {X : rt_X} {Y : Nat → rt_Y} {cc : ByteArray} {nL : Nat} {own mn : String} {d : Nat} {l : Launch} {p : Program} {e : Env} {R : Room} {s : State} {m : MethodId} {args : Array Value} {below : List Frame} {meth : Method} {c : Code} {n0 : Nat} {ad0 : Nat → Nat} {Q : State → Prop} {ret : Option FieldType} {pc : Nat}
theorem rt_hat (B : rt_Bd X cc nL own mn d l p R s m args meth c) {L : List Cond} (h : ∀ w ∈ L, w ∈ lw_tbl ∧ rt_okw w = true) : ∀ w ∈ L, w.before args s = true := by
  intro w hw
  obtain ⟨h1, h2⟩ := h w hw
  unfold rt_okw at h2
  rw [Bool.or_eq_true] at h2
  rcases h2 with h2 | h2
  · exact B.2.2.2.2.1 _ (lw_g h1 h2)
  · exact va_Nw.use (rt_nk_tab h2) (B.2.2.2.2.2.1.2.2.1 _ h1 h2)
theorem rt_zq (B : rt_Bd X cc nL own mn d l p R s m args meth c) : vx_Zq Bundle.tN "UNASSIGNED_STACK" Bundle.steD (rt_fr X) s s.heap ∧ vx_Zq Bundle.tN "SUPPRESSED_SENTINEL" Bundle.listD (rt_fr X) s s.heap := by
  obtain ⟨h1, h2⟩ := B.2.2.2.2.2.1.2.2.2.2.2.2.2.1
  have hk := B.2.2.2.2.2.2.1.2
  exact ⟨h1.kept fun a ha _ => hk a ha, h2.kept fun a ha _ => hk a ha⟩
/-- behind a throw of the machine's own: cells that aren't told of, then the handlers -/
theorem rt_thrown {L S rest : List Value} {h : rt_H} {ad : Nat → Nat} {ls : Array Slot} {H H1 : Heap} {locs : List Loc} {hd : Nat → Nat → Option (Nat × Nat)} {Qt : rt_Qt} {k n kk : Nat} {q9 : Addr} {ce : Cell} (B : rt_Bd X cc nL own mn d l p R s m args meth c) (hT : rt_Th X nL p l e R s m args below meth c n0 ad0 Q hd Qt) (r : rt_Rel X nL s n0 ad0 L S h ad ls H locs) (hb : rt_bud h k n) (z : H.size ≤ H1.size) (o : ∀ q : Nat, q < H.size → H1[q]? = H[q]?) (hS : va_S (rt_fr X) s.heap H1 locs) (hce : H1[q9]? = some ce) (hvm : ce.vm = .none) (hcl : s.vm.findClass (rt_xn kk) = some ce.cls) (hk0 : kk ≠ 0)
    (hJ : rt_hd hd Qt (rt_J X nL p l e R s m args below meth c n0 ad0 Q) pc L kk 0 (hp_cost h k n)) : vx_W p l e R s m args below meth c H1 locs (H.size - s.heap.size + k) (rt_ss (rx_H X).size H - rt_ss (rx_H X).size s.heap + n) Q (F0 m pc ls rest) q9 := by
  intro T hT2 X0
  have hz := B.2.2.2.2.2.2.1.1
  obtain ⟨q1, q2, q3, q4, q5, q6⟩ := X0.same
  have hh : (T.setVm s.vm).heap = H1 := hT2
  rw [hh] at q2 q3 q5 q6
  have hsum := rt_ss_old (z := (rx_H X).size) hz q2 (fun a c hc => by
    obtain ⟨c', h1, -, h3, -⟩ := q6 a c hc
    exact ⟨c', h1, h3⟩)
  have q5' : rt_ss s.heap.size H1 ≤ rt_ss (rx_H X).size H - rt_ss (rx_H X).size s.heap + n := q5
  have g1 := r.2.1.2.2
  have g2 := r.1.2.2.2.2.2.2.1
  have g3 := r.2.2.1.1
  have r' : rt_Rel X nL s n0 ad0 L [] (hp_cost h k n) ad ls H1 locs := by
    refine ⟨rt_HR_grow r.1 hb z o ?_ ?_, ⟨r.2.1.1, r.2.1.2.1, ?_⟩, hS, r.2.2.2.1, r.2.2.2.2.1, fun _ hv => absurd hv List.not_mem_nil, r.2.2.2.2.2.2⟩
    · omega
    · omega
    · omega
  exact rt_tightX hz (hT ad _ H1 locs L [] ls rest pc kk 0 q9 ce r' hce hvm hcl (fun e => absurd e hk0) hJ) T hT2 X0
theorem rt_noteA {L S rest : List Value} {h : rt_H} {ad : Nat → Nat} {ls : Array Slot} {H : Heap} {locs : List Loc} {hd : Nat → Nat → Option (Nat × Nat)} {Qt : rt_Qt} {tx : String} (B : rt_Bd X cc nL own mn d l p R s m args meth c) (hT : rt_Th X nL p l e R s m args below meth c n0 ad0 Q hd Qt) (r : rt_Rel X nL s n0 ad0 L S h ad ls H locs) (hb : rt_bud h 3 1010) (hrest : ∀ v ∈ rest, rt_vn (hp_n h) v) (hW : rt_cw rest ≤ 8) (t1 : (tx == notModelled) = false) (t2 : (stringBytes (stringToUtf16 tx)).size ≤ 1000)
    (hJ : rt_hd hd Qt (rt_J X nL p l e R s m args below meth c n0 ad0 Q) pc L 3 0 (hp_cost h 3 1010)) : vx_Note p l e R s m args below meth c H locs (H.size - s.heap.size) (rt_ss (rx_H X).size H - rt_ss (rx_H X).size s.heap) Q (F0 m pc ls (rest.map (rt_tr ad))) "java/lang/ArrayIndexOutOfBoundsException" tx := by
  have hrm := rt_room B r hb
  obtain ⟨f1, f2, -, -⟩ := B.2.2.2.2.2.2.2.2.1
  obtain ⟨z1, z2⟩ := rt_zq B
  refine vx_vm (nb := 1000) (A := rt_fr X) (names := rt_nmA) B.1 B.2.2.2.2.2.2.2.2.2.1 (by decide +kernel) (by decide +kernel) (by decide +kernel) (by decide +kernel) (rt_hat B rt_atA) (fun w hw => rt_okw_ot (rt_atA w hw).2) z1 z2 r.2.2.1 (r.2.2.2.2.2.2.1.trans B.2.2.1.symm) t1 t2 (Nat.le_refl _) ?_ ?_ (by decide +kernel) hrm.1 hrm.2 B.2.2.2.2.2.2.2.1 ?_
  · show 3 + 4 < R.frames; omega
  · rw [rt_cw_sum hrest]; omega
  · intro H1 q9 ce z o hS hce hvm hcl
    exact rt_thrown (kk := 3) B hT r hb z o hS hce hvm hcl (by decide) hJ
theorem rt_noteN {L S rest : List Value} {h : rt_H} {ad : Nat → Nat} {ls : Array Slot} {H : Heap} {locs : List Loc} {hd : Nat → Nat → Option (Nat × Nat)} {Qt : rt_Qt} {tx : String} (B : rt_Bd X cc nL own mn d l p R s m args meth c) (hT : rt_Th X nL p l e R s m args below meth c n0 ad0 Q hd Qt) (r : rt_Rel X nL s n0 ad0 L S h ad ls H locs) (hb : rt_bud h 3 5010) (hrest : ∀ v ∈ rest, rt_vn (hp_n h) v) (hW : rt_cw rest ≤ 8) (t1 : (tx == notModelled) = false) (t2 : (stringBytes (stringToUtf16 tx)).size ≤ 1000)
    (hJ : rt_hd hd Qt (rt_J X nL p l e R s m args below meth c n0 ad0 Q) pc L 4 0 (hp_cost h 3 5010)) : vx_Note p l e R s m args below meth c H locs (H.size - s.heap.size) (rt_ss (rx_H X).size H - rt_ss (rx_H X).size s.heap) Q (F0 m pc ls (rest.map (rt_tr ad))) "java/lang/NegativeArraySizeException" tx := by
  have hrm := rt_room B r hb
  obtain ⟨f1, f2, -, -⟩ := B.2.2.2.2.2.2.2.2.1
  obtain ⟨z1, z2⟩ := rt_zq B
  refine vx_vm (nb := 1000) (A := rt_fr X) (names := rt_nmN) B.1 B.2.2.2.2.2.2.2.2.2.1 (by decide +kernel) (by decide +kernel) (by decide +kernel) (by decide +kernel) (rt_hat B rt_atN) (fun w hw => rt_okw_ot (rt_atN w hw).2) z1 z2 r.2.2.1 (r.2.2.2.2.2.2.1.trans B.2.2.1.symm) t1 t2 (Nat.le_refl _) ?_ ?_ (by decide +kernel) hrm.1 (by omega) B.2.2.2.2.2.2.2.1 ?_
  · show 2 + 4 < R.frames; omega
  · rw [rt_cw_sum hrest]; omega
  · intro H1 q9 ce z o hS hce hvm hcl
    exact vx_widen (Nat.le_refl _) (by omega) (rt_thrown (kk := 4) B hT r hb z o hS hce hvm hcl (by decide) hJ)
end G
end SND12
