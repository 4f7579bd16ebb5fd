/-! ===== the abstract machine against the JVM: Throwable's constructor of four ===== -/
section SND18
def rt_Zz (X : rt_X) (a : Nat) (H : Heap) (locs : List Loc) (Hk : Heap) (lk : List Loc) (V : Nat → Value) : Prop :=
  Hk.size = H.size ∧ (∀ x, x ≠ a → Hk[x]? = H[x]?) ∧ t_OB a ((rx_D X).1 12) 7 ((rx_D X).2 12) Hk V ∧ (∀ c c1 : Cell, H[a]? = some c → Hk[a]? = some c1 → c1.slots.size = c.slots.size) ∧ (∀ z ∈ lk, z ∈ locs ∨ z.base = a)
section G
variable {X : rt_X} {Y : Nat → rt_Y} {cc : ByteArray} {nL : Nat} {own mn : String} {d : Nat} {l : Launch} {p : Program} {e : Env} {R : Room} {s : State} {m : MethodId} {args : Array Value} {below : List Frame} {meth : Method} {c : Code} {n0 : Nat} {ad0 : Nat → Nat} {Q : State → Prop} {ret : Option FieldType} {pc : Nat}
theorem rt_Zz.S {a : Nat} {H Hk : Heap} {locs lk : List Loc} {V : Nat → Value} (Z : rt_Zz X a H locs Hk lk V) (hS : va_S (rt_fr X) s.heap H locs) (ha : (rx_H X).size ≤ a) : va_S (rt_fr X) s.heap Hk lk := by
  refine ⟨by rw [Z.1]; exact hS.1, fun q h1 h2 => ?_, fun z hz => ?_⟩
  · rw [Z.2.1 q (fun e => h2 (by rw [e]; exact ha))]
    exact hS.2.1 q h1 h2
  · rcases Z.2.2.2.2 z hz with h | h
    · exact hS.2.2 z h
    · show (rx_H X).size ≤ z.base
      rw [h]; exact ha
theorem rt_pt (B : rt_Bd X cc nL own mn d l p R s m args meth c) {a : Nat} {H Hk : Heap} {locs lk : List Loc} {V : Nat → Value} {k i : Nat} {ref name desc : String} {v : Value} {ls : Array Slot} {rest : List Value} {cells slots : Nat} (hv : rp_a v) (hf : rt_fk 12 k ref name desc 2 false) (hl : Cond.fieldLink own i ref name desc ∈ lw_all) (hd : decode cc pc = .ok (.putfield i, 3)) (Z : rt_Zz X a H locs Hk lk V)
    (kk : ∀ (Hn : Heap) (ln : List Loc), rt_Zz X a H locs Hn ln (updV V k v) → W p l e R s m args below meth c Hn ln cells slots Q (F0 m (pc + 3) ls rest)) : W p l e R s m args below meth c Hk lk cells slots Q (F0 m pc ls (v :: .ref a :: rest)) := by
  obtain ⟨q, hq, hk, hT, hty, ft, hft, hff⟩ := hf
  obtain ⟨y1, y2, ⟨cell, q1, q2, q3, q4⟩, y4, y5⟩ := Z
  obtain ⟨hin, ⟨ty0, hty0⟩, hnm, -⟩ := rt_cl_ok _ _ hq
  have hq7 : q.2.2 = 7 := by cases hq; rfl
  have g := rt_ff_ok (ad := fun x => x) hff (show rt_ty 2 v from hv)
  have gv : rt_tr (fun x => x) v = v := by rcases rp_a_e hv with e | e <;> rw [e] <;> rfl
  rw [gv] at g
  obtain ⟨g1, g2, g3⟩ := g
  have hap := va_apart (own := own) B.2.2.2.2.1 hin ty0 hty0 hnm B.2.2.2.2.2.1.k hq
  obtain ⟨hS, hfc, kC, hkC, hkind⟩ := B.2.2.2.2.2.1.1 _ _ hq
  obtain ⟨cf, kf, fi, f, hi, hsl⟩ := hS k hk
  have hlay := B.2.2.2.2.1 _ (hin _ (u_in_lay hk))
  unfold u_lay at hlay
  rw [hT] at hlay hi
  rw [if_neg Bool.false_ne_true] at hlay
  have hst := (u_facts hfc hkC (Or.inl hlay) hi).1
  have h6 := u_store hfc hkC hkind hlay hi hft g1 g2
  rw [hq7] at hk hap
  refine W.putK B.1 B.2.1 (f := f) ⟨B.2.2.2.1, B.2.2.2.2.1 _ hl, ⟨_, _, _, hi⟩, hst⟩ (by rw [q2]; exact h6) q1 q3 (by rw [hsl]; exact k2_hasslot (q4 k hk)) rfl rfl hd fun H' e1 e2 e3 => ?_
  refine kk H' _ ⟨e2.trans y1, fun x hx => (e3 x hx).trans (y2 x hx), ⟨_, e1, q2, q3, fun j hj => ?_⟩, fun c0 c1 h0 h1 => ?_, fun z hz => ?_⟩
  · rw [hsl]
    exact t_set q4 hap hk v j hj
  · rw [e1] at h1
    cases h1
    rw [← y4 c0 cell h0 q1]
    simp [Cell.setSlot]
  · rcases List.mem_append.mp hz with hz | hz
    · exact y5 z hz
    · rw [List.mem_singleton.mp hz]
      exact Or.inr rfl
theorem rt_fk12_0 : rt_fk 12 0 "java/lang/Throwable" "cause" "Ljava/lang/Throwable;" 2 false := ⟨(RX12, TX12, 7), rfl, by decide, rfl, rfl, tyX12 0, tyX12_ok 0 (by decide), rfl⟩
theorem rt_fk12_1 : rt_fk 12 1 "java/lang/Throwable" "stackTrace" "[Ljava/lang/StackTraceElement;" 2 false := ⟨(RX12, TX12, 7), rfl, by decide, rfl, rfl, tyX12 1, tyX12_ok 1 (by decide), rfl⟩
theorem rt_fk12_2 : rt_fk 12 2 "java/lang/Throwable" "suppressedExceptions" "Ljava/util/List;" 2 false := ⟨(RX12, TX12, 7), rfl, by decide, rfl, rfl, tyX12 2, tyX12_ok 2 (by decide), rfl⟩
theorem rt_fk12_3 : rt_fk 12 3 "java/lang/Throwable" "detailMessage" "Ljava/lang/String;" 2 false := ⟨(RX12, TX12, 7), rfl, by decide, rfl, rfl, tyX12 3, tyX12_ok 3 (by decide), rfl⟩
theorem rt_zv {C n d9 : String} {H : Heap} (h : va_Zq C n d9 (rt_fr X) s H) : ∃ v : Value, rp_a v ∧ va_Z C n d9 v (rt_fr X) s H := by
  rcases h with h | ⟨t, h⟩
  · exact ⟨.null, trivial, h⟩
  · exact ⟨.ref t, trivial, h⟩
theorem sc_thw : rt_Sc X Y cJ5_init_3 5 "java/lang/Throwable" mn ret 4 (op_thw 60) := by
  intro d l p e R s m args below meth c n0 ad0 Q C hd' Qr Qt B hC hR hT hM L S h h1 h2 ad ls H locs r
  obtain ⟨rfl, g1, g2, g3, g4, g5, g6, g7⟩ := h1
  obtain ⟨a, ea⟩ : ∃ a, lk_g L 0 = .ref a := ⟨_, rp_r_e g1⟩
  rw [ea] at g2 g3
  obtain ⟨h0, ha, hob⟩ := rt_obj r.1 (t := 12) (q := (RX12, TX12, 7)) g2 rfl
  have hsz := (r.1.2.1 a h0 ha).1
  have l0 := rt_lv_at r.2.2.2.2.2.2 ea rfl
  have l1 := rt_lv_at r.2.2.2.2.2.2 g4 rfl
  have l2 := rt_lv_at r.2.2.2.2.2.2 g5 rfl
  have l3 := rt_lv_at r.2.2.2.2.2.2 g6 rfl
  have l4 := rt_lv_at r.2.2.2.2.2.2 g7 rfl
  obtain ⟨z1, z2⟩ := rt_zq B
  obtain ⟨v1, hv1, hz1⟩ := rt_zv z1.1
  obtain ⟨v2, hv2, hz2⟩ := rt_zv z2.1
  have hx := B.1
  have hb := B.2.1
  have Z0 : rt_Zz X (ad a) H locs H locs (fun j => rt_tr ad (rt_nv ((rt_ft 12).getD j 0) (hp_v h a j))) := ⟨rfl, fun _ _ => rfl, hob, fun c0 c1 q0 q1 => by rw [q0] at q1; rw [Option.some.inj q1], fun z hz => Or.inl hz⟩
  refine lv_aload_n hx hb dJ5_init_3_4 rfl l0 (lv_aload_n hx hb dJ5_init_3_5 rfl l0 ?_)
  refine rt_pt B trivial rt_fk12_0 q777 dJ5_init_3_6 Z0 fun H1 k1 Z1 => ?_
  refine lv_aload_n hx hb dJ5_init_3_9 rfl l0 (va_gets hx hb hz1 (Z1.S r.2.2.1 hsz) B.2.2.2.1 (B.2.2.2.2.1 _ q732) (fun _ q => q) dJ5_init_3_10 ?_)
  refine rt_pt B hv1 rt_fk12_1 q778 dJ5_init_3_13 Z1 fun H2 k2 Z2 => ?_
  refine lv_aload_n hx hb dJ5_init_3_16 rfl l0 (va_gets hx hb hz2 (Z2.S r.2.2.1 hsz) B.2.2.2.1 (B.2.2.2.2.1 _ q734) (fun _ q => q) dJ5_init_3_17 ?_)
  refine rt_pt B hv2 rt_fk12_2 q779 dJ5_init_3_20 Z2 fun H3 k3 Z3 => ?_
  refine lv_iload hx hb dJ5_init_3_23 l4 (lv_if_eq hx hb dJ5_init_3_25 (tgt := 36) rfl (fun _ => ?_) (fun q => absurd rfl q))
  refine lv_aload_n hx hb dJ5_init_3_36 rfl l0 (lv_null hx hb dJ5_init_3_37 ?_)
  refine rt_pt B (v := .null) trivial rt_fk12_1 q778 dJ5_init_3_38 Z3 fun H4 k4 Z4 => ?_
  refine lv_aload_n hx hb dJ5_init_3_41 rfl l0 (lv_aload_nN hx hb dJ5_init_3_42 rfl l1 ?_)
  refine rt_pt B (v := .null) trivial rt_fk12_3 q776 dJ5_init_3_43 Z4 fun H5 k5 Z5 => ?_
  refine lv_aload_n hx hb dJ5_init_3_46 rfl l0 (lv_aload_nN hx hb dJ5_init_3_47 rfl l2 ?_)
  refine rt_pt B (v := .null) trivial rt_fk12_0 q777 dJ5_init_3_48 Z5 fun H6 k6 Z6 => ?_
  refine lv_iload_n hx hb dJ5_init_3_51 rfl l3 (lv_if_ne hx hb dJ5_init_3_52 (tgt := 60) rfl (fun q => absurd rfl q) (fun _ => ?_))
  refine lv_aload_n hx hb dJ5_init_3_55 rfl l0 (lv_null hx hb dJ5_init_3_56 ?_)
  refine rt_pt B (v := .null) trivial rt_fk12_2 q779 dJ5_init_3_57 Z6 fun H7 k7 Z7 => ?_
  have Z8 : rt_Zz X (ad a) H locs H7 k7 (fun j => rt_tr ad (rt_nv ((rt_ft 12).getD j 0) (hp_v h a j))) := by
    refine ⟨Z7.1, Z7.2.1, Z7.2.2.1.to fun j hj => ?_, Z7.2.2.2.1, Z7.2.2.2.2⟩
    have hz : ∀ j, j < 4 → rt_tr ad (rt_nv ((rt_ft 12).getD j 0) (hp_v h a j)) = .null := by
      intro j hj
      have e1 : hp_v h a j = .null := g3 j hj
      have e2 : (rt_ft 12).getD j 0 = 2 := by
        match j, hj with
        | 0, _ => rfl
        | 1, _ => rfl
        | 2, _ => rfl
        | 3, _ => rfl
      rw [e1, e2]; rfl
    unfold updV
    by_cases c2 : j = 2
    · rw [if_pos c2, hz j (by omega)]
    · rw [if_neg c2]
      by_cases c0 : j = 0
      · rw [if_pos c0, hz j (by omega)]
      · rw [if_neg c0]
        by_cases c3 : j = 3
        · rw [if_pos c3, hz j (by omega)]
        · rw [if_neg c3]
          by_cases c1 : j = 1
          · rw [if_pos c1, hz j (by omega)]
          · rw [if_neg c1, if_neg c2, if_neg c1, if_neg c0]
  obtain ⟨y1, y2, y3, y4, y5⟩ := Z8
  have hHR : rt_HR X ad h H7 := by
    refine rt_HR_put r.1 h0 ha rfl rfl rfl rfl rfl (fun _ _ _ => rfl) (fun j => r.1.2.2.2.2.2.1 a j ha) ⟨fun q' hq' => ?_, fun j' w' hj' hw' => ?_⟩ y1 y2 y4
    · rw [g2] at hq' ⊢
      cases hq'
      exact y3
    · rw [g2] at hj'
      omega
  obtain ⟨cA, qA⟩ : ∃ cA, H[ad a]? = some cA := ⟨_, hob.choose_spec.1⟩
  obtain ⟨cB, qB⟩ : ∃ cB, H7[ad a]? = some cB := ⟨_, y3.choose_spec.1⟩
  have r' : rt_Rel X 5 s n0 ad0 L [] h ad ls H7 k7 := ⟨hHR, ⟨r.2.1.1, r.2.1.2.1, by rw [rt_ss_put y1 y2 qA qB (y4 _ _ qA qB)]; exact r.2.1.2.2⟩, Z7.S r.2.2.1 hsz, r.2.2.2⟩
  exact rt_tight B.2.2.2.2.2.2.1.1 (h2 ad ls H7 k7 r')
end G
end SND18
