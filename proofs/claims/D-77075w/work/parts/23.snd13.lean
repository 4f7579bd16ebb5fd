/-! ===== the abstract machine against the JVM: bounds, counts below 0, null ===== -/
section SND13
section G
variable {X : rt_X} {Y : Nat → rt_Y} {cc : ByteArray} {nL : Nat} {own mn : String} {d : Nat} {l : Launch} {p : Program} {e : Env} {R : Room} {s : State} {m : MethodId} {args : Array Value} {below : List Frame} {meth : Method} {c : Code} {n0 : Nat} {ad0 : Nat → Nat} {Q : State → Prop} {ret : Option FieldType} {pc : Nat}
theorem rt_arr_lt {h : rt_H} {ad : Nat → Nat} {H : Heap} (r : rt_HR X ad h H) {a j : Nat} {w : FieldType × Nat} (ht : hp_t h a = 100 + j) (hw : rt_ai[j]? = some w) : hp_l h a < 2 ^ 31 := by
  obtain ⟨h0, ha, hc⟩ := rt_arr r ht hw
  have h1 := rt_ss_ge (r.2.1 a h0 ha).1 hc
  have h2 := r.2.2.2.2.2.2.1
  have h3 := h2.2.2
  unfold rt_bud at h3
  rw [arrV_size] at h1
  omega
theorem sc_ialdx {nx : Nat} (hd : decode cc pc = .ok (.iaload, 1)) (hn : pc + 1 = nx) : rt_Sc X Y cc nL own mn ret pc (op_aldx 100 0 nx) := by
  intro d l p e R s m args below meth c n0 ad0 Q C hd' Qr Qt B hC hR hT hM L S h h1 h2 ad ls H locs r
  match S, h1, h2, r with
  | i :: o :: S, h1, h2, r =>
    obtain ⟨g1, g2, g3, g4, g5⟩ := h1
    obtain ⟨k1, k2⟩ := Eq.mp rt_out_if h2
    by_cases hin : vp_in (rv_i i) (hp_l h (rv_a o))
    · exact sd_iaload hd hn B (S := i :: o :: S) ⟨g1, g2, g3, hin⟩ (k1 hin) ad ls H locs r
    · obtain ⟨x, rfl⟩ : ∃ x, i = .int x := ⟨_, rp_i_e g1⟩
      obtain ⟨a, rfl⟩ : ∃ a, o = .ref a := ⟨_, rp_r_e g2⟩
      obtain ⟨h0, ha, hc⟩ := rt_arr (a := a) (j := 0) (w := (.int, 0)) r.1 g3 rfl
      have hlt := rt_arr_lt (a := a) (j := 0) (w := (.int, 0)) r.1 g3 rfl
      intro T hT2 X0
      obtain ⟨t, st, q⟩ := rt_noteA B hT r g4 (rest := S) r.tail.tail.2.2.2.2.2.1 g5 (index_text_modelled x (hp_l h a)) (Nat.le_trans (index_text_bytes x hlt) (by decide)) (k2 hin) T hT2 X0
      refine ⟨t, ?_, q⟩
      have e1 := X0.ialoadOut B.1 (by rw [hT2]; exact hc) ((B.2.2.2.2.2.1.2.1 0 (.int, 0) rfl).arr _ _) (j := x) (by show (x < 0 ∨ (arrV _ _ _).slots.size ≤ _); rw [arrV_size]; exact Classical.byContradiction hin) (g := F0 m pc ls (.int x :: .ref (ad a) :: S.map (rt_tr ad))) rfl (rest := S.map (rt_tr ad)) rfl (by rw [B.2.1]; exact hd) t
      simp only [arrV_size] at e1
      exact e1 st
theorem sc_baldx {nx : Nat} (hd : decode cc pc = .ok (.baload, 1)) (hn : pc + 1 = nx) : rt_Sc X Y cc nL own mn ret pc (op_aldx 101 4 nx) := by
  intro d l p e R s m args below meth c n0 ad0 Q C hd' Qr Qt B hC hR hT hM L S h h1 h2 ad ls H locs r
  match S, h1, h2, r with
  | i :: o :: S, h1, h2, r =>
    obtain ⟨g1, g2, g3, g4, g5⟩ := h1
    obtain ⟨k1, k2⟩ := Eq.mp rt_out_if h2
    by_cases hin : vp_in (rv_i i) (hp_l h (rv_a o))
    · exact sd_baload hd hn B (S := i :: o :: S) ⟨g1, g2, g3, hin⟩ (k1 hin) ad ls H locs r
    · obtain ⟨x, rfl⟩ : ∃ x, i = .int x := ⟨_, rp_i_e g1⟩
      obtain ⟨a, rfl⟩ : ∃ a, o = .ref a := ⟨_, rp_r_e g2⟩
      obtain ⟨h0, ha, hc⟩ := rt_arr (a := a) (j := 1) (w := (.byte, 4)) r.1 g3 rfl
      have hlt := rt_arr_lt (a := a) (j := 1) (w := (.byte, 4)) r.1 g3 rfl
      intro T hT2 X0
      obtain ⟨t, st, q⟩ := rt_noteA B hT r g4 (rest := S) r.tail.tail.2.2.2.2.2.1 g5 (index_text_modelled x (hp_l h a)) (Nat.le_trans (index_text_bytes x hlt) (by decide)) (k2 hin) T hT2 X0
      refine ⟨t, ?_, q⟩
      have e1 := X0.baloadOut B.1 (by rw [hT2]; exact hc) ((B.2.2.2.2.2.1.2.1 1 (.byte, 4) rfl).arr _ _) (j := x) (by show (x < 0 ∨ (arrV _ _ _).slots.size ≤ _); rw [arrV_size]; exact Classical.byContradiction hin) (g := F0 m pc ls (.int x :: .ref (ad a) :: S.map (rt_tr ad))) rfl (rest := S.map (rt_tr ad)) rfl (by rw [B.2.1]; exact hd) t
      simp only [arrV_size] at e1
      exact e1 st
theorem sc_saldx {nx : Nat} (hd : decode cc pc = .ok (.saload, 1)) (hn : pc + 1 = nx) : rt_Sc X Y cc nL own mn ret pc (op_aldx 103 5 nx) := by
  intro d l p e R s m args below meth c n0 ad0 Q C hd' Qr Qt B hC hR hT hM L S h h1 h2 ad ls H locs r
  match S, h1, h2, r with
  | i :: o :: S, h1, h2, r =>
    obtain ⟨g1, g2, g3, g4, g5⟩ := h1
    obtain ⟨k1, k2⟩ := Eq.mp rt_out_if h2
    by_cases hin : vp_in (rv_i i) (hp_l h (rv_a o))
    · exact sd_saload hd hn B (S := i :: o :: S) ⟨g1, g2, g3, hin⟩ (k1 hin) ad ls H locs r
    · obtain ⟨x, rfl⟩ : ∃ x, i = .int x := ⟨_, rp_i_e g1⟩
      obtain ⟨a, rfl⟩ : ∃ a, o = .ref a := ⟨_, rp_r_e g2⟩
      obtain ⟨h0, ha, hc⟩ := rt_arr (a := a) (j := 3) (w := (.short, 5)) r.1 g3 rfl
      have hlt := rt_arr_lt (a := a) (j := 3) (w := (.short, 5)) r.1 g3 rfl
      intro T hT2 X0
      obtain ⟨t, st, q⟩ := rt_noteA B hT r g4 (rest := S) r.tail.tail.2.2.2.2.2.1 g5 (index_text_modelled x (hp_l h a)) (Nat.le_trans (index_text_bytes x hlt) (by decide)) (k2 hin) T hT2 X0
      refine ⟨t, ?_, q⟩
      have e1 := X0.saloadOut B.1 (by rw [hT2]; exact hc) ((B.2.2.2.2.2.1.2.1 3 (.short, 5) rfl).arr _ _) (j := x) (by show (x < 0 ∨ (arrV _ _ _).slots.size ≤ _); rw [arrV_size]; exact Classical.byContradiction hin) (g := F0 m pc ls (.int x :: .ref (ad a) :: S.map (rt_tr ad))) rfl (rest := S.map (rt_tr ad)) rfl (by rw [B.2.1]; exact hd) t
      simp only [arrV_size] at e1
      exact e1 st
theorem sc_iastx {nx : Nat} (hd : decode cc pc = .ok (.iastore, 1)) (hn : pc + 1 = nx) : rt_Sc X Y cc nL own mn ret pc (op_astx 100 0 nx) := by
  intro d l p e R s m args below meth c n0 ad0 Q C hd' Qr Qt B hC hR hT hM L S h h1 h2 ad ls H locs r
  match S, h1, h2, r with
  | v :: i :: o :: S, h1, h2, r =>
    obtain ⟨g0, g1, g2, g3, g4, g5⟩ := h1
    obtain ⟨k1, k2⟩ := Eq.mp rt_out_if h2
    by_cases hin : vp_in (rv_i i) (hp_l h (rv_a o))
    · exact sd_iastore hd hn B (S := v :: i :: o :: S) ⟨g0, g1, g2, g3, hin⟩ (k1 hin) ad ls H locs r
    · obtain ⟨y, rfl⟩ : ∃ y, v = .int y := ⟨_, rp_i_e g0⟩
      obtain ⟨x, rfl⟩ : ∃ x, i = .int x := ⟨_, rp_i_e g1⟩
      obtain ⟨a, rfl⟩ : ∃ a, o = .ref a := ⟨_, rp_r_e g2⟩
      obtain ⟨h0, ha, hc⟩ := rt_arr (a := a) (j := 0) (w := (.int, 0)) r.1 g3 rfl
      have hlt := rt_arr_lt (a := a) (j := 0) (w := (.int, 0)) r.1 g3 rfl
      intro T hT2 X0
      obtain ⟨t, st, q⟩ := rt_noteA B hT r g4 (rest := S) r.tail.tail.tail.2.2.2.2.2.1 g5 (index_text_modelled x (hp_l h a)) (Nat.le_trans (index_text_bytes x hlt) (by decide)) (k2 hin) T hT2 X0
      refine ⟨t, ?_, q⟩
      have e1 := X0.iastoreOut B.1 (by rw [hT2]; exact hc) ((B.2.2.2.2.2.1.2.1 0 (.int, 0) rfl).arr _ _) (j := x) (by show (x < 0 ∨ (arrV _ _ _).slots.size ≤ _); rw [arrV_size]; exact Classical.byContradiction hin) (g := F0 m pc ls (.int y :: .int x :: .ref (ad a) :: S.map (rt_tr ad))) rfl (rest := S.map (rt_tr ad)) rfl (by rw [B.2.1]; exact hd) t
      simp only [arrV_size] at e1
      exact e1 st
theorem sc_bastx {nx : Nat} (hd : decode cc pc = .ok (.bastore, 1)) (hn : pc + 1 = nx) : rt_Sc X Y cc nL own mn ret pc (op_astx 101 4 nx) := by
  intro d l p e R s m args below meth c n0 ad0 Q C hd' Qr Qt B hC hR hT hM L S h h1 h2 ad ls H locs r
  match S, h1, h2, r with
  | v :: i :: o :: S, h1, h2, r =>
    obtain ⟨g0, g1, g2, g3, g4, g5⟩ := h1
    obtain ⟨k1, k2⟩ := Eq.mp rt_out_if h2
    by_cases hin : vp_in (rv_i i) (hp_l h (rv_a o))
    · exact sd_bastore hd hn B (S := v :: i :: o :: S) ⟨g0, g1, g2, g3, hin⟩ (k1 hin) ad ls H locs r
    · obtain ⟨y, rfl⟩ : ∃ y, v = .int y := ⟨_, rp_i_e g0⟩
      obtain ⟨x, rfl⟩ : ∃ x, i = .int x := ⟨_, rp_i_e g1⟩
      obtain ⟨a, rfl⟩ : ∃ a, o = .ref a := ⟨_, rp_r_e g2⟩
      obtain ⟨h0, ha, hc⟩ := rt_arr (a := a) (j := 1) (w := (.byte, 4)) r.1 g3 rfl
      have hlt := rt_arr_lt (a := a) (j := 1) (w := (.byte, 4)) r.1 g3 rfl
      intro T hT2 X0
      obtain ⟨t, st, q⟩ := rt_noteA B hT r g4 (rest := S) r.tail.tail.tail.2.2.2.2.2.1 g5 (index_text_modelled x (hp_l h a)) (Nat.le_trans (index_text_bytes x hlt) (by decide)) (k2 hin) T hT2 X0
      refine ⟨t, ?_, q⟩
      have e1 := X0.bastoreOut B.1 (by rw [hT2]; exact hc) ((B.2.2.2.2.2.1.2.1 1 (.byte, 4) rfl).arr _ _) (j := x) (by show (x < 0 ∨ (arrV _ _ _).slots.size ≤ _); rw [arrV_size]; exact Classical.byContradiction hin) (g := F0 m pc ls (.int y :: .int x :: .ref (ad a) :: S.map (rt_tr ad))) rfl (rest := S.map (rt_tr ad)) rfl (by rw [B.2.1]; exact hd) t
      simp only [arrV_size] at e1
      exact e1 st
theorem sc_sastx {nx : Nat} (hd : decode cc pc = .ok (.sastore, 1)) (hn : pc + 1 = nx) : rt_Sc X Y cc nL own mn ret pc (op_astx 103 5 nx) := by
  intro d l p e R s m args below meth c n0 ad0 Q C hd' Qr Qt B hC hR hT hM L S h h1 h2 ad ls H locs r
  match S, h1, h2, r with
  | v :: i :: o :: S, h1, h2, r =>
    obtain ⟨g0, g1, g2, g3, g4, g5⟩ := h1
    obtain ⟨k1, k2⟩ := Eq.mp rt_out_if h2
    by_cases hin : vp_in (rv_i i) (hp_l h (rv_a o))
    · exact sd_sastore hd hn B (S := v :: i :: o :: S) ⟨g0, g1, g2, g3, hin⟩ (k1 hin) ad ls H locs r
    · obtain ⟨y, rfl⟩ : ∃ y, v = .int y := ⟨_, rp_i_e g0⟩
      obtain ⟨x, rfl⟩ : ∃ x, i = .int x := ⟨_, rp_i_e g1⟩
      obtain ⟨a, rfl⟩ : ∃ a, o = .ref a := ⟨_, rp_r_e g2⟩
      obtain ⟨h0, ha, hc⟩ := rt_arr (a := a) (j := 3) (w := (.short, 5)) r.1 g3 rfl
      have hlt := rt_arr_lt (a := a) (j := 3) (w := (.short, 5)) r.1 g3 rfl
      intro T hT2 X0
      obtain ⟨t, st, q⟩ := rt_noteA B hT r g4 (rest := S) r.tail.tail.tail.2.2.2.2.2.1 g5 (index_text_modelled x (hp_l h a)) (Nat.le_trans (index_text_bytes x hlt) (by decide)) (k2 hin) T hT2 X0
      refine ⟨t, ?_, q⟩
      have e1 := X0.sastoreOut B.1 (by rw [hT2]; exact hc) ((B.2.2.2.2.2.1.2.1 3 (.short, 5) rfl).arr _ _) (j := x) (by show (x < 0 ∨ (arrV _ _ _).slots.size ≤ _); rw [arrV_size]; exact Classical.byContradiction hin) (g := F0 m pc ls (.int y :: .int x :: .ref (ad a) :: S.map (rt_tr ad))) rfl (rest := S.map (rt_tr ad)) rfl (by rw [B.2.1]; exact hd) t
      simp only [arrV_size] at e1
      exact e1 st
theorem rt_txN (x : Int32) : (toString x == notModelled) = false ∧ (stringBytes (stringToUtf16 (toString x))).size ≤ 1000 := by
  have h1 := int32_print x
  have h2 := stringBytes_size_le (stringToUtf16 (toString x))
  have h3 := utf16_size_le (toString x)
  refine ⟨?_, by omega⟩
  rw [beq_eq_false_iff_ne]
  intro h
  rw [h] at h1
  exact absurd h1 (by decide)
theorem sc_newarrayx {atype : ArrayType} {j t ty nx : Nat} {ft : FieldType} (hd : decode cc pc = .ok (.newarray atype, 2)) (hj : t = 100 + j) (hw : rt_ai[j]? = some (ft, ty)) (hft : newarray.typeOf atype = ft) (hc : Cond.arrayClass ft ∈ lw_all) (hb : componentBytes ft ≤ 8) (hD : ∀ ad, defaultValue ft = rt_tr ad (rt_nv ty (rt_df ty))) (hn : pc + 2 = nx) : rt_Sc X Y cc nL own mn ret pc (op_newax t ty nx) := by
  intro d l p e R s m args below meth c n0 ad0 Q C hd' Qr Qt B hC hR hT hM L S h h1 h2 ad ls H locs r
  match S, h1, h2, r with
  | v :: S, h1, h2, r =>
    obtain ⟨g1, g2, g3, g4⟩ := h1
    obtain ⟨k1, k2⟩ := Eq.mp rt_out_if h2
    by_cases hneg : rv_i v < 0
    · obtain ⟨x, rfl⟩ : ∃ x, v = .int x := ⟨_, rp_i_e g1⟩
      obtain ⟨t1, t2⟩ := rt_txN x
      refine vx_newarrayZ B.1 B.2.1 (n := x) hneg hd fun tx htx => ?_
      subst htx
      exact rt_noteN B hT r g3 r.tail.2.2.2.2.2.1 g4 t1 t2 (k1 hneg)
    · have hbd : rt_bud h 1 (rv_i v).toNatClampNeg := by
        unfold rt_bud at g3 ⊢
        omega
      exact sd_newarray hd hj hw hft hc hb hD hn B (S := v :: S) ⟨g1, hneg, g2, hbd⟩ (k2 hneg) ad ls H locs r
end G
end SND13
