/-! ===== the abstract machine against the JVM: objects and arrays ===== -/
section SND3
/-- the field k of the class with tag t -/
def rt_ff : FieldType → Nat → Bool | .int, 0 => true | .long, 1 => true | .object _, 2 => true | .array _, 2 => true | .boolean, 3 => true | _, _ => false
def rt_fk (t k : Nat) (ref name desc : String) (ty : Nat) (fin : Bool) : Prop := ∃ q : vw_C, rt_cl[t]? = some q ∧ k < q.2.2 ∧ q.2.1 k = (ref, name, desc, fin) ∧ (rt_ft t).getD k 0 = ty ∧ ∃ ft, parseFieldDescriptor desc = some ft ∧ rt_ff ft ty = true
theorem rt_ff_ok {ft : FieldType} {ty : Nat} {v : Value} {ad : Nat → Nat} (h : rt_ff ft ty = true) (hv : rt_ty ty v) : narrow ft (rt_tr ad v) = rt_tr ad v ∧ fits ft (rt_tr ad v) = true ∧ rt_nv ty v = v := by
  unfold rt_ff at h
  split at h
  · rw [rp_i_e hv]; exact ⟨rfl, rfl, rfl⟩
  · rw [rp_l_e hv]; exact ⟨rfl, rfl, rfl⟩
  · rcases rp_a_e hv with e | e <;> rw [e] <;> exact ⟨rfl, rfl, rfl⟩
  · rcases rp_a_e hv with e | e <;> rw [e] <;> exact ⟨rfl, rfl, rfl⟩
  · rw [rp_i_e hv.1]
    refine ⟨?_, ?_, rfl⟩
    · rcases hv.2 with e | e <;> rw [e] <;> rfl
    · rcases hv.2 with e | e <;> rw [e] <;> rfl
  · cases h
section K
variable {X : rt_X} {cc : ByteArray} {nL : Nat} {own mn : String} {pc : Nat} {s : State} {ad : Nat → Nat} {h : rt_H} {H : Heap}
theorem rt_env.k (E : rt_env X s) : va_K (rx_D X) rt_cl [] s := ⟨E.1, fun k q hk => by cases hk⟩
/-- a cell whose tag is a class's -/
theorem rt_obj (R : rt_HR X ad h H) {a t : Nat} {q : vw_C} (ht : hp_t h a = t) (hq : rt_cl[t]? = some q) : 0 < a ∧ a < hp_n h ∧ t_OB (ad a) ((rx_D X).1 t) q.2.2 ((rx_D X).2 t) H (fun j => rt_tr ad (rt_nv ((rt_ft t).getD j 0) (hp_v h a j))) := by
  have hlt := rt_cl_lt t q hq
  have h0 : 0 < a := by
    rcases Nat.eq_zero_or_pos a with e | e
    · subst e; rw [R.2.2.2.1.2.1] at ht; omega
    · exact e
  have hn : a < hp_n h := by
    rcases Nat.lt_or_ge a (hp_n h) with e | e
    · exact e
    · rw [R.2.2.2.2.1 a e] at ht; omega
  refine ⟨h0, hn, ?_⟩
  have := (R.1 a h0 hn).1 q (by rw [ht]; exact hq)
  rw [ht] at this
  exact this
theorem rt_arr (R : rt_HR X ad h H) {a j : Nat} {w : FieldType × Nat} (ht : hp_t h a = 100 + j) (hw : rt_ai[j]? = some w) : 0 < a ∧ a < hp_n h ∧ H[ad a]? = some (arrV (rx_A X j) (hp_l h a) (fun i => rt_tr ad (rt_nv w.2 (hp_v h a i)))) := by
  have hlt : j < 15 := (List.getElem?_eq_some_iff.mp hw).1
  have h0 : 0 < a := by
    rcases Nat.eq_zero_or_pos a with e | e
    · subst e; rw [R.2.2.2.1.2.1] at ht; omega
    · exact e
  have hn : a < hp_n h := by
    rcases Nat.lt_or_ge a (hp_n h) with e | e
    · exact e
    · rw [R.2.2.2.2.1 a e] at ht; omega
  exact ⟨h0, hn, (R.1 a h0 hn).2 j w ht hw⟩
/-- the receiver of a call -/
theorem rt_recv (E : rt_env X s) (R : rt_HR X ad h H) {a t : Nat} {q : vw_C} (ht : hp_t h a = t) (hq : rt_cl[t]? = some q) : ∃ cell : Cell, H[ad a]? = some cell ∧ cell.vm.isStatics = false ∧ s.vm.findClass q.1 = some cell.cls := by
  obtain ⟨-, -, cell, q1, q2, q3, -⟩ := rt_obj R ht hq
  exact ⟨cell, q1, by rw [q3]; rfl, by rw [q2]; exact (E.1 t q hq).2.1⟩
def rt_fs (V : Nat → Value) (N : Nat) : List Value := (List.range N).map V
theorem rt_fs_get {V : Nat → Value} {N k : Nat} (h : k < N) : (rt_fs V N)[k]? = some (V k) := by simp [rt_fs, h]
theorem rt_fs_vp {V : Nat → Value} {N k : Nat} (h : k < N) : V k = vp_V (rt_fs V N) k := by
  show V k = (rt_fs V N).getD k .null
  rw [List.getD_eq_getElem?_getD, rt_fs_get h]; rfl
theorem rt_one {t : Nat} {q : vw_C} {a : Nat} {V : Nat → Value} (hq : rt_cl[t]? = some q) (h : t_OB a ((rx_D X).1 t) q.2.2 ((rx_D X).2 t) H V) : va_P (rx_D X) rt_cl [(a, .inr (t, rt_fs V q.2.2))] H := by
  intro k x hk
  match k, hk with
  | 0, hk => cases hk; exact ⟨q, hq, t_OB.to h fun j hj => rt_fs_vp hj⟩
theorem sd_getf {tg : List Nat} {k ty nx i : Nat} {ref name desc : String} {fin : Bool} (hd : decode cc pc = .ok (.getfield i, 3)) (hl : Cond.fieldLink own i ref name desc ∈ lw_all) (ht : ∀ t ∈ tg, rt_fk t k ref name desc ty fin) (hn : pc + 3 = nx) : rt_Sd X cc nL own mn pc (op_getf tg k ty nx) := by
  subst hn
  intro d l p e R s m args below meth c n0 ad0 Q C hd' Qr Qt B L S h h1 h2 ad ls H locs r
  match S, h1, h2, r with
  | v :: S, h1, h2, r =>
    obtain ⟨a, rfl⟩ : ∃ a, v = .ref a := ⟨_, rp_r_e h1.1⟩
    obtain ⟨q, hq, hk, hT, hty, -⟩ := ht _ h1.2
    obtain ⟨h0, ha, hob⟩ := rt_obj r.1 rfl hq
    have hin := (rt_cl_ok _ _ hq).1
    have h3 := h2 ad ls H locs (r.tail.push (rt_vn_nv (r.1.2.2.2.2.2.1 a k ha)))
    rw [← hty] at h3
    refine va_get (C := q.1) (T := q.2.1) (N := q.2.2) B.1 B.2.1 B.2.2.2.2.1 hin B.2.2.2.1 B.2.2.2.2.2.1.k (rt_one hq hob) 0 rfl hq k hk (ref := ref) ?_ ?_ (rt_fs_get hk) hd h3
    · rw [hT]; exact B.2.2.2.2.1 _ hl
    · rw [hT]; exact fun x hx => hx
theorem sd_getfN {tg : List Nat} {k ty nx i : Nat} {ref name desc host : String} {fin : Bool} (hd : decode cc pc = .ok (.getfield i, 3)) (hl : Cond.fieldLinkNest own i ref name desc host ∈ lw_tbl) (ht : ∀ t ∈ tg, rt_fk t k ref name desc ty fin) (hn : pc + 3 = nx) : rt_Sd X cc nL own mn pc (op_getf tg k ty nx) := by
  subst hn
  intro d l p e R s m args below meth c n0 ad0 Q C hd' Qr Qt B L S h h1 h2 ad ls H locs r
  match S, h1, h2, r with
  | v :: S, h1, h2, r =>
    obtain ⟨a, rfl⟩ : ∃ a, v = .ref a := ⟨_, rp_r_e h1.1⟩
    obtain ⟨q, hq, hk, hT, hty, -⟩ := ht _ h1.2
    obtain ⟨h0, ha, hob⟩ := rt_obj r.1 rfl hq
    have hin := (rt_cl_ok _ _ hq).1
    have h3 := h2 ad ls H locs (r.tail.push (rt_vn_nv (r.1.2.2.2.2.2.1 a k ha)))
    rw [← hty] at h3
    refine va_getN (C := q.1) (T := q.2.1) (N := q.2.2) (host := host) B.1 B.2.1 B.2.2.2.2.1 hin B.2.2.2.1 B.2.2.2.2.2.1.k (rt_one hq hob) 0 rfl hq k hk (ref := ref) ?_ ?_ (rt_fs_get hk) hd h3
    · rw [hT]; exact va_Nw.use rfl (B.2.2.2.2.2.1.2.2.1 _ hl rfl)
    · rw [hT]; exact fun x hx => hx
/-- behind a write of a field -/
theorem rt_Rel.put {s : State} {n0 : Nat} {ad0 : Nat → Nat} {L S : List Value} {ls : Array Slot} {locs : List Loc} {a t k : Nat} {v : Value} {q : vw_C} {H1 : Heap} {cell : Cell} {sl : Nat} (E : rt_env X s) (hts : ∀ w ∈ lw_all, w.before (#[] : Array Value) s = true ∨ True) (r : rt_Rel X nL s n0 ad0 L S h ad ls H locs) (ht : hp_t h a = t) (hq : rt_cl[t]? = some q) (hap : ∀ x y, x < q.2.2 → y < q.2.2 → x ≠ y → (rx_D X).2 t x ≠ (rx_D X).2 t y) (hk : k < q.2.2) (hv : rt_vn (hp_n h) v) (hnv : rt_nv ((rt_ft t).getD k 0) v = v)
    (q1 : H[ad a]? = some cell) (q2 : cell.cls = (rx_D X).1 t) (q3 : cell.vm = .none) (q4 : ∀ j, j < q.2.2 → cell.slots[(rx_D X).2 t j]? = some (rt_tr ad (rt_nv ((rt_ft t).getD j 0) (hp_v h a j)))) (hsl : sl = (rx_D X).2 t k)
    (e1 : H1[ad a]? = some (cell.setSlot sl (rt_tr ad v))) (e2 : H1.size = H.size) (e3 : ∀ x, x ≠ ad a → H1[x]? = H[x]?) : rt_Rel X nL s n0 ad0 L S (hp_set h a k v) ad ls H1 (locs ++ [⟨ad a, sl⟩]) := by
  subst hsl
  obtain ⟨h0, ha, -⟩ := rt_obj r.1 ht hq
  refine ⟨?_, ⟨r.2.1.1, r.2.1.2.1, by rw [rt_ss_put e2 e3 q1 e1 (by simp [Cell.setSlot])]; exact r.2.1.2.2⟩, r.2.2.1.put e2 e3 ((r.1.2.1 a h0 ha).1), r.2.2.2.1, r.2.2.2.2.1, r.2.2.2.2.2.1, r.2.2.2.2.2.2⟩
  refine rt_HR_put r.1 h0 ha rfl rfl rfl rfl rfl (fun x j hx => ?_) (fun j => ?_) ⟨fun q' hq' => ?_, fun j w hj hw => ?_⟩ e2 e3 (fun c c1 hc hc1 => ?_)
  · rw [hp_v_set, if_neg (fun z => hx z.1)]
  · rw [hp_v_set]
    split
    · exact hv
    · exact r.1.2.2.2.2.2.1 a j ha
  · rw [hp_t_set, ht, hq] at hq'
    cases hq'
    rw [hp_t_set, ht]
    refine ⟨_, e1, q2, q3, fun j hj => ?_⟩
    rw [t_set q4 hap hk _ j hj]
    show some (if j = k then rt_tr ad v else rt_tr ad (rt_nv ((rt_ft t).getD j 0) (hp_v h a j))) = some (rt_tr ad (rt_nv ((rt_ft t).getD j 0) (hp_v (hp_set h a k v) a j)))
    rw [hp_v_set]
    by_cases hjk : j = k
    · subst hjk
      rw [if_pos rfl, if_pos ⟨rfl, rfl⟩, hnv]
    · rw [if_neg hjk, if_neg (fun z => hjk z.2)]
  · have := rt_cl_lt t q hq
    rw [hp_t_set, ht] at hj
    omega
  · rw [q1] at hc
    cases hc
    rw [e1] at hc1
    cases hc1
    simp [Cell.setSlot]
theorem sd_putf {tg : List Nat} {k ty nx i : Nat} {ref name desc : String} (hd : decode cc pc = .ok (.putfield i, 3)) (hl : Cond.fieldLink own i ref name desc ∈ lw_all) (ht : ∀ t ∈ tg, rt_fk t k ref name desc ty false) (hn : pc + 3 = nx) : rt_Sd X cc nL own mn pc (op_putf tg k ty nx) := by
  subst hn
  intro d l p e R s m args below meth c n0 ad0 Q C hd' Qr Qt B L S h h1 h2 ad ls H locs r
  match S, h1, h2, r with
  | v :: o :: S, h1, h2, r =>
    obtain ⟨a, rfl⟩ : ∃ a, o = .ref a := ⟨_, rp_r_e h1.2.1⟩
    obtain ⟨q, hq, hk, hT, hty, ft, hft, hff⟩ := ht _ h1.2.2
    obtain ⟨h0, ha, cell, q1, q2, q3, q4⟩ := rt_obj r.1 rfl hq
    obtain ⟨hin, ⟨ty0, hty0⟩, hnm, -⟩ := rt_cl_ok _ _ hq
    obtain ⟨g1, g2, g3⟩ := rt_ff_ok (ad := ad) hff h1.1
    have hap := va_apart (own := own) B.2.2.2.2.1 hin ty0 hty0 hnm B.2.2.2.2.2.1.k hq
    obtain ⟨hS, hfc, kC, hkC, hkind⟩ := B.2.2.2.2.2.1.1 _ _ hq
    obtain ⟨cf, kf, fi, f, hi, hsl⟩ := hS k hk
    have hlay := B.2.2.2.2.1 _ (hin _ (u_in_lay hk))
    unfold u_lay at hlay
    rw [hT] at hlay hi
    rw [if_neg Bool.false_ne_true] at hlay
    have hst := (u_facts hfc hkC (Or.inl hlay) hi).1
    have h6 := u_store hfc hkC hkind hlay hi hft g1 g2
    refine W.putK B.1 B.2.1 (f := f) ⟨B.2.2.2.1, B.2.2.2.2.1 _ hl, ⟨_, _, _, hi⟩, hst⟩ (by rw [q2]; exact h6) q1 q3 (by rw [hsl]; exact k2_hasslot (q4 k hk)) rfl rfl hd fun H' e1 e2 e3 => ?_
    have hr := rt_Rel.put B.2.2.2.2.2.1 (fun _ _ => Or.inr trivial) r.tail.tail rfl hq hap hk r.head (by rw [hty]; exact g3) q1 q2 q3 q4 hsl e1 e2 e3
    exact rt_tight B.2.2.2.2.2.2.1.1 (h2 ad ls H' _ hr)
theorem sd_putfN {tg : List Nat} {k ty nx i : Nat} {ref name desc host : String} (hd : decode cc pc = .ok (.putfield i, 3)) (hl : Cond.fieldLinkNest own i ref name desc host ∈ lw_tbl) (ht : ∀ t ∈ tg, rt_fk t k ref name desc ty false) (hn : pc + 3 = nx) : rt_Sd X cc nL own mn pc (op_putf tg k ty nx) := by
  subst hn
  intro d l p e R s m args below meth c n0 ad0 Q C hd' Qr Qt B L S h h1 h2 ad ls H locs r
  match S, h1, h2, r with
  | v :: o :: S, h1, h2, r =>
    obtain ⟨a, rfl⟩ : ∃ a, o = .ref a := ⟨_, rp_r_e h1.2.1⟩
    obtain ⟨q, hq, hk, hT, hty, ft, hft, hff⟩ := ht _ h1.2.2
    obtain ⟨h0, ha, cell, q1, q2, q3, q4⟩ := rt_obj r.1 rfl hq
    obtain ⟨hin, ⟨ty0, hty0⟩, hnm, -⟩ := rt_cl_ok _ _ hq
    obtain ⟨g1, g2, g3⟩ := rt_ff_ok (ad := ad) hff h1.1
    have hap := va_apart (own := own) B.2.2.2.2.1 hin ty0 hty0 hnm B.2.2.2.2.2.1.k hq
    obtain ⟨hS, hfc, kC, hkC, hkind⟩ := B.2.2.2.2.2.1.1 _ _ hq
    obtain ⟨cf, kf, fi, f, hi, hsl⟩ := hS k hk
    have hlay := B.2.2.2.2.1 _ (hin _ (u_in_lay hk))
    unfold u_lay at hlay
    rw [hT] at hlay hi
    rw [if_neg Bool.false_ne_true] at hlay
    have hst := (u_facts hfc hkC (Or.inl hlay) hi).1
    have h6 := u_store hfc hkC hkind hlay hi hft g1 g2
    refine va_WputK B.1 B.2.1 (f := f) (host := host) B.2.2.2.1 (va_Nw.use rfl (B.2.2.2.2.2.1.2.2.1 _ hl rfl)) hi hst (by rw [q2]; exact h6) q1 q3 (by rw [hsl]; exact k2_hasslot (q4 k hk)) rfl rfl hd fun H' e1 e2 e3 => ?_
    have hr := rt_Rel.put B.2.2.2.2.2.1 (fun _ _ => Or.inr trivial) r.tail.tail rfl hq hap hk r.head (by rw [hty]; exact g3) q1 q2 q3 q4 hsl e1 e2 e3
    exact rt_tight B.2.2.2.2.2.2.1.1 (h2 ad ls H' _ hr)
/-- a final field, in its class's constructor -/
theorem sd_putfF {tg : List Nat} {k ty nx i : Nat} {name desc : String} (hd : decode cc pc = .ok (.putfield i, 3)) (hmn : mn = "<init>") (hl : Cond.fieldLink own i own name desc ∈ lw_all) (ht : ∀ t ∈ tg, rt_fk t k own name desc ty true) (hn : pc + 3 = nx) : rt_Sd X cc nL own mn pc (op_putf tg k ty nx) := by
  subst hn
  intro d l p e R s m args below meth c n0 ad0 Q C hd' Qr Qt B L S h h1 h2 ad ls H locs r
  match S, h1, h2, r with
  | v :: o :: S, h1, h2, r =>
    obtain ⟨a, rfl⟩ : ∃ a, o = .ref a := ⟨_, rp_r_e h1.2.1⟩
    obtain ⟨q, hq, hk, hT, hty, ft, hft, hff⟩ := ht _ h1.2.2
    obtain ⟨h0, ha, cell, q1, q2, q3, q4⟩ := rt_obj r.1 rfl hq
    obtain ⟨hin, ⟨ty0, hty0⟩, hnm, -⟩ := rt_cl_ok _ _ hq
    obtain ⟨g1, g2, g3⟩ := rt_ff_ok (ad := ad) hff h1.1
    have hap := va_apart (own := own) B.2.2.2.2.1 hin ty0 hty0 hnm B.2.2.2.2.2.1.k hq
    obtain ⟨hS, hfc, kC, hkC, hkind⟩ := B.2.2.2.2.2.1.1 _ _ hq
    obtain ⟨cf, kf, fi, f, hi, hsl⟩ := hS k hk
    have hlay := B.2.2.2.2.1 _ (hin _ (u_in_lay hk))
    unfold u_lay at hlay
    rw [hT] at hlay hi
    rw [if_pos rfl] at hlay
    have hst := (u_facts hfc hkC (Or.inr hlay) hi).1
    have hcf : m.cls = cf := by
      obtain ⟨_, _, c', _, _, _, -, -, hf', -, -, -, hown2, -⟩ := Cond.laysFinal_spec hlay
      have e1 : c' = cf := by have := hi.symm.trans hf'; simp at this; exact this.1.symm
      rw [← e1]; exact Option.some.inj (B.2.2.2.1.symm.trans hown2)
    have h6 := u_fits hfc hkC hkind (Or.inr hlay) hi hft g1 g2
    refine W.putFinK B.1 B.2.1 B.2.2.2.1 (B.2.2.2.2.1 _ hl) hi hst hcf (by rw [B.2.2.2.2.2.2.2.2.2.2]; exact hmn) (by rw [q2]; exact h6) q1 q3 (by rw [hsl]; exact k2_hasslot (q4 k hk)) rfl rfl hd fun H' e1 e2 e3 => ?_
    have hr := rt_Rel.put B.2.2.2.2.2.1 (fun _ _ => Or.inr trivial) r.tail.tail rfl hq hap hk r.head (by rw [hty]; exact g3) q1 q2 q3 q4 hsl e1 e2 e3
    exact rt_tight B.2.2.2.2.2.2.1.1 (h2 ad ls H' _ hr)
theorem sd_iaload {nx : Nat} (hd : decode cc pc = .ok (.iaload, 1)) (hn : pc + 1 = nx) : rt_Sd X cc nL own mn pc (op_ald 100 0 nx) := by
  subst hn
  intro d l p e R s m args below meth c n0 ad0 Q C hd' Qr Qt B L S h h1 h2 ad ls H locs r
  match S, h1, h2, r with
  | i :: o :: S, h1, h2, r =>
    obtain ⟨x, rfl⟩ : ∃ x, i = .int x := ⟨_, rp_i_e h1.1⟩
    obtain ⟨a, rfl⟩ : ∃ a, o = .ref a := ⟨_, rp_r_e h1.2.1⟩
    obtain ⟨h0, ha, hc⟩ := rt_arr (a := a) (j := 0) (w := (.int, 0)) r.1 h1.2.2.1 rfl
    have hin : vp_in x (hp_l h a) := h1.2.2.2
    have hlt : x.toNatClampNeg < hp_l h a := Nat.not_le.mp fun q => hin (Or.inr q)
    exact W.iald B.1 B.2.1 hc ((B.2.2.2.2.2.1.2.1 0 (.int, 0) rfl).arr _ _) (fun q => by cases q) (by rw [arrV_size]; exact hin) (by rw [arrV_read _ _ hlt]; rfl) rfl rfl hd (h2 ad ls H locs (r.tail.tail.push (rt_vn_nv (r.1.2.2.2.2.2.1 a _ ha))))
theorem sd_laload {nx : Nat} (hd : decode cc pc = .ok (.laload, 1)) (hn : pc + 1 = nx) : rt_Sd X cc nL own mn pc (op_ald 104 1 nx) := by
  subst hn
  intro d l p e R s m args below meth c n0 ad0 Q C hd' Qr Qt B L S h h1 h2 ad ls H locs r
  match S, h1, h2, r with
  | i :: o :: S, h1, h2, r =>
    obtain ⟨x, rfl⟩ : ∃ x, i = .int x := ⟨_, rp_i_e h1.1⟩
    obtain ⟨a, rfl⟩ : ∃ a, o = .ref a := ⟨_, rp_r_e h1.2.1⟩
    obtain ⟨h0, ha, hc⟩ := rt_arr (a := a) (j := 4) (w := (.long, 1)) r.1 h1.2.2.1 rfl
    have hin : vp_in x (hp_l h a) := h1.2.2.2
    have hlt : x.toNatClampNeg < hp_l h a := Nat.not_le.mp fun q => hin (Or.inr q)
    exact W.lald B.1 B.2.1 hc ((B.2.2.2.2.2.1.2.1 4 (.long, 1) rfl).arr _ _) (fun q => by cases q) (by rw [arrV_size]; exact hin) (by rw [arrV_read _ _ hlt]; rfl) rfl rfl hd (h2 ad ls H locs (r.tail.tail.push (rt_vn_nv (r.1.2.2.2.2.2.1 a _ ha))))
theorem sd_baload {nx : Nat} (hd : decode cc pc = .ok (.baload, 1)) (hn : pc + 1 = nx) : rt_Sd X cc nL own mn pc (op_ald 101 4 nx) := by
  subst hn
  intro d l p e R s m args below meth c n0 ad0 Q C hd' Qr Qt B L S h h1 h2 ad ls H locs r
  match S, h1, h2, r with
  | i :: o :: S, h1, h2, r =>
    obtain ⟨x, rfl⟩ : ∃ x, i = .int x := ⟨_, rp_i_e h1.1⟩
    obtain ⟨a, rfl⟩ : ∃ a, o = .ref a := ⟨_, rp_r_e h1.2.1⟩
    obtain ⟨h0, ha, hc⟩ := rt_arr (a := a) (j := 1) (w := (.byte, 4)) r.1 h1.2.2.1 rfl
    have hin : vp_in x (hp_l h a) := h1.2.2.2
    have hlt : x.toNatClampNeg < hp_l h a := Nat.not_le.mp fun q => hin (Or.inr q)
    exact W.bald B.1 B.2.1 hc ((B.2.2.2.2.2.1.2.1 1 (.byte, 4) rfl).arr _ _) (fun q => by cases q) (by rw [arrV_size]; exact hin) (by rw [arrV_read _ _ hlt]; rfl) rfl rfl hd (h2 ad ls H locs (r.tail.tail.push (rt_vn_nv (r.1.2.2.2.2.2.1 a _ ha))))
theorem sd_zaload {nx : Nat} (hd : decode cc pc = .ok (.baload, 1)) (hn : pc + 1 = nx) : rt_Sd X cc nL own mn pc (op_ald 102 3 nx) := by
  subst hn
  intro d l p e R s m args below meth c n0 ad0 Q C hd' Qr Qt B L S h h1 h2 ad ls H locs r
  match S, h1, h2, r with
  | i :: o :: S, h1, h2, r =>
    obtain ⟨x, rfl⟩ : ∃ x, i = .int x := ⟨_, rp_i_e h1.1⟩
    obtain ⟨a, rfl⟩ : ∃ a, o = .ref a := ⟨_, rp_r_e h1.2.1⟩
    obtain ⟨h0, ha, hc⟩ := rt_arr (a := a) (j := 2) (w := (.boolean, 3)) r.1 h1.2.2.1 rfl
    have hin : vp_in x (hp_l h a) := h1.2.2.2
    have hlt : x.toNatClampNeg < hp_l h a := Nat.not_le.mp fun q => hin (Or.inr q)
    exact W.zald B.1 B.2.1 hc ((B.2.2.2.2.2.1.2.1 2 (.boolean, 3) rfl).arr _ _) (fun q => by cases q) (by rw [arrV_size]; exact hin) (by rw [arrV_read _ _ hlt]; rfl) rfl rfl hd (h2 ad ls H locs (r.tail.tail.push (rt_vn_nv (r.1.2.2.2.2.2.1 a _ ha))))
theorem sd_saload {nx : Nat} (hd : decode cc pc = .ok (.saload, 1)) (hn : pc + 1 = nx) : rt_Sd X cc nL own mn pc (op_ald 103 5 nx) := by
  subst hn
  intro d l p e R s m args below meth c n0 ad0 Q C hd' Qr Qt B L S h h1 h2 ad ls H locs r
  match S, h1, h2, r with
  | i :: o :: S, h1, h2, r =>
    obtain ⟨x, rfl⟩ : ∃ x, i = .int x := ⟨_, rp_i_e h1.1⟩
    obtain ⟨a, rfl⟩ : ∃ a, o = .ref a := ⟨_, rp_r_e h1.2.1⟩
    obtain ⟨h0, ha, hc⟩ := rt_arr (a := a) (j := 3) (w := (.short, 5)) r.1 h1.2.2.1 rfl
    have hin : vp_in x (hp_l h a) := h1.2.2.2
    have hlt : x.toNatClampNeg < hp_l h a := Nat.not_le.mp fun q => hin (Or.inr q)
    exact W.sald B.1 B.2.1 hc ((B.2.2.2.2.2.1.2.1 3 (.short, 5) rfl).arr _ _) (fun q => by cases q) (by rw [arrV_size]; exact hin) (by rw [arrV_read _ _ hlt]; rfl) rfl rfl hd (h2 ad ls H locs (r.tail.tail.push (rt_vn_nv (r.1.2.2.2.2.2.1 a _ ha))))
/-- an array of references -/
theorem sd_aaload {tg j nx : Nat} {E : FieldType} (hd : decode cc pc = .ok (.aaload, 1)) (hj : tg = 100 + j) (hw : rt_ai[j]? = some (E, 2)) (hE : E.isReference = true) (hn : pc + 1 = nx) : rt_Sd X cc nL own mn pc (op_ald tg 2 nx) := by
  subst hn; subst hj
  intro d l p e R s m args below meth c n0 ad0 Q C hd' Qr Qt B L S h h1 h2 ad ls H locs r
  match S, h1, h2, r with
  | i :: o :: S, h1, h2, r =>
    obtain ⟨x, rfl⟩ : ∃ x, i = .int x := ⟨_, rp_i_e h1.1⟩
    obtain ⟨a, rfl⟩ : ∃ a, o = .ref a := ⟨_, rp_r_e h1.2.1⟩
    obtain ⟨h0, ha, hc⟩ := rt_arr (a := a) r.1 h1.2.2.1 hw
    have hin : vp_in x (hp_l h a) := h1.2.2.2
    have hlt : x.toNatClampNeg < hp_l h a := Nat.not_le.mp fun q => hin (Or.inr q)
    exact W.aald B.1 B.2.1 hc ((B.2.2.2.2.2.1.2.1 j _ hw).arr _ _) hE (fun q => by cases q) (by rw [arrV_size]; exact hin) (by rw [arrV_read _ _ hlt]; rfl) rfl rfl hd (h2 ad ls H locs (r.tail.tail.push (rt_vn_nv (r.1.2.2.2.2.2.1 a _ ha))))
/-- the law's own script -/
theorem rt_scr {E : rt_env X s} (R : rt_HR X ad h H) {a : Nat} (ht : hp_t h a = 99) : a = 0 ∧ ∃ scr : Cell, H[ad a]? = some scr ∧ s.isArrayOf scr .int ∧ scr.vm ≠ .unknown ∧ scr.slots.size = hp_l h a ∧ ∀ j, j < hp_l h a → scr.slots[j]? = some (rt_tr ad (rt_nv 0 (hp_v h a j))) := by
  have e := R.2.2.2.1.2.2.2.2.2 a ht
  subst e
  obtain ⟨⟨scr, g1, g2, g3, g4, g5⟩, hb, -⟩ := E.2.2.2.2.2.2.1
  refine ⟨rfl, scr, ?_, g2, g3, by rw [R.2.2.2.1.2.2.1]; exact g4, fun j hj => ?_⟩
  · rw [R.2.2.2.1.1, R.2.2.2.2.2.2.2.2 _ hb]; exact g1
  · rw [R.2.2.2.1.2.2.1] at hj
    rw [R.2.2.2.1.2.2.2.1 j hj]
    exact g5 j hj
theorem sd_scr {nx : Nat} (hd : decode cc pc = .ok (.iaload, 1)) (hn : pc + 1 = nx) : rt_Sd X cc nL own mn pc (op_ald 99 0 nx) := by
  subst hn
  intro d l p e R s m args below meth c n0 ad0 Q C hd' Qr Qt B L S h h1 h2 ad ls H locs r
  match S, h1, h2, r with
  | i :: o :: S, h1, h2, r =>
    obtain ⟨x, rfl⟩ : ∃ x, i = .int x := ⟨_, rp_i_e h1.1⟩
    obtain ⟨a, rfl⟩ : ∃ a, o = .ref a := ⟨_, rp_r_e h1.2.1⟩
    obtain ⟨h0, scr, g1, g2, g3, g4, g5⟩ := rt_scr (E := B.2.2.2.2.2.1) r.1 h1.2.2.1
    have ha : a < hp_n h := r.tail.head
    have hin : vp_in x (hp_l h a) := h1.2.2.2
    have hlt : x.toNatClampNeg < hp_l h a := Nat.not_le.mp fun q => hin (Or.inr q)
    exact W.iald B.1 B.2.1 g1 g2 g3 (by rw [g4]; exact hin) (g5 _ hlt) rfl rfl hd (h2 ad ls H locs (r.tail.tail.push (rt_vn_nv (r.1.2.2.2.2.2.1 a _ ha))))
theorem sd_alenS {nx : Nat} (hd : decode cc pc = .ok (.arraylength, 1)) (hn : pc + 1 = nx) : rt_Sd X cc nL own mn pc (op_alen [99] nx) := by
  subst hn
  intro d l p e R s m args below meth c n0 ad0 Q C hd' Qr Qt B L S h h1 h2 ad ls H locs r
  match S, h1, h2, r with
  | o :: S, h1, h2, r =>
    obtain ⟨a, rfl⟩ : ∃ a, o = .ref a := ⟨_, rp_r_e h1.1⟩
    obtain ⟨h0, scr, g1, g2, g3, g4, g5⟩ := rt_scr (E := B.2.2.2.2.2.1) r.1 (List.mem_singleton.mp h1.2)
    exact W.alen B.1 B.2.1 g1 g2 (by rw [g4]) rfl rfl hd (h2 ad ls H locs (r.tail.push trivial))
theorem sd_alen {tg : List Nat} {nx : Nat} (hd : decode cc pc = .ok (.arraylength, 1)) (ht : ∀ t ∈ tg, ∃ (j : Nat) (w : FieldType × Nat), t = 100 + j ∧ rt_ai[j]? = some w) (hn : pc + 1 = nx) : rt_Sd X cc nL own mn pc (op_alen tg nx) := by
  subst hn
  intro d l p e R s m args below meth c n0 ad0 Q C hd' Qr Qt B L S h h1 h2 ad ls H locs r
  match S, h1, h2, r with
  | o :: S, h1, h2, r =>
    obtain ⟨a, rfl⟩ : ∃ a, o = .ref a := ⟨_, rp_r_e h1.1⟩
    obtain ⟨j, w, hj, hw⟩ := ht _ h1.2
    obtain ⟨h0, ha, hc⟩ := rt_arr (a := a) r.1 hj hw
    exact W.alen B.1 B.2.1 hc ((B.2.2.2.2.2.1.2.1 j _ hw).arr _ _) (by rw [arrV_size]; rfl) rfl rfl hd (h2 ad ls H locs (r.tail.push trivial))
/-- behind a write into an array -/
theorem rt_Rel.aput {n0 : Nat} {ad0 : Nat → Nat} {L S : List Value} {ls : Array Slot} {locs : List Loc} {a j k : Nat} {v w : Value} {x : FieldType × Nat} {H1 : Heap} (r : rt_Rel X nL s n0 ad0 L S h ad ls H locs) (ht : hp_t h a = 100 + j) (hw : rt_ai[j]? = some x) (hv : rt_vn (hp_n h) v) (hnv : rt_tr ad (rt_nv x.2 v) = w)
    (e1 : H1[ad a]? = some ((arrV (rx_A X j) (hp_l h a) (fun i => rt_tr ad (rt_nv x.2 (hp_v h a i)))).setSlot k w)) (e2 : H1.size = H.size) (e3 : ∀ x, x ≠ ad a → H1[x]? = H[x]?) : rt_Rel X nL s n0 ad0 L S (hp_set h a k v) ad ls H1 (locs ++ [⟨ad a, k⟩]) := by
  obtain ⟨h0, ha, hc0⟩ := rt_arr r.1 ht hw
  refine ⟨?_, ⟨r.2.1.1, r.2.1.2.1, by rw [rt_ss_put e2 e3 hc0 e1 (by simp [Cell.setSlot])]; exact r.2.1.2.2⟩, r.2.2.1.put e2 e3 ((r.1.2.1 a h0 ha).1), r.2.2.2.1, r.2.2.2.2.1, r.2.2.2.2.2.1, r.2.2.2.2.2.2⟩
  refine rt_HR_put r.1 h0 ha rfl rfl rfl rfl rfl (fun x j hx => ?_) (fun j => ?_) ⟨fun q' hq' => ?_, fun j' w' hj' hw' => ?_⟩ e2 e3 (fun c c1 hc hc1 => ?_)
  · rw [hp_v_set, if_neg (fun z => hx z.1)]
  · rw [hp_v_set]
    split
    · exact hv
    · exact r.1.2.2.2.2.2.1 a j ha
  · have := rt_cl_lt _ q' hq'
    rw [hp_t_set, ht] at this
    omega
  · rw [hp_t_set, ht] at hj'
    have e : j' = j := by omega
    subst e
    rw [hw] at hw'
    cases hw'
    rw [e1, arrV_store, hp_l_set]
    congr 2
    funext i
    unfold updV
    rw [hp_v_set]
    by_cases hik : i = k
    · rw [if_pos hik, if_pos ⟨rfl, hik⟩, hnv]
    · rw [if_neg hik, if_neg (fun z => hik z.2)]
  · rw [hc0] at hc
    cases hc
    rw [e1] at hc1
    cases hc1
    simp [Cell.setSlot]
theorem rt_i8 (x : Int32) : x.toInt8.toInt32.toInt8.toInt32 = x.toInt8.toInt32 := by simp
theorem rt_i16 (x : Int32) : x.toInt16.toInt32.toInt16.toInt32 = x.toInt16.toInt32 := by simp
theorem sd_iastore {nx : Nat} (hd : decode cc pc = .ok (.iastore, 1)) (hn : pc + 1 = nx) : rt_Sd X cc nL own mn pc (op_ast 100 0 nx) := by
  subst hn
  intro d l p e R s m args below meth c n0 ad0 Q C hd' Qr Qt B L S h h1 h2 ad ls H locs r
  match S, h1, h2, r with
  | v :: i :: o :: S, h1, h2, r =>
    obtain ⟨x, rfl⟩ : ∃ x, v = .int x := ⟨_, rp_i_e h1.1⟩
    obtain ⟨y, rfl⟩ : ∃ y, i = .int y := ⟨_, rp_i_e h1.2.1⟩
    obtain ⟨a, rfl⟩ : ∃ a, o = .ref a := ⟨_, rp_r_e h1.2.2.1⟩
    obtain ⟨h0, ha, hc⟩ := rt_arr (a := a) (j := 0) (w := (.int, 0)) r.1 h1.2.2.2.1 rfl
    have hin : vp_in y (hp_l h a) := h1.2.2.2.2
    refine W.iast B.1 B.2.1 hc ((B.2.2.2.2.2.1.2.1 0 (.int, 0) rfl).arr _ _) (fun q => by cases q) (by rw [arrV_size]; exact hin) rfl rfl hd fun H1 e1 e2 e3 => ?_
    exact rt_tight B.2.2.2.2.2.2.1.1 (h2 ad ls H1 _ (rt_Rel.aput (v := .int x) r.tail.tail.tail h1.2.2.2.1 rfl trivial (rfl) e1 e2 e3))
theorem sd_lastore {nx : Nat} (hd : decode cc pc = .ok (.lastore, 1)) (hn : pc + 1 = nx) : rt_Sd X cc nL own mn pc (op_ast 104 1 nx) := by
  subst hn
  intro d l p e R s m args below meth c n0 ad0 Q C hd' Qr Qt B L S h h1 h2 ad ls H locs r
  match S, h1, h2, r with
  | v :: i :: o :: S, h1, h2, r =>
    obtain ⟨x, rfl⟩ : ∃ x, v = .long x := ⟨_, rp_l_e h1.1⟩
    obtain ⟨y, rfl⟩ : ∃ y, i = .int y := ⟨_, rp_i_e h1.2.1⟩
    obtain ⟨a, rfl⟩ : ∃ a, o = .ref a := ⟨_, rp_r_e h1.2.2.1⟩
    obtain ⟨h0, ha, hc⟩ := rt_arr (a := a) (j := 4) (w := (.long, 1)) r.1 h1.2.2.2.1 rfl
    have hin : vp_in y (hp_l h a) := h1.2.2.2.2
    refine W.last B.1 B.2.1 hc ((B.2.2.2.2.2.1.2.1 4 (.long, 1) rfl).arr _ _) (fun q => by cases q) (by rw [arrV_size]; exact hin) rfl rfl hd fun H1 e1 e2 e3 => ?_
    exact rt_tight B.2.2.2.2.2.2.1.1 (h2 ad ls H1 _ (rt_Rel.aput (v := .long x) r.tail.tail.tail h1.2.2.2.1 rfl trivial (rfl) e1 e2 e3))
theorem sd_bastore {nx : Nat} (hd : decode cc pc = .ok (.bastore, 1)) (hn : pc + 1 = nx) : rt_Sd X cc nL own mn pc (op_ast 101 4 nx) := by
  subst hn
  intro d l p e R s m args below meth c n0 ad0 Q C hd' Qr Qt B L S h h1 h2 ad ls H locs r
  match S, h1, h2, r with
  | v :: i :: o :: S, h1, h2, r =>
    obtain ⟨x, rfl⟩ : ∃ x, v = .int x := ⟨_, rp_i_e h1.1⟩
    obtain ⟨y, rfl⟩ : ∃ y, i = .int y := ⟨_, rp_i_e h1.2.1⟩
    obtain ⟨a, rfl⟩ : ∃ a, o = .ref a := ⟨_, rp_r_e h1.2.2.1⟩
    obtain ⟨h0, ha, hc⟩ := rt_arr (a := a) (j := 1) (w := (.byte, 4)) r.1 h1.2.2.2.1 rfl
    have hin : vp_in y (hp_l h a) := h1.2.2.2.2
    refine W.bast B.1 B.2.1 hc ((B.2.2.2.2.2.1.2.1 1 (.byte, 4) rfl).arr _ _) (fun q => by cases q) (by rw [arrV_size]; exact hin) rfl rfl hd fun H1 e1 e2 e3 => ?_
    exact rt_tight B.2.2.2.2.2.2.1.1 (h2 ad ls H1 _ (rt_Rel.aput (v := .int x.toInt8.toInt32) (x := (.byte, 4)) r.tail.tail.tail h1.2.2.2.1 rfl trivial (congrArg Value.int (rt_i8 x)) e1 e2 e3))
theorem sd_zastore {nx : Nat} (hd : decode cc pc = .ok (.bastore, 1)) (hn : pc + 1 = nx) : rt_Sd X cc nL own mn pc (op_ast 102 3 nx) := by
  subst hn
  intro d l p e R s m args below meth c n0 ad0 Q C hd' Qr Qt B L S h h1 h2 ad ls H locs r
  match S, h1, h2, r with
  | v :: i :: o :: S, h1, h2, r =>
    obtain ⟨x, rfl⟩ : ∃ x, v = .int x := ⟨_, rp_i_e h1.1⟩
    obtain ⟨y, rfl⟩ : ∃ y, i = .int y := ⟨_, rp_i_e h1.2.1⟩
    obtain ⟨a, rfl⟩ : ∃ a, o = .ref a := ⟨_, rp_r_e h1.2.2.1⟩
    obtain ⟨h0, ha, hc⟩ := rt_arr (a := a) (j := 2) (w := (.boolean, 3)) r.1 h1.2.2.2.1 rfl
    have hin : vp_in y (hp_l h a) := h1.2.2.2.2
    refine W.zast B.1 B.2.1 hc ((B.2.2.2.2.2.1.2.1 2 (.boolean, 3) rfl).arr _ _) (fun q => by cases q) (by rw [arrV_size]; exact hin) rfl rfl hd fun H1 e1 e2 e3 => ?_
    exact rt_tight B.2.2.2.2.2.2.1.1 (h2 ad ls H1 _ (rt_Rel.aput (v := .int (vp_nar .boolean x)) r.tail.tail.tail h1.2.2.2.1 rfl trivial (rfl) e1 e2 e3))
theorem sd_sastore {nx : Nat} (hd : decode cc pc = .ok (.sastore, 1)) (hn : pc + 1 = nx) : rt_Sd X cc nL own mn pc (op_ast 103 5 nx) := by
  subst hn
  intro d l p e R s m args below meth c n0 ad0 Q C hd' Qr Qt B L S h h1 h2 ad ls H locs r
  match S, h1, h2, r with
  | v :: i :: o :: S, h1, h2, r =>
    obtain ⟨x, rfl⟩ : ∃ x, v = .int x := ⟨_, rp_i_e h1.1⟩
    obtain ⟨y, rfl⟩ : ∃ y, i = .int y := ⟨_, rp_i_e h1.2.1⟩
    obtain ⟨a, rfl⟩ : ∃ a, o = .ref a := ⟨_, rp_r_e h1.2.2.1⟩
    obtain ⟨h0, ha, hc⟩ := rt_arr (a := a) (j := 3) (w := (.short, 5)) r.1 h1.2.2.2.1 rfl
    have hin : vp_in y (hp_l h a) := h1.2.2.2.2
    refine W.sast B.1 B.2.1 hc ((B.2.2.2.2.2.1.2.1 3 (.short, 5) rfl).arr _ _) (fun q => by cases q) (by rw [arrV_size]; exact hin) rfl rfl hd fun H1 e1 e2 e3 => ?_
    exact rt_tight B.2.2.2.2.2.2.1.1 (h2 ad ls H1 _ (rt_Rel.aput (v := .int x.toInt16.toInt32) (x := (.short, 5)) r.tail.tail.tail h1.2.2.2.1 rfl trivial (congrArg Value.int (rt_i16 x)) e1 e2 e3))
theorem rt_asg {t : Nat} {q : vw_C} {E : String} {comp : ClassId} {a : Nat} (V : rt_env X s) (hq : rt_cl[t]? = some q) (hE : s.vm.findClass E = some comp) (hc : q.1 = E ∨ Cond.castable q.1 E ∈ lw_tbl) : s.vm.assignable ((rx_D X).1 t) comp = true := by
  have hfc := (V.1 t q hq).2.1
  rcases hc with e | e
  · subst e
    exact vb_asgS (C := q.1) comp _ hE hfc
  · exact vb_asgC (C := q.1) (E := E) (V.2.2.1 _ e rfl) comp _ hE hfc
theorem sd_aastore {tg j nx : Nat} {tv : List Nat} {E : String} (hd : decode cc pc = .ok (.aastore, 1)) (hj : tg = 100 + j) (hw : rt_ai[j]? = some (.object E, 2)) (hv : ∀ t ∈ tv, ∃ q : vw_C, rt_cl[t]? = some q ∧ (q.1 = E ∨ Cond.castable q.1 E ∈ lw_tbl)) (hn : pc + 1 = nx) : rt_Sd X cc nL own mn pc (op_asq tg tv nx) := by
  subst hn; subst hj
  intro d l p e R s m args below meth c n0 ad0 Q C hd' Qr Qt B L S h h1 h2 ad ls H locs r
  match S, h1, h2, r with
  | v :: i :: o :: S, h1, h2, r =>
    obtain ⟨y, rfl⟩ : ∃ y, i = .int y := ⟨_, rp_i_e h1.2.1⟩
    obtain ⟨a, rfl⟩ : ∃ a, o = .ref a := ⟨_, rp_r_e h1.2.2.1⟩
    obtain ⟨h0, ha, hc⟩ := rt_arr (a := a) r.1 h1.2.2.2.1 hw
    have hin : vp_in y (hp_l h a) := h1.2.2.2.2
    have hlt : y.toNatClampNeg < hp_l h a := Nat.not_le.mp fun q => hin (Or.inr q)
    have hy0 : ¬ y < 0 := fun q => hin (Or.inl q)
    obtain ⟨kA, comp, g1, g2, g3, g4, -⟩ := B.2.2.2.2.2.1.2.1 j _ hw
    rcases h1.1 with e1 | ⟨e1, e2⟩
    · subst e1
      refine va_WaastN (C := E) B.1 B.2.1 hc ((B.2.2.2.2.2.1.2.1 j _ hw).arr _ _) (fun q => by cases q) (by rw [arrV_size]; exact hin) rfl rfl hd fun H1 e1 e2 e3 => ?_
      exact rt_tight B.2.2.2.2.2.2.1.1 (h2 ad ls H1 _ (rt_Rel.aput (v := .null) r.tail.tail.tail h1.2.2.2.1 hw trivial rfl e1 e2 e3))
    · obtain ⟨b, rfl⟩ : ∃ b, v = .ref b := ⟨_, rp_r_e e1⟩
      obtain ⟨q, hq, hca⟩ := hv _ e2
      obtain ⟨hb0, hb, cell, q1, q2, q3, -⟩ := rt_obj r.1 rfl hq
      have hE := g4 E rfl
      obtain ⟨kE, hkE, -⟩ := Vm.findClass_spec hE
      obtain ⟨kC, hkC, -⟩ := (B.2.2.2.2.2.1.1 _ q hq).2.2
      refine W.aast B.1 B.2.1 hc (fun q z => by cases z) (fun z => by cases z) g2 g3 rfl hkE ⟨hy0, by rw [arrV_size]; exact hlt⟩ q1 (fun q z => by rw [q3] at z; cases z) (by rw [q2]; exact hkC) (by rw [q2]; exact rt_asg (a := b) B.2.2.2.2.2.1 hq hE hca) rfl rfl hd fun H1 e1 e2 e3 => ?_
      exact rt_tight B.2.2.2.2.2.2.1.1 (h2 ad ls H1 _ (rt_Rel.aput (v := .ref b) r.tail.tail.tail h1.2.2.2.1 hw r.head rfl e1 e2 e3))
theorem sd_cast {tg : List Nat} {i nx : Nat} {nm : String} (hd : decode cc pc = .ok (.checkcast i, 3)) (hl : Cond.classLink own i nm ∈ lw_all) (ht : ∀ t ∈ tg, ∃ q : vw_C, rt_cl[t]? = some q ∧ (q.1 = nm ∨ Cond.castable q.1 nm ∈ lw_tbl)) (hn : pc + 3 = nx) : rt_Sd X cc nL own mn pc (op_cast tg nx) := by
  subst hn
  intro d l p e R s m args below meth c n0 ad0 Q C hd' Qr Qt B L S h h1 h2 ad ls H locs r
  match S, h1, h2, r with
  | v :: S, h1, h2, r =>
    rcases h1 with e1 | ⟨e1, e2⟩
    · subst e1
      exact lv_castN B.1 B.2.1 hd (h2 ad ls H locs r)
    · obtain ⟨b, rfl⟩ : ∃ b, v = .ref b := ⟨_, rp_r_e e1⟩
      obtain ⟨q, hq, hca⟩ := ht _ e2
      have hrv := rt_recv B.2.2.2.2.2.1 r.1 rfl hq
      rcases hca with e3 | e3
      · subst e3
        exact va_castS B.1 B.2.1 B.2.2.2.1 (B.2.2.2.2.1 _ hl) (B.2.2.2.2.2.1.1 _ q hq).2 hrv hd (h2 ad ls H locs r)
      · exact va_castY B.1 B.2.1 B.2.2.2.1 (B.2.2.2.2.1 _ hl) (B.2.2.2.2.2.1.2.2.1 _ e3 rfl) hrv hd (h2 ad ls H locs r)
/-- behind a new cell -/
theorem rt_map_up {n q : Nat} {S : List Value} (hS : ∀ v ∈ S, rt_vn n v) : S.map (rt_tr (va_up ad n q)) = S.map (rt_tr ad) := List.map_congr_left fun v hv => rt_tr_up (hS v hv)
theorem rt_lv_up {n q : Nat} {L : List Value} (hL : ∀ v ∈ L, rt_vn n v) : ∀ x, x ∈ rt_lv (va_up ad n q) L → x ∈ rt_lv ad L := by
  rintro ⟨i, w⟩ hx
  obtain ⟨v, h1, h2, h3⟩ := rt_lv_mem.mp hx
  rw [rt_tr_up (hL v (List.mem_of_getElem? h1))] at h3
  exact rt_lv_mem.mpr ⟨v, h1, h2, h3⟩
theorem rt_Rel.new {n0 : Nat} {ad0 : Nat → Nat} {L S : List Value} {ls : Array Slot} {locs : List Loc} {t n sl : Nat} {f : Nat → Value} {cell : Cell} {H1 : Heap} (r : rt_Rel X nL s n0 ad0 L S h ad ls H locs) (hb : rt_bud h 1 sl) (hf : ∀ j, rt_vn 0 (f j)) (ht : t ≠ 99) (e1 : H1[H.size]? = some cell) (e2 : H1.size = H.size + 1) (e3 : ∀ q : Nat, q < H.size → H1[q]? = H[q]?) (hs : cell.slots.size ≤ sl)
    (hok : rt_ok X (va_up ad (hp_n h) H.size) (hp_new h t n sl f) (hp_n h) H1) : rt_Rel X nL s n0 ad0 L (.ref (hp_n h) :: S) (hp_new h t n sl f) (va_up ad (hp_n h) H.size) ls H1 locs := by
  refine ⟨rt_HR_new r.1 hb hf ht e1 e2 e3 hs hok, ⟨Nat.le_succ_of_le r.2.1.1, fun k hk => ?_, by rw [rt_grown e1 e2 e3, rt_ss_push r.1.2.2.2.2.2.2.2.1]; exact Nat.le_trans r.2.1.2.2 (Nat.le_add_right _ _)⟩, ⟨by have := r.2.2.1.1; omega, fun x h1 h2 => (e3 x (Nat.lt_of_lt_of_le h1 r.2.2.1.1)).trans (r.2.2.1.2.1 x h1 h2), r.2.2.1.2.2⟩, r.2.2.2.1, fun v hv => rt_vn_mono (Nat.le_succ _) (r.2.2.2.2.1 v hv), fun v hv => ?_, r.2.2.2.2.2.2.1, r.2.2.2.2.2.2.2.1, fun x hx => r.2.2.2.2.2.2.2.2 x (rt_lv_up r.2.2.2.2.1 x hx)⟩
  · have : k < hp_n h := Nat.lt_of_lt_of_le hk r.2.1.1
    simp [va_up, Nat.ne_of_lt this, r.2.1.2.1 k hk]
  · rcases List.mem_cons.mp hv with e | hv
    · rw [e]; exact Nat.lt_succ_self _
    · exact rt_vn_mono (Nat.le_succ _) (r.2.2.2.2.2.1 v hv)
theorem rt_room {d : Nat} {n0 : Nat} {ad0 : Nat → Nat} {L S : List Value} {ls : Array Slot} {locs : List Loc} {l : Launch} {p : Program} {R : Room} {m : MethodId} {args : Array Value} {meth : Method} {c : Code} (B : rt_Bd X cc nL own mn d l p R s m args meth c) (r : rt_Rel X nL s n0 ad0 L S h ad ls H locs) {k n : Nat} (hb : rt_bud h k n) : H.size - s.heap.size + k ≤ R.cells ∧ rt_ss (rx_H X).size H - rt_ss (rx_H X).size s.heap + n ≤ R.slots := by
  have h1 := B.2.2.2.2.2.2.2.2.1
  have h2 := r.1.2.2.2.2.2.2.1
  have h6 := r.2.1.2.2
  have h7 := r.2.2.1.1
  have h3 := hb.1
  have h4 := hb.2
  have h5 := B.2.2.2.2.2.2.1.1
  omega
theorem rt_dfs_ok {t : Nat} {q : vw_C} (hq : rt_cl[t]? = some q) {ty0 : Nat → FieldType} (hty0 : ∀ k, k < q.2.2 → parseFieldDescriptor (q.2.1 k).2.2.1 = some (ty0 k)) {ad : Nat → Nat} : ∀ k, k < q.2.2 → defaultValue (ty0 k) = rt_tr ad (rt_nv ((rt_ft t).getD k 0) (rt_dfs (rt_ft t) k)) := by
  intro k hk
  have h := rt_ft_ok t q hq k hk
  rw [hty0 k hk] at h
  have h2 : rt_fc (ty0 k) = (rt_ft t).getD k 0 := Option.some.inj h
  unfold rt_dfs
  have hx : ∀ ft : FieldType, ft ≠ .float → ft ≠ .double → defaultValue ft = rt_tr ad (rt_nv (rt_fc ft) (rt_df (rt_fc ft))) := by
    intro ft n1 n2
    cases ft <;> first | rfl | exact absurd rfl n1 | exact absurd rfl n2
  rw [← h2]
  refine hx _ (fun e => ?_) (fun e => ?_)
  · exact rt_nofl t q hq k hk (by rw [hty0 k hk, e]; exact Or.inl rfl)
  · exact rt_nofl t q hq k hk (by rw [hty0 k hk, e]; exact Or.inr rfl)
theorem sd_new {t i nx : Nat} {ts : List Nat} {q : vw_C} (hd : decode cc pc = .ok (.new i, 3)) (hq : rt_cl[t]? = some q) (hts : rt_ft t = ts) (hl : Cond.classLink own i q.1 ∈ lw_all) (hn : pc + 3 = nx) : rt_Sd X cc nL own mn pc (op_new t ts nx) := by
  subst hn; subst hts
  intro d l p e R s m args below meth c n0 ad0 Q C hd' Qr Qt B L S h h1 h2 ad ls H locs r
  obtain ⟨hin, ⟨ty0, hty0⟩, hnm, hinst, hini⟩ := rt_cl_ok _ _ hq
  have hlen := rt_ft_len t q hq
  have hKn := B.2.2.2.2.2.1.1 t q hq
  have hrm := rt_room B r h1
  rw [hlen] at hrm
  have hlt := rt_cl_lt t q hq
  refine W.newcK B.1 B.2.1 B.2.2.2.1 (B.2.2.2.2.1 _ hl) (B.2.2.2.2.1 _ hinst) (B.2.2.2.2.1 _ hini) rfl hd hrm.1 hrm.2 hKn.2.1 rfl fun H1 kC hkC e1 z1 o1 => ?_
  obtain ⟨cC2, kC2, hf2, hk2, hkind2, hsz2⟩ := Cond.instantiable_spec (B.2.2.2.2.1 _ hinst)
  cases hKn.2.1.symm.trans hf2
  cases hkC.symm.trans hk2
  have hr := rt_Rel.new (t := t) (n := (rt_ft t).length) (sl := (rt_ft t).length) (f := rt_dfs (rt_ft t)) r h1 (fun j => rt_vn_df) (by omega) e1 z1 o1 (by rw [hlen]; exact Nat.le_of_eq (by simp [blank, hsz2])) ⟨fun q' hq' => ?_, fun j w hj hw => ?_⟩
  · refine rt_tight B.2.2.2.2.2.2.1.1 ?_
    have h3 := h2 _ ls H1 locs hr
    have e : ((Value.ref (hp_n h) :: S).map (rt_tr (va_up ad (hp_n h) H.size))) = .ref H.size :: S.map (rt_tr ad) := by
      rw [List.map_cons, rt_map_up r.2.2.2.2.2.1]
      simp [rt_tr, va_up]
    rw [e] at h3
    exact h3
  · rw [hp_t_new, if_pos rfl, hq] at hq'
    cases hq'
    have hob := u_born ty0 (B.2.2.2.2.1) hin hKn hkC e1 hty0
    rw [hp_t_new, if_pos rfl]
    have e9 : va_up ad (hp_n h) H.size (hp_n h) = H.size := by simp [va_up]
    rw [e9]
    refine hob.to fun j hj => ?_
    show _ = rt_tr _ (rt_nv _ (hp_v (hp_new h t _ _ _) (hp_n h) j))
    rw [hp_v_new, if_pos rfl]
    exact rt_dfs_ok hq hty0 j hj
  · rw [hp_t_new, if_pos rfl] at hj
    omega
end K
end SND3
