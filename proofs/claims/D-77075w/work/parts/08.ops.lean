/-! ===== THE ABSTRACT MACHINE: instructions ===== -/
section OPS
def rt_bud (h : rt_H) (c s : Nat) : Prop := hp_c h + c ≤ 1200144 ∧ hp_s h + s ≤ 5497210
theorem rt_bud_e {h : rt_H} {c s : Nat} : rt_bud h c s = (hp_c h + c ≤ 1200144 ∧ hp_s h + s ≤ 5497210) := rfl
def rt_no : rt_H → rt_O := fun h => .inl (0, [], [], h)
def op_stuck : rt_Op := fun _ _ h => (False, rt_no h)
def op_il (i nx : Nat) : rt_Op := fun L S h => (rp_i (lk_g L i), .inl (nx, L, .int (rv_i (lk_g L i)) :: S, h))
def op_ll (i nx : Nat) : rt_Op := fun L S h => (rp_l (lk_g L i), .inl (nx, L, .long (rv_l (lk_g L i)) :: S, h))
def op_al (i nx : Nat) : rt_Op := fun L S h => (rp_a (lk_g L i), .inl (nx, L, lk_g L i :: S, h))
def op_is (i nx : Nat) : rt_Op := fun L S h => match S with | v :: r => (rp_i v ∧ i < L.length, .inl (nx, lk_s L i v, r, h)) | _ => (False, rt_no h)
def op_ls (i nx : Nat) : rt_Op := fun L S h => match S with | v :: r => (rp_l v ∧ i + 1 < L.length, .inl (nx, lk_2 L i v, r, h)) | _ => (False, rt_no h)
def op_as (i nx : Nat) : rt_Op := fun L S h => match S with | v :: r => (rp_a v ∧ i < L.length, .inl (nx, lk_s L i v, r, h)) | _ => (False, rt_no h)
def op_inc (i : Nat) (k : Int32) (nx : Nat) : rt_Op := fun L S h => (rp_i (lk_g L i) ∧ i < L.length, .inl (nx, lk_s L i (.int (rv_i (lk_g L i) + k)), S, h))
/-- a constant: int, long, null -/
def op_ci (x : Int32) (nx : Nat) : rt_Op := fun L S h => (True, .inl (nx, L, .int x :: S, h))
def op_cl (x : Int64) (nx : Nat) : rt_Op := fun L S h => (True, .inl (nx, L, .long x :: S, h))
def op_cn (nx : Nat) : rt_Op := fun L S h => (True, .inl (nx, L, .null :: S, h))
def op_i2 (f : Int32 → Int32 → Int32) (nx : Nat) : rt_Op := fun L S h => match S with | b :: a :: r => (rp_i b ∧ rp_i a, .inl (nx, L, .int (f (rv_i a) (rv_i b)) :: r, h)) | _ => (False, rt_no h)
def op_i2z (f : Int32 → Int32 → Int32) (nx : Nat) : rt_Op := fun L S h => match S with | b :: a :: r => (rp_i b ∧ rp_i a ∧ ¬ rv_i b = 0, .inl (nx, L, .int (f (rv_i a) (rv_i b)) :: r, h)) | _ => (False, rt_no h)
def op_l2 (f : Int64 → Int64 → Int64) (nx : Nat) : rt_Op := fun L S h => match S with | b :: a :: r => (rp_l b ∧ rp_l a, .inl (nx, L, .long (f (rv_l a) (rv_l b)) :: r, h)) | _ => (False, rt_no h)
def op_l2z (f : Int64 → Int64 → Int64) (nx : Nat) : rt_Op := fun L S h => match S with | b :: a :: r => (rp_l b ∧ rp_l a ∧ ¬ rv_l b = 0, .inl (nx, L, .long (f (rv_l a) (rv_l b)) :: r, h)) | _ => (False, rt_no h)
def op_ls2 (f : Int64 → Int32 → Int64) (nx : Nat) : rt_Op := fun L S h => match S with | b :: a :: r => (rp_i b ∧ rp_l a, .inl (nx, L, .long (f (rv_l a) (rv_i b)) :: r, h)) | _ => (False, rt_no h)
def op_i1 (f : Int32 → Int32) (nx : Nat) : rt_Op := fun L S h => match S with | a :: r => (rp_i a, .inl (nx, L, .int (f (rv_i a)) :: r, h)) | _ => (False, rt_no h)
def op_l1 (f : Int64 → Int64) (nx : Nat) : rt_Op := fun L S h => match S with | a :: r => (rp_l a, .inl (nx, L, .long (f (rv_l a)) :: r, h)) | _ => (False, rt_no h)
def op_i2l (nx : Nat) : rt_Op := fun L S h => match S with | a :: r => (rp_i a, .inl (nx, L, .long (rv_i a).toInt64 :: r, h)) | _ => (False, rt_no h)
def op_l2i (nx : Nat) : rt_Op := fun L S h => match S with | a :: r => (rp_l a, .inl (nx, L, .int (rv_l a).toInt32 :: r, h)) | _ => (False, rt_no h)
/-- the answer of lcmp -/
def rt_lc (x y : Int64) : Int32 := lg_cmp x y
def op_lcmp (nx : Nat) : rt_Op := fun L S h => match S with | b :: a :: r => (rp_l b ∧ rp_l a, .inl (nx, L, .int (rt_lc (rv_l a) (rv_l b)) :: r, h)) | _ => (False, rt_no h)
def op_dup (nx : Nat) : rt_Op := fun L S h => match S with | a :: r => (rb_l a = false, .inl (nx, L, a :: a :: r, h)) | _ => (False, rt_no h)
def op_pop (nx : Nat) : rt_Op := fun L S h => match S with | a :: r => (rb_l a = false, .inl (nx, L, r, h)) | _ => (False, rt_no h)
def op_dupx (nx : Nat) : rt_Op := fun L S h => match S with | a :: b :: r => (rb_l a = false ∧ rb_l b = false, .inl (nx, L, a :: b :: a :: r, h)) | _ => (False, rt_no h)
/-- dup2 of two words that are two values, dup2 of a long -/
def op_dup2 (nx : Nat) : rt_Op := fun L S h => match S with | a :: b :: r => (rb_l a = false ∧ rb_l b = false, .inl (nx, L, a :: b :: a :: b :: r, h)) | _ => (False, rt_no h)
def op_dup2l (nx : Nat) : rt_Op := fun L S h => match S with | a :: r => (rp_l a, .inl (nx, L, a :: a :: r, h)) | _ => (False, rt_no h)
def op_go (t : Nat) : rt_Op := fun L S h => (True, .inl (t, L, S, h))
noncomputable def op_if1 (c : Int32 → Prop) (t nx : Nat) : rt_Op := fun L S h => match S with | a :: r => (rp_i a, .inl (rt_sel (c (rv_i a)) t nx, L, r, h)) | _ => (False, rt_no h)
noncomputable def op_if2 (c : Int32 → Int32 → Prop) (t nx : Nat) : rt_Op := fun L S h => match S with | b :: a :: r => (rp_i b ∧ rp_i a, .inl (rt_sel (c (rv_i a) (rv_i b)) t nx, L, r, h)) | _ => (False, rt_no h)
noncomputable def op_ifn (t nx : Nat) : rt_Op := fun L S h => match S with | a :: r => (rp_a a, .inl (rt_sel (a = .null) t nx, L, r, h)) | _ => (False, rt_no h)
noncomputable def op_sw (q : List (Int32 × Nat)) (d : Nat) : rt_Op := fun L S h => match S with | a :: r => (rp_i a, .inl (rt_swt (rv_i a) q d, L, r, h)) | _ => (False, rt_no h)
def op_getf (tg : List Nat) (k ty nx : Nat) : rt_Op := fun L S h => match S with | a :: r => (rp_r a ∧ hp_t h (rv_a a) ∈ tg, .inl (nx, L, rt_nv ty (hp_v h (rv_a a) k) :: r, h)) | _ => (False, rt_no h)
def op_putf (tg : List Nat) (k ty nx : Nat) : rt_Op := fun L S h => match S with | v :: a :: r => (rt_ty ty v ∧ rp_r a ∧ hp_t h (rv_a a) ∈ tg, .inl (nx, L, r, hp_set h (rv_a a) k v)) | _ => (False, rt_no h)
/-- arrays: reads by type (0 int, byte, boolean; 1 long; 2 references) -/
def op_ald (tg ty nx : Nat) : rt_Op := fun L S h => match S with | i :: a :: r => (rp_i i ∧ rp_r a ∧ hp_t h (rv_a a) = tg ∧ vp_in (rv_i i) (hp_l h (rv_a a)), .inl (nx, L, rt_nv ty (hp_v h (rv_a a) (rv_i i).toNatClampNeg) :: r, h)) | _ => (False, rt_no h)
/-- what a store keeps: 4 byte, 5 short, 3 boolean -/
def rt_na (ty : Nat) (v : Value) : Value := match ty with | 4 => .int (rv_i v).toInt8.toInt32 | 5 => .int (rv_i v).toInt16.toInt32 | 3 => .int (vp_nar .boolean (rv_i v)) | _ => v
theorem rt_na_0 {v : Value} : rt_na 0 v = v := rfl
theorem rt_na_1 {v : Value} : rt_na 1 v = v := rfl
theorem rt_na_2 {v : Value} : rt_na 2 v = v := rfl
theorem rt_na_3 {v : Value} : rt_na 3 v = .int (vp_nar .boolean (rv_i v)) := rfl
theorem rt_na_4 {v : Value} : rt_na 4 v = .int (rv_i v).toInt8.toInt32 := rfl
theorem rt_na_5 {v : Value} : rt_na 5 v = .int (rv_i v).toInt16.toInt32 := rfl
def rt_at (ty : Nat) (v : Value) : Prop := match ty with | 1 => rp_l v | 2 => rp_a v | _ => rp_i v
theorem rt_at_0 {v : Value} : rt_at 0 v = rp_i v := rfl
theorem rt_at_1 {v : Value} : rt_at 1 v = rp_l v := rfl
theorem rt_at_3 {v : Value} : rt_at 3 v = rp_i v := rfl
theorem rt_at_4 {v : Value} : rt_at 4 v = rp_i v := rfl
theorem rt_at_5 {v : Value} : rt_at 5 v = rp_i v := rfl
def op_ast (tg ty nx : Nat) : rt_Op := fun L S h => match S with | v :: i :: a :: r => (rt_at ty v ∧ rp_i i ∧ rp_r a ∧ hp_t h (rv_a a) = tg ∧ vp_in (rv_i i) (hp_l h (rv_a a)), .inl (nx, L, r, hp_set h (rv_a a) (rv_i i).toNatClampNeg (rt_na ty v))) | _ => (False, rt_no h)
/-- a reference goes into an array: null, or a thing of one of the classes tv -/
def op_asq (tg : Nat) (tv : List Nat) (nx : Nat) : rt_Op := fun L S h => match S with | v :: i :: a :: r => ((v = .null ∨ (rp_r v ∧ hp_t h (rv_a v) ∈ tv)) ∧ rp_i i ∧ rp_r a ∧ hp_t h (rv_a a) = tg ∧ vp_in (rv_i i) (hp_l h (rv_a a)), .inl (nx, L, r, hp_set h (rv_a a) (rv_i i).toNatClampNeg v)) | _ => (False, rt_no h)
noncomputable def rt_if (p : Prop) (a b : rt_O) : rt_O := @ite rt_O p (Classical.propDecidable p) a b
/-- .. of which an index out of the bounds throws -/
noncomputable def op_aldx (tg ty nx : Nat) : rt_Op := fun L S h => match S with | i :: a :: r => (rp_i i ∧ rp_r a ∧ hp_t h (rv_a a) = tg ∧ rt_bud h 3 1010 ∧ rt_cw r ≤ 8, rt_if (vp_in (rv_i i) (hp_l h (rv_a a))) (.inl (nx, L, rt_nv ty (hp_v h (rv_a a) (rv_i i).toNatClampNeg) :: r, h)) (.inr (.inr (.inr (3, 0, hp_cost h 3 1010))))) | _ => (False, rt_no h)
noncomputable def op_astx (tg ty nx : Nat) : rt_Op := fun L S h => match S with | v :: i :: a :: r => (rt_at ty v ∧ rp_i i ∧ rp_r a ∧ hp_t h (rv_a a) = tg ∧ rt_bud h 3 1010 ∧ rt_cw r ≤ 8, rt_if (vp_in (rv_i i) (hp_l h (rv_a a))) (.inl (nx, L, r, hp_set h (rv_a a) (rv_i i).toNatClampNeg (rt_na ty v))) (.inr (.inr (.inr (3, 0, hp_cost h 3 1010))))) | _ => (False, rt_no h)
def op_alen (tg : List Nat) (nx : Nat) : rt_Op := fun L S h => match S with | a :: r => (rp_r a ∧ hp_t h (rv_a a) ∈ tg, .inl (nx, L, .int (Int32.ofNat (hp_l h (rv_a a))) :: r, h)) | _ => (False, rt_no h)
/-- the default of a type -/
def rt_df (ty : Nat) : Value := match ty with | 1 => .long 0 | 2 => .null | _ => .int 0
theorem rt_df_0 : rt_df 0 = .int 0 := rfl
theorem rt_df_1 : rt_df 1 = .long 0 := rfl
theorem rt_df_2 : rt_df 2 = .null := rfl
theorem rt_df_3 : rt_df 3 = .int 0 := rfl
theorem rt_df_4 : rt_df 4 = .int 0 := rfl
theorem rt_df_5 : rt_df 5 = .int 0 := rfl
def rt_dfs (ts : List Nat) : Nat → Value := fun k => rt_df (ts.getD k 0)
/-- a new object of tag t, its fields' types ts -/
def op_new (t : Nat) (ts : List Nat) (nx : Nat) : rt_Op := fun L S h => (rt_bud h 1 ts.length, .inl (nx, L, .ref (hp_n h) :: S, hp_new h t ts.length ts.length (rt_dfs ts)))
/-- a new array of tag t, of a type -/
def op_newa (t ty nx : Nat) : rt_Op := fun L S h => match S with | c :: r => (rp_i c ∧ ¬ rv_i c < 0 ∧ (rv_i c).toNatClampNeg ≤ 5000 ∧ rt_bud h 1 (rv_i c).toNatClampNeg, .inl (nx, L, .ref (hp_n h) :: r, hp_new h t (rv_i c).toNatClampNeg (rv_i c).toNatClampNeg (fun _ => rt_df ty))) | _ => (False, rt_no h)
/-- .. of which a count below 0 throws -/
noncomputable def op_newax (t ty nx : Nat) : rt_Op := fun L S h => match S with | c :: r => (rp_i c ∧ (rv_i c).toNatClampNeg ≤ 5000 ∧ rt_bud h 3 5010 ∧ rt_cw r ≤ 8, rt_if (rv_i c < 0) (.inr (.inr (.inr (4, 0, hp_cost h 3 5010)))) (.inl (nx, L, .ref (hp_n h) :: r, hp_new h t (rv_i c).toNatClampNeg (rv_i c).toNatClampNeg (fun _ => rt_df ty)))) | _ => (False, rt_no h)
/-- rows k of n ints each, below the array at a, that are made one behind another from p on -/
def hp_rows (h : rt_H) (t n : Nat) : Nat → rt_H | 0 => h | k + 1 => hp_set (hp_new (hp_rows h t n k) t n n (fun _ => .int 0)) (hp_n h - 1) k (.ref (hp_n h + k))
def op_multi (t t2 : Nat) (x y : Int32) (nx : Nat) : rt_Op := fun L S h => match S with | b :: a :: r => (a = .int x ∧ b = .int y ∧ rt_bud h (x.toNatClampNeg + 1) (x.toNatClampNeg + x.toNatClampNeg * y.toNatClampNeg), .inl (nx, L, .ref (hp_n h) :: r, hp_rows (hp_new h t x.toNatClampNeg x.toNatClampNeg (fun _ => .null)) t2 y.toNatClampNeg x.toNatClampNeg)) | _ => (False, rt_no h)
/-- a call of the method m: what comes in has the types ts -/
def op_call (m : Nat) (ts : List Nat) (nx : Nat) : rt_Op := fun L S h => (ts.length ≤ S.length ∧ rt_cw (S.drop ts.length) ≤ 8, .inr (.inl (m, (S.take ts.length).reverse, nx, L, S.drop ts.length, h)))
/-- a call of an object's method, of the class that it has; ts: the types behind the receiver's -/
def op_callv (vt : List (Nat × Nat)) (ts : List Nat) (nx : Nat) : rt_Op := fun L S h => (ts.length + 1 ≤ S.length ∧ rt_cw (S.drop (ts.length + 1)) ≤ 8 ∧ rp_r (S.getD ts.length lk_u) ∧ hp_t h (rv_a (S.getD ts.length lk_u)) ∈ vt.map Prod.fst, .inr (.inl (rt_vl vt (hp_t h (rv_a (S.getD ts.length lk_u))), (S.take (ts.length + 1)).reverse, nx, L, S.drop (ts.length + 1), h)))
/-- .. of which null throws -/
noncomputable def op_callx (vt : List (Nat × Nat)) (ts : List Nat) (nx : Nat) : rt_Op := fun L S h => (ts.length + 1 ≤ S.length ∧ rt_tys ts (S.take ts.length).reverse ∧ rt_cw (S.drop (ts.length + 1)) ≤ 8 ∧ rp_a (S.getD ts.length lk_u) ∧ (¬ S.getD ts.length lk_u = .null → hp_t h (rv_a (S.getD ts.length lk_u)) ∈ vt.map Prod.fst) ∧ rt_bud h 1 20,
  rt_if (S.getD ts.length lk_u = .null) (.inr (.inr (.inr (2, 0, hp_cost h 1 20)))) (.inr (.inl (rt_vl vt (hp_t h (rv_a (S.getD ts.length lk_u))), (S.take (ts.length + 1)).reverse, nx, L, S.drop (ts.length + 1), h))))
def op_ret : rt_Op := fun _ S h => (S = [], .inr (.inr (.inl (none, h))))
def op_retv (ty : Nat) : rt_Op := fun _ S h => match S with | v :: r => (rt_ty ty v ∧ r = [], .inr (.inr (.inl (some v, h)))) | _ => (False, rt_no h)
/-- a Fault (tag t) is thrown -/
def op_athrow (t : Nat) : rt_Op := fun _ S h => match S with | a :: _ => (rp_r a ∧ hp_t h (rv_a a) = t, .inr (.inr (.inr (0, rv_a a, h)))) | _ => (False, rt_no h)
/-- throw new ArithmeticException(text) -/
def op_thr : rt_Op := fun _ S h => (S = [] ∧ rt_bud h 1 6, .inr (.inr (.inr (1, 0, hp_cost h 1 6))))
/-- Object's constructor -/
def op_obj (nx : Nat) : rt_Op := fun L S h => match S with | a :: r => (rp_r a ∧ rt_cw r ≤ 8, .inl (nx, L, r, h)) | _ => (False, rt_no h)
/-- Throwable's constructor of four behind Object's, of a new Fault (tag 12), without message, cause, suppression and trace: its fields are null again at its end -/
def op_thw (nx : Nat) : rt_Op := fun L S h => (S = [] ∧ rp_r (lk_g L 0) ∧ hp_t h (rv_a (lk_g L 0)) = 12 ∧ (∀ k, k < 4 → hp_v h (rv_a (lk_g L 0)) k = .null) ∧ lk_g L 1 = .null ∧ lk_g L 2 = .null ∧ lk_g L 3 = .int 0 ∧ lk_g L 4 = .int 0, .inl (nx, L, [], h))
def op_cast (tg : List Nat) (nx : Nat) : rt_Op := fun L S h => match S with | a :: r => (a = .null ∨ (rp_r a ∧ hp_t h (rv_a a) ∈ tg), .inl (nx, L, a :: r, h)) | _ => (False, rt_no h)
/-- System.arraycopy between arrays of ints of one tag (ints, bytes, shorts): out of the bounds throws -/
noncomputable def op_cpy (tg : List Nat) (nx : Nat) : rt_Op := fun L S h => match S with
  | n :: dp :: d :: sp :: s :: r => (rp_i n ∧ rp_i dp ∧ rp_r d ∧ rp_i sp ∧ rp_r s ∧ hp_t h (rv_a s) ∈ tg ∧ hp_t h (rv_a d) = hp_t h (rv_a s) ∧ rt_bud h 3 1010 ∧ rt_cw r ≤ 8,
    rt_if (¬ rv_i n < 0 ∧ ¬ rv_i sp < 0 ∧ ¬ rv_i dp < 0 ∧ (rv_i sp).toNatClampNeg + (rv_i n).toNatClampNeg ≤ hp_l h (rv_a s) ∧ (rv_i dp).toNatClampNeg + (rv_i n).toNatClampNeg ≤ hp_l h (rv_a d))
      (.inl (nx, L, r, hp_cpy h (rv_a d) (rv_i dp).toNatClampNeg (rv_i n).toNatClampNeg (fun j => hp_v h (rv_a s) ((rv_i sp).toNatClampNeg + j))))
      (.inr (.inr (.inr (3, 0, hp_cost h 3 1010)))))
  | _ => (False, rt_no h)
theorem rt_out_if {C : rt_Ca} {hd : Nat → Nat → Option (Nat × Nat)} {Qr : rt_Qr} {Qt : rt_Qt} {P : rt_P} {pc : Nat} {L : List Value} {p : Prop} {a b : rt_O} : rt_out C hd Qr Qt P pc L (rt_if p a b) = ((p → rt_out C hd Qr Qt P pc L a) ∧ (¬ p → rt_out C hd Qr Qt P pc L b)) := by
  unfold rt_if
  by_cases h : p
  · rw [if_pos h]; exact propext ⟨fun z => ⟨fun _ => z, fun q => absurd h q⟩, fun z => z.1 h⟩
  · rw [if_neg h]; exact propext ⟨fun z => ⟨fun q => absurd q h, fun _ => z⟩, fun z => z.2 h⟩
end OPS
/-! ===== a frame's run, and what each instruction makes of it ===== -/
section RUN
variable {G : rt_Pg} {d m : Nat} {Qr : rt_Qr} {Qt : rt_Qt} {pc nx : Nat} {L r : List Value} {h : rt_H} {S : List Value}
/-- method m's frame at pc, callees of depth d -/
def rt_Fg (G : rt_Pg) (d m : Nat) (Qr : rt_Qr) (Qt : rt_Qt) : rt_P := rt_R (G.1 m) (G.2.1 m) (rt_Cg G d) Qr Qt
theorem rt_Fg_u {o : rt_Op} (hk : G.1 m pc = o) : rt_Fg G d m Qr Qt pc L S h = ((o L S h).1 ∧ rt_out (rt_Cg G d) (G.2.1 m) Qr Qt (rt_Fg G d m Qr Qt) pc L (o L S h).2) := by
  subst hk
  exact rt_R_u (rt_Cg_CM G d)
/-- behind a throw at pc -/
def rt_Hg (G : rt_Pg) (d m : Nat) (Qr : rt_Qr) (Qt : rt_Qt) (pc : Nat) (L : List Value) (k a : Nat) (h : rt_H) : Prop := rt_hd (G.2.1 m) Qt (rt_Fg G d m Qr Qt) pc L k a h
theorem rt_Hg_some {k a n j : Nat} (e : G.2.1 m pc k = some (n, j)) (hn : n < 9999) : rt_Hg G d m Qr Qt pc L k a h = rt_Fg G d m Qr Qt n (lk_s L j (rt_x k a)) [] h := by
  unfold rt_Hg rt_hd; rw [e]
  exact propext ⟨fun q => q.2, fun q => ⟨hn, q⟩⟩
theorem rt_Hg_none {k a : Nat} (e : G.2.1 m pc k = none) : rt_Hg G d m Qr Qt pc L k a h = Qt k a h := by
  unfold rt_Hg rt_hd; rw [e]
theorem rt_Cg_u {as : List Value} : rt_Cg G (d + 1) m as h Qr Qt = (rt_tys (G.2.2.1 m) as ∧ rt_Fg G d m Qr Qt 0 (rt_en (G.2.2.1 m) (G.2.2.2 m) as) [] h) := rfl
theorem rf_il {i : Nat} (hk : G.1 m pc = op_il i nx) : rt_Fg G d m Qr Qt pc L S h = (rp_i (lk_g L i) ∧ rt_Fg G d m Qr Qt nx L (.int (rv_i (lk_g L i)) :: S) h) := rt_Fg_u hk
theorem rf_ll {i : Nat} (hk : G.1 m pc = op_ll i nx) : rt_Fg G d m Qr Qt pc L S h = (rp_l (lk_g L i) ∧ rt_Fg G d m Qr Qt nx L (.long (rv_l (lk_g L i)) :: S) h) := rt_Fg_u hk
theorem rf_al {i : Nat} (hk : G.1 m pc = op_al i nx) : rt_Fg G d m Qr Qt pc L S h = (rp_a (lk_g L i) ∧ rt_Fg G d m Qr Qt nx L (lk_g L i :: S) h) := rt_Fg_u hk
theorem rf_is {i : Nat} {v : Value} (hk : G.1 m pc = op_is i nx) : rt_Fg G d m Qr Qt pc L (v :: r) h = ((rp_i v ∧ i < L.length) ∧ rt_Fg G d m Qr Qt nx (lk_s L i v) r h) := rt_Fg_u hk
theorem rf_ls {i : Nat} {v : Value} (hk : G.1 m pc = op_ls i nx) : rt_Fg G d m Qr Qt pc L (v :: r) h = ((rp_l v ∧ i + 1 < L.length) ∧ rt_Fg G d m Qr Qt nx (lk_2 L i v) r h) := rt_Fg_u hk
theorem rf_as {i : Nat} {v : Value} (hk : G.1 m pc = op_as i nx) : rt_Fg G d m Qr Qt pc L (v :: r) h = ((rp_a v ∧ i < L.length) ∧ rt_Fg G d m Qr Qt nx (lk_s L i v) r h) := rt_Fg_u hk
theorem rf_inc {i : Nat} {k : Int32} (hk : G.1 m pc = op_inc i k nx) : rt_Fg G d m Qr Qt pc L S h = ((rp_i (lk_g L i) ∧ i < L.length) ∧ rt_Fg G d m Qr Qt nx (lk_s L i (.int (rv_i (lk_g L i) + k))) S h) := rt_Fg_u hk
theorem rf_ci {x : Int32} (hk : G.1 m pc = op_ci x nx) : rt_Fg G d m Qr Qt pc L S h = rt_Fg G d m Qr Qt nx L (.int x :: S) h := (rt_Fg_u hk).trans (true_and _)
theorem rf_cl {x : Int64} (hk : G.1 m pc = op_cl x nx) : rt_Fg G d m Qr Qt pc L S h = rt_Fg G d m Qr Qt nx L (.long x :: S) h := (rt_Fg_u hk).trans (true_and _)
theorem rf_cn (hk : G.1 m pc = op_cn nx) : rt_Fg G d m Qr Qt pc L S h = rt_Fg G d m Qr Qt nx L (.null :: S) h := (rt_Fg_u hk).trans (true_and _)
theorem rf_i2 {f : Int32 → Int32 → Int32} {a b : Value} (hk : G.1 m pc = op_i2 f nx) : rt_Fg G d m Qr Qt pc L (b :: a :: r) h = ((rp_i b ∧ rp_i a) ∧ rt_Fg G d m Qr Qt nx L (.int (f (rv_i a) (rv_i b)) :: r) h) := rt_Fg_u hk
theorem rf_i2z {f : Int32 → Int32 → Int32} {a b : Value} (hk : G.1 m pc = op_i2z f nx) : rt_Fg G d m Qr Qt pc L (b :: a :: r) h = ((rp_i b ∧ rp_i a ∧ ¬ rv_i b = 0) ∧ rt_Fg G d m Qr Qt nx L (.int (f (rv_i a) (rv_i b)) :: r) h) := rt_Fg_u hk
theorem rf_l2 {f : Int64 → Int64 → Int64} {a b : Value} (hk : G.1 m pc = op_l2 f nx) : rt_Fg G d m Qr Qt pc L (b :: a :: r) h = ((rp_l b ∧ rp_l a) ∧ rt_Fg G d m Qr Qt nx L (.long (f (rv_l a) (rv_l b)) :: r) h) := rt_Fg_u hk
theorem rf_l2z {f : Int64 → Int64 → Int64} {a b : Value} (hk : G.1 m pc = op_l2z f nx) : rt_Fg G d m Qr Qt pc L (b :: a :: r) h = ((rp_l b ∧ rp_l a ∧ ¬ rv_l b = 0) ∧ rt_Fg G d m Qr Qt nx L (.long (f (rv_l a) (rv_l b)) :: r) h) := rt_Fg_u hk
theorem rf_ls2 {f : Int64 → Int32 → Int64} {a b : Value} (hk : G.1 m pc = op_ls2 f nx) : rt_Fg G d m Qr Qt pc L (b :: a :: r) h = ((rp_i b ∧ rp_l a) ∧ rt_Fg G d m Qr Qt nx L (.long (f (rv_l a) (rv_i b)) :: r) h) := rt_Fg_u hk
theorem rf_i1 {f : Int32 → Int32} {a : Value} (hk : G.1 m pc = op_i1 f nx) : rt_Fg G d m Qr Qt pc L (a :: r) h = (rp_i a ∧ rt_Fg G d m Qr Qt nx L (.int (f (rv_i a)) :: r) h) := rt_Fg_u hk
theorem rf_l1 {f : Int64 → Int64} {a : Value} (hk : G.1 m pc = op_l1 f nx) : rt_Fg G d m Qr Qt pc L (a :: r) h = (rp_l a ∧ rt_Fg G d m Qr Qt nx L (.long (f (rv_l a)) :: r) h) := rt_Fg_u hk
theorem rf_i2l {a : Value} (hk : G.1 m pc = op_i2l nx) : rt_Fg G d m Qr Qt pc L (a :: r) h = (rp_i a ∧ rt_Fg G d m Qr Qt nx L (.long (rv_i a).toInt64 :: r) h) := rt_Fg_u hk
theorem rf_l2i {a : Value} (hk : G.1 m pc = op_l2i nx) : rt_Fg G d m Qr Qt pc L (a :: r) h = (rp_l a ∧ rt_Fg G d m Qr Qt nx L (.int (rv_l a).toInt32 :: r) h) := rt_Fg_u hk
theorem rf_lcmp {a b : Value} (hk : G.1 m pc = op_lcmp nx) : rt_Fg G d m Qr Qt pc L (b :: a :: r) h = ((rp_l b ∧ rp_l a) ∧ rt_Fg G d m Qr Qt nx L (.int (rt_lc (rv_l a) (rv_l b)) :: r) h) := rt_Fg_u hk
theorem rf_dup {a : Value} (hk : G.1 m pc = op_dup nx) : rt_Fg G d m Qr Qt pc L (a :: r) h = (rb_l a = false ∧ rt_Fg G d m Qr Qt nx L (a :: a :: r) h) := rt_Fg_u hk
theorem rf_pop {a : Value} (hk : G.1 m pc = op_pop nx) : rt_Fg G d m Qr Qt pc L (a :: r) h = (rb_l a = false ∧ rt_Fg G d m Qr Qt nx L r h) := rt_Fg_u hk
theorem rf_dupx {a b : Value} (hk : G.1 m pc = op_dupx nx) : rt_Fg G d m Qr Qt pc L (a :: b :: r) h = ((rb_l a = false ∧ rb_l b = false) ∧ rt_Fg G d m Qr Qt nx L (a :: b :: a :: r) h) := rt_Fg_u hk
theorem rf_dup2 {a b : Value} (hk : G.1 m pc = op_dup2 nx) : rt_Fg G d m Qr Qt pc L (a :: b :: r) h = ((rb_l a = false ∧ rb_l b = false) ∧ rt_Fg G d m Qr Qt nx L (a :: b :: a :: b :: r) h) := rt_Fg_u hk
theorem rf_dup2l {a : Value} (hk : G.1 m pc = op_dup2l nx) : rt_Fg G d m Qr Qt pc L (a :: r) h = (rp_l a ∧ rt_Fg G d m Qr Qt nx L (a :: a :: r) h) := rt_Fg_u hk
theorem rf_go {t : Nat} (hk : G.1 m pc = op_go t) : rt_Fg G d m Qr Qt pc L S h = rt_Fg G d m Qr Qt t L S h := (rt_Fg_u hk).trans (true_and _)
theorem rf_sel {p : Prop} {a b : Nat} : rt_Fg G d m Qr Qt (rt_sel p a b) L S h = ((p → rt_Fg G d m Qr Qt a L S h) ∧ (¬ p → rt_Fg G d m Qr Qt b L S h)) := rt_sel_P (P := fun n => rt_Fg G d m Qr Qt n L S h)
theorem rf_if1 {c : Int32 → Prop} {a : Value} {t : Nat} (hk : G.1 m pc = op_if1 c t nx) : rt_Fg G d m Qr Qt pc L (a :: r) h = (rp_i a ∧ (c (rv_i a) → rt_Fg G d m Qr Qt t L r h) ∧ (¬ c (rv_i a) → rt_Fg G d m Qr Qt nx L r h)) := (rt_Fg_u hk).trans (congrArg (And _) rf_sel)
theorem rf_if2 {c : Int32 → Int32 → Prop} {a b : Value} {t : Nat} (hk : G.1 m pc = op_if2 c t nx) : rt_Fg G d m Qr Qt pc L (b :: a :: r) h = ((rp_i b ∧ rp_i a) ∧ (c (rv_i a) (rv_i b) → rt_Fg G d m Qr Qt t L r h) ∧ (¬ c (rv_i a) (rv_i b) → rt_Fg G d m Qr Qt nx L r h)) := (rt_Fg_u hk).trans (congrArg (And _) rf_sel)
theorem rf_ifn {a : Value} {t : Nat} (hk : G.1 m pc = op_ifn t nx) : rt_Fg G d m Qr Qt pc L (a :: r) h = (rp_a a ∧ (a = .null → rt_Fg G d m Qr Qt t L r h) ∧ (¬ a = .null → rt_Fg G d m Qr Qt nx L r h)) := (rt_Fg_u hk).trans (congrArg (And _) rf_sel)
theorem rf_sw {q : List (Int32 × Nat)} {a : Value} {t : Nat} (hk : G.1 m pc = op_sw q t) : rt_Fg G d m Qr Qt pc L (a :: r) h = (rp_i a ∧ rt_Fg G d m Qr Qt (rt_swt (rv_i a) q t) L r h) := rt_Fg_u hk
theorem rf_swt_s {x k : Int32} {t e : Nat} {q : List (Int32 × Nat)} : rt_Fg G d m Qr Qt (rt_swt x ((k, t) :: q) e) L S h = ((x = k → rt_Fg G d m Qr Qt t L S h) ∧ (¬ x = k → rt_Fg G d m Qr Qt (rt_swt x q e) L S h)) := rf_sel
theorem rf_swt_0 {x : Int32} {e : Nat} : rt_Fg G d m Qr Qt (rt_swt x [] e) L S h = rt_Fg G d m Qr Qt e L S h := rfl
theorem rf_getf {tg : List Nat} {k ty : Nat} {a : Value} (hk : G.1 m pc = op_getf tg k ty nx) : rt_Fg G d m Qr Qt pc L (a :: r) h = ((rp_r a ∧ hp_t h (rv_a a) ∈ tg) ∧ rt_Fg G d m Qr Qt nx L (rt_nv ty (hp_v h (rv_a a) k) :: r) h) := rt_Fg_u hk
theorem rf_putf {tg : List Nat} {k ty : Nat} {a v : Value} (hk : G.1 m pc = op_putf tg k ty nx) : rt_Fg G d m Qr Qt pc L (v :: a :: r) h = ((rt_ty ty v ∧ rp_r a ∧ hp_t h (rv_a a) ∈ tg) ∧ rt_Fg G d m Qr Qt nx L r (hp_set h (rv_a a) k v)) := rt_Fg_u hk
theorem rf_ald {tg ty : Nat} {i a : Value} (hk : G.1 m pc = op_ald tg ty nx) : rt_Fg G d m Qr Qt pc L (i :: a :: r) h = ((rp_i i ∧ rp_r a ∧ hp_t h (rv_a a) = tg ∧ vp_in (rv_i i) (hp_l h (rv_a a))) ∧ rt_Fg G d m Qr Qt nx L (rt_nv ty (hp_v h (rv_a a) (rv_i i).toNatClampNeg) :: r) h) := rt_Fg_u hk
theorem rf_ast {tg ty : Nat} {v i a : Value} (hk : G.1 m pc = op_ast tg ty nx) : rt_Fg G d m Qr Qt pc L (v :: i :: a :: r) h = ((rt_at ty v ∧ rp_i i ∧ rp_r a ∧ hp_t h (rv_a a) = tg ∧ vp_in (rv_i i) (hp_l h (rv_a a))) ∧ rt_Fg G d m Qr Qt nx L r (hp_set h (rv_a a) (rv_i i).toNatClampNeg (rt_na ty v))) := rt_Fg_u hk
theorem rf_asq {tg : Nat} {tv : List Nat} {v i a : Value} (hk : G.1 m pc = op_asq tg tv nx) : rt_Fg G d m Qr Qt pc L (v :: i :: a :: r) h = (((v = .null ∨ (rp_r v ∧ hp_t h (rv_a v) ∈ tv)) ∧ rp_i i ∧ rp_r a ∧ hp_t h (rv_a a) = tg ∧ vp_in (rv_i i) (hp_l h (rv_a a))) ∧ rt_Fg G d m Qr Qt nx L r (hp_set h (rv_a a) (rv_i i).toNatClampNeg v)) := rt_Fg_u hk
theorem rf_aldx {tg ty : Nat} {i a : Value} (hk : G.1 m pc = op_aldx tg ty nx) : rt_Fg G d m Qr Qt pc L (i :: a :: r) h = ((rp_i i ∧ rp_r a ∧ hp_t h (rv_a a) = tg ∧ rt_bud h 3 1010 ∧ rt_cw r ≤ 8) ∧ (vp_in (rv_i i) (hp_l h (rv_a a)) → rt_Fg G d m Qr Qt nx L (rt_nv ty (hp_v h (rv_a a) (rv_i i).toNatClampNeg) :: r) h) ∧ (¬ vp_in (rv_i i) (hp_l h (rv_a a)) → rt_Hg G d m Qr Qt pc L 3 0 (hp_cost h 3 1010))) := (rt_Fg_u hk).trans (congrArg (And _) rt_out_if)
theorem rf_astx {tg ty : Nat} {v i a : Value} (hk : G.1 m pc = op_astx tg ty nx) : rt_Fg G d m Qr Qt pc L (v :: i :: a :: r) h = ((rt_at ty v ∧ rp_i i ∧ rp_r a ∧ hp_t h (rv_a a) = tg ∧ rt_bud h 3 1010 ∧ rt_cw r ≤ 8) ∧ (vp_in (rv_i i) (hp_l h (rv_a a)) → rt_Fg G d m Qr Qt nx L r (hp_set h (rv_a a) (rv_i i).toNatClampNeg (rt_na ty v))) ∧ (¬ vp_in (rv_i i) (hp_l h (rv_a a)) → rt_Hg G d m Qr Qt pc L 3 0 (hp_cost h 3 1010))) := (rt_Fg_u hk).trans (congrArg (And _) rt_out_if)
theorem rf_alen {tg : List Nat} {a : Value} (hk : G.1 m pc = op_alen tg nx) : rt_Fg G d m Qr Qt pc L (a :: r) h = ((rp_r a ∧ hp_t h (rv_a a) ∈ tg) ∧ rt_Fg G d m Qr Qt nx L (.int (Int32.ofNat (hp_l h (rv_a a))) :: r) h) := rt_Fg_u hk
theorem rf_new {t : Nat} {ts : List Nat} (hk : G.1 m pc = op_new t ts nx) : rt_Fg G d m Qr Qt pc L S h = (rt_bud h 1 ts.length ∧ rt_Fg G d m Qr Qt nx L (.ref (hp_n h) :: S) (hp_new h t ts.length ts.length (rt_dfs ts))) := rt_Fg_u hk
theorem rf_newa {t ty : Nat} {c : Value} (hk : G.1 m pc = op_newa t ty nx) : rt_Fg G d m Qr Qt pc L (c :: r) h = ((rp_i c ∧ ¬ rv_i c < 0 ∧ (rv_i c).toNatClampNeg ≤ 5000 ∧ rt_bud h 1 (rv_i c).toNatClampNeg) ∧ rt_Fg G d m Qr Qt nx L (.ref (hp_n h) :: r) (hp_new h t (rv_i c).toNatClampNeg (rv_i c).toNatClampNeg (fun _ => rt_df ty))) := rt_Fg_u hk
theorem rf_newax {t ty : Nat} {c : Value} (hk : G.1 m pc = op_newax t ty nx) : rt_Fg G d m Qr Qt pc L (c :: r) h = ((rp_i c ∧ (rv_i c).toNatClampNeg ≤ 5000 ∧ rt_bud h 3 5010 ∧ rt_cw r ≤ 8) ∧ (rv_i c < 0 → rt_Hg G d m Qr Qt pc L 4 0 (hp_cost h 3 5010)) ∧ (¬ rv_i c < 0 → rt_Fg G d m Qr Qt nx L (.ref (hp_n h) :: r) (hp_new h t (rv_i c).toNatClampNeg (rv_i c).toNatClampNeg (fun _ => rt_df ty)))) := (rt_Fg_u hk).trans (congrArg (And _) rt_out_if)
theorem rf_multi {t t2 : Nat} {x y : Int32} {a b : Value} (hk : G.1 m pc = op_multi t t2 x y nx) : rt_Fg G d m Qr Qt pc L (b :: a :: r) h = ((a = .int x ∧ b = .int y ∧ rt_bud h (x.toNatClampNeg + 1) (x.toNatClampNeg + x.toNatClampNeg * y.toNatClampNeg)) ∧ rt_Fg G d m Qr Qt nx L (.ref (hp_n h) :: r) (hp_rows (hp_new h t x.toNatClampNeg x.toNatClampNeg (fun _ => .null)) t2 y.toNatClampNeg x.toNatClampNeg)) := rt_Fg_u hk
/-- behind a call: the value on the stack, or the throw -/
def rt_Bg (G : rt_Pg) (d m : Nat) (Qr : rt_Qr) (Qt : rt_Qt) (n : Nat) (L S : List Value) : rt_Qr := fun v h => rt_Fg G d m Qr Qt n L (v.toList ++ S) h
theorem rt_Bg_v {n : Nat} {v : Value} : rt_Bg G d m Qr Qt n L S (some v) h = rt_Fg G d m Qr Qt n L (v :: S) h := rfl
theorem rt_Bg_n {n : Nat} : rt_Bg G d m Qr Qt n L S none h = rt_Fg G d m Qr Qt n L S h := rfl
theorem rf_c0 {y : Nat} (hk : G.1 m pc = op_call y [] nx) : rt_Fg G d m Qr Qt pc L S h = (rt_cw S ≤ 8 ∧ rt_Cg G d y [] h (rt_Bg G d m Qr Qt nx L S) (rt_Hg G d m Qr Qt pc L)) := (rt_Fg_u hk).trans (congrArg (fun p => And p _) (by simp [op_call]))
theorem rf_c1 {y t1 : Nat} {a : Value} (hk : G.1 m pc = op_call y [t1] nx) : rt_Fg G d m Qr Qt pc L (a :: r) h = (rt_cw r ≤ 8 ∧ rt_Cg G d y [a] h (rt_Bg G d m Qr Qt nx L r) (rt_Hg G d m Qr Qt pc L)) := (rt_Fg_u hk).trans (congrArg (fun p => And p _) (by simp [op_call]))
theorem rf_c2 {y t1 t2 : Nat} {a b : Value} (hk : G.1 m pc = op_call y [t1, t2] nx) : rt_Fg G d m Qr Qt pc L (b :: a :: r) h = (rt_cw r ≤ 8 ∧ rt_Cg G d y [a, b] h (rt_Bg G d m Qr Qt nx L r) (rt_Hg G d m Qr Qt pc L)) := (rt_Fg_u hk).trans (congrArg (fun p => And p _) (by simp [op_call]))
theorem rf_c3 {y t1 t2 t3 : Nat} {a b c : Value} (hk : G.1 m pc = op_call y [t1, t2, t3] nx) : rt_Fg G d m Qr Qt pc L (c :: b :: a :: r) h = (rt_cw r ≤ 8 ∧ rt_Cg G d y [a, b, c] h (rt_Bg G d m Qr Qt nx L r) (rt_Hg G d m Qr Qt pc L)) := (rt_Fg_u hk).trans (congrArg (fun p => And p _) (by simp [op_call]))
theorem rf_c4 {y t1 t2 t3 t4 : Nat} {a b c e : Value} (hk : G.1 m pc = op_call y [t1, t2, t3, t4] nx) : rt_Fg G d m Qr Qt pc L (e :: c :: b :: a :: r) h = (rt_cw r ≤ 8 ∧ rt_Cg G d y [a, b, c, e] h (rt_Bg G d m Qr Qt nx L r) (rt_Hg G d m Qr Qt pc L)) := (rt_Fg_u hk).trans (congrArg (fun p => And p _) (by simp [op_call]))
theorem rf_c5 {y t1 t2 t3 t4 t5 : Nat} {a b c e f : Value} (hk : G.1 m pc = op_call y [t1, t2, t3, t4, t5] nx) : rt_Fg G d m Qr Qt pc L (f :: e :: c :: b :: a :: r) h = (rt_cw r ≤ 8 ∧ rt_Cg G d y [a, b, c, e, f] h (rt_Bg G d m Qr Qt nx L r) (rt_Hg G d m Qr Qt pc L)) := (rt_Fg_u hk).trans (congrArg (fun p => And p _) (by simp [op_call]))
theorem rf_c6 {y t1 t2 t3 t4 t5 t6 : Nat} {a b c e f g : Value} (hk : G.1 m pc = op_call y [t1, t2, t3, t4, t5, t6] nx) : rt_Fg G d m Qr Qt pc L (g :: f :: e :: c :: b :: a :: r) h = (rt_cw r ≤ 8 ∧ rt_Cg G d y [a, b, c, e, f, g] h (rt_Bg G d m Qr Qt nx L r) (rt_Hg G d m Qr Qt pc L)) := (rt_Fg_u hk).trans (congrArg (fun p => And p _) (by simp [op_call]))
theorem rf_v0 {vt : List (Nat × Nat)} {a : Value} (hk : G.1 m pc = op_callv vt [] nx) : rt_Fg G d m Qr Qt pc L (a :: r) h = ((rt_cw r ≤ 8 ∧ rp_r a ∧ hp_t h (rv_a a) ∈ vt.map Prod.fst) ∧ rt_Cg G d (rt_vl vt (hp_t h (rv_a a))) [a] h (rt_Bg G d m Qr Qt nx L r) (rt_Hg G d m Qr Qt pc L)) := (rt_Fg_u hk).trans (congrArg (fun p => And p _) (by simp [op_callv]))
theorem rf_v1 {vt : List (Nat × Nat)} {t1 : Nat} {a b : Value} (hk : G.1 m pc = op_callv vt [t1] nx) : rt_Fg G d m Qr Qt pc L (b :: a :: r) h = ((rt_cw r ≤ 8 ∧ rp_r a ∧ hp_t h (rv_a a) ∈ vt.map Prod.fst) ∧ rt_Cg G d (rt_vl vt (hp_t h (rv_a a))) [a, b] h (rt_Bg G d m Qr Qt nx L r) (rt_Hg G d m Qr Qt pc L)) := (rt_Fg_u hk).trans (congrArg (fun p => And p _) (by simp [op_callv]))
theorem rf_v2 {vt : List (Nat × Nat)} {t1 t2 : Nat} {a b c : Value} (hk : G.1 m pc = op_callv vt [t1, t2] nx) : rt_Fg G d m Qr Qt pc L (c :: b :: a :: r) h = ((rt_cw r ≤ 8 ∧ rp_r a ∧ hp_t h (rv_a a) ∈ vt.map Prod.fst) ∧ rt_Cg G d (rt_vl vt (hp_t h (rv_a a))) [a, b, c] h (rt_Bg G d m Qr Qt nx L r) (rt_Hg G d m Qr Qt pc L)) := (rt_Fg_u hk).trans (congrArg (fun p => And p _) (by simp [op_callv]))
theorem rf_x0 {vt : List (Nat × Nat)} {a : Value} (hk : G.1 m pc = op_callx vt [] nx) : rt_Fg G d m Qr Qt pc L (a :: r) h = ((rt_cw r ≤ 8 ∧ rp_a a ∧ (¬ a = .null → hp_t h (rv_a a) ∈ vt.map Prod.fst) ∧ rt_bud h 1 20) ∧ (a = .null → rt_Hg G d m Qr Qt pc L 2 0 (hp_cost h 1 20)) ∧ (¬ a = .null → rt_Cg G d (rt_vl vt (hp_t h (rv_a a))) [a] h (rt_Bg G d m Qr Qt nx L r) (rt_Hg G d m Qr Qt pc L))) := ((rt_Fg_u hk).trans (congrArg (And _) rt_out_if)).trans (congrArg (fun p => And p _) (by simp [op_callx, rt_tys]))
theorem rf_x1 {vt : List (Nat × Nat)} {t1 : Nat} {a b : Value} (hk : G.1 m pc = op_callx vt [t1] nx) : rt_Fg G d m Qr Qt pc L (b :: a :: r) h = ((rt_ty t1 b ∧ rt_cw r ≤ 8 ∧ rp_a a ∧ (¬ a = .null → hp_t h (rv_a a) ∈ vt.map Prod.fst) ∧ rt_bud h 1 20) ∧ (a = .null → rt_Hg G d m Qr Qt pc L 2 0 (hp_cost h 1 20)) ∧ (¬ a = .null → rt_Cg G d (rt_vl vt (hp_t h (rv_a a))) [a, b] h (rt_Bg G d m Qr Qt nx L r) (rt_Hg G d m Qr Qt pc L))) := ((rt_Fg_u hk).trans (congrArg (And _) rt_out_if)).trans (congrArg (fun p => And p _) (by simp [op_callx, rt_tys]))
theorem rf_x2 {vt : List (Nat × Nat)} {t1 t2 : Nat} {a b c : Value} (hk : G.1 m pc = op_callx vt [t1, t2] nx) : rt_Fg G d m Qr Qt pc L (c :: b :: a :: r) h = (((rt_ty t1 b ∧ rt_ty t2 c) ∧ rt_cw r ≤ 8 ∧ rp_a a ∧ (¬ a = .null → hp_t h (rv_a a) ∈ vt.map Prod.fst) ∧ rt_bud h 1 20) ∧ (a = .null → rt_Hg G d m Qr Qt pc L 2 0 (hp_cost h 1 20)) ∧ (¬ a = .null → rt_Cg G d (rt_vl vt (hp_t h (rv_a a))) [a, b, c] h (rt_Bg G d m Qr Qt nx L r) (rt_Hg G d m Qr Qt pc L))) := ((rt_Fg_u hk).trans (congrArg (And _) rt_out_if)).trans (congrArg (fun p => And p _) (by simp [op_callx, rt_tys]))
theorem rf_ret (hk : G.1 m pc = op_ret) : rt_Fg G d m Qr Qt pc L S h = (S = [] ∧ Qr none h) := rt_Fg_u hk
theorem rf_retv {ty : Nat} {v : Value} (hk : G.1 m pc = op_retv ty) : rt_Fg G d m Qr Qt pc L (v :: r) h = ((rt_ty ty v ∧ r = []) ∧ Qr (some v) h) := rt_Fg_u hk
theorem rf_athrow {t : Nat} {a : Value} (hk : G.1 m pc = op_athrow t) : rt_Fg G d m Qr Qt pc L (a :: r) h = ((rp_r a ∧ hp_t h (rv_a a) = t) ∧ rt_Hg G d m Qr Qt pc L 0 (rv_a a) h) := rt_Fg_u hk
theorem rf_thr (hk : G.1 m pc = op_thr) : rt_Fg G d m Qr Qt pc L S h = ((S = [] ∧ rt_bud h 1 6) ∧ rt_Hg G d m Qr Qt pc L 1 0 (hp_cost h 1 6)) := rt_Fg_u hk
theorem rf_obj {a : Value} (hk : G.1 m pc = op_obj nx) : rt_Fg G d m Qr Qt pc L (a :: r) h = ((rp_r a ∧ rt_cw r ≤ 8) ∧ rt_Fg G d m Qr Qt nx L r h) := rt_Fg_u hk
theorem rf_thw (hk : G.1 m pc = op_thw nx) : rt_Fg G d m Qr Qt pc L S h = ((S = [] ∧ rp_r (lk_g L 0) ∧ hp_t h (rv_a (lk_g L 0)) = 12 ∧ (∀ k, k < 4 → hp_v h (rv_a (lk_g L 0)) k = .null) ∧ lk_g L 1 = .null ∧ lk_g L 2 = .null ∧ lk_g L 3 = .int 0 ∧ lk_g L 4 = .int 0) ∧ rt_Fg G d m Qr Qt nx L [] h) := rt_Fg_u hk
theorem rf_cast {tg : List Nat} {a : Value} (hk : G.1 m pc = op_cast tg nx) : rt_Fg G d m Qr Qt pc L (a :: r) h = ((a = .null ∨ (rp_r a ∧ hp_t h (rv_a a) ∈ tg)) ∧ rt_Fg G d m Qr Qt nx L (a :: r) h) := rt_Fg_u hk
theorem rf_cpy {tg : List Nat} {n dp dd sp s : Value} (hk : G.1 m pc = op_cpy tg nx) : rt_Fg G d m Qr Qt pc L (n :: dp :: dd :: sp :: s :: r) h = ((rp_i n ∧ rp_i dp ∧ rp_r dd ∧ rp_i sp ∧ rp_r s ∧ hp_t h (rv_a s) ∈ tg ∧ hp_t h (rv_a dd) = hp_t h (rv_a s) ∧ rt_bud h 3 1010 ∧ rt_cw r ≤ 8) ∧
    (¬ rv_i n < 0 ∧ ¬ rv_i sp < 0 ∧ ¬ rv_i dp < 0 ∧ (rv_i sp).toNatClampNeg + (rv_i n).toNatClampNeg ≤ hp_l h (rv_a s) ∧ (rv_i dp).toNatClampNeg + (rv_i n).toNatClampNeg ≤ hp_l h (rv_a dd) → rt_Fg G d m Qr Qt nx L r (hp_cpy h (rv_a dd) (rv_i dp).toNatClampNeg (rv_i n).toNatClampNeg (fun j => hp_v h (rv_a s) ((rv_i sp).toNatClampNeg + j)))) ∧
    (¬ (¬ rv_i n < 0 ∧ ¬ rv_i sp < 0 ∧ ¬ rv_i dp < 0 ∧ (rv_i sp).toNatClampNeg + (rv_i n).toNatClampNeg ≤ hp_l h (rv_a s) ∧ (rv_i dp).toNatClampNeg + (rv_i n).toNatClampNeg ≤ hp_l h (rv_a dd)) → rt_Hg G d m Qr Qt pc L 3 0 (hp_cost h 3 1010))) := (rt_Fg_u hk).trans (congrArg (And _) rt_out_if)
end RUN
