/-! ===== THE ABSTRACT MACHINE: values, heap, locals ===== -/
section AM
/-- next address, cells used, slots used, tag of a cell, its length, what it holds -/
abbrev rt_H : Type := Nat × Nat × Nat × (Nat → Nat) × (Nat → Nat) × (Nat → Nat → Value)
def hp_n (h : rt_H) : Nat := h.1
def hp_c (h : rt_H) : Nat := h.2.1
def hp_s (h : rt_H) : Nat := h.2.2.1
def hp_t (h : rt_H) : Nat → Nat := h.2.2.2.1
def hp_l (h : rt_H) : Nat → Nat := h.2.2.2.2.1
def hp_v (h : rt_H) : Nat → Nat → Value := h.2.2.2.2.2
def hp_set (h : rt_H) (a k : Nat) (v : Value) : rt_H := (h.1, h.2.1, h.2.2.1, h.2.2.2.1, h.2.2.2.2.1, fun x j => if x = a ∧ j = k then v else hp_v h x j)
/-- n places of a from p on are written -/
def hp_cpy (h : rt_H) (a p n : Nat) (f : Nat → Value) : rt_H := (h.1, h.2.1, h.2.2.1, h.2.2.2.1, h.2.2.2.2.1, fun x j => if x = a ∧ p ≤ j ∧ j < p + n then f (j - p) else hp_v h x j)
def hp_cost (h : rt_H) (c s : Nat) : rt_H := (h.1, h.2.1 + c, h.2.2.1 + s, h.2.2.2)
/-- a new cell of tag t, length n, s slots, holding f -/
def hp_new (h : rt_H) (t n s : Nat) (f : Nat → Value) : rt_H :=
  (h.1 + 1, h.2.1 + 1, h.2.2.1 + s, (fun x => if x = hp_n h then t else hp_t h x), (fun x => if x = hp_n h then n else hp_l h x), fun x j => if x = hp_n h then f j else hp_v h x j)
theorem hp_n_set {h : rt_H} {a k : Nat} {v : Value} : hp_n (hp_set h a k v) = hp_n h := rfl
theorem hp_c_set {h : rt_H} {a k : Nat} {v : Value} : hp_c (hp_set h a k v) = hp_c h := rfl
theorem hp_s_set {h : rt_H} {a k : Nat} {v : Value} : hp_s (hp_set h a k v) = hp_s h := rfl
theorem hp_t_set {h : rt_H} {a k : Nat} {v : Value} : hp_t (hp_set h a k v) = hp_t h := rfl
theorem hp_l_set {h : rt_H} {a k : Nat} {v : Value} : hp_l (hp_set h a k v) = hp_l h := rfl
theorem hp_v_set {h : rt_H} {a k : Nat} {v : Value} {x j : Nat} : hp_v (hp_set h a k v) x j = if x = a ∧ j = k then v else hp_v h x j := rfl
theorem hp_n_cpy {h : rt_H} {a p n : Nat} {f : Nat → Value} : hp_n (hp_cpy h a p n f) = hp_n h := rfl
theorem hp_c_cpy {h : rt_H} {a p n : Nat} {f : Nat → Value} : hp_c (hp_cpy h a p n f) = hp_c h := rfl
theorem hp_s_cpy {h : rt_H} {a p n : Nat} {f : Nat → Value} : hp_s (hp_cpy h a p n f) = hp_s h := rfl
theorem hp_t_cpy {h : rt_H} {a p n : Nat} {f : Nat → Value} : hp_t (hp_cpy h a p n f) = hp_t h := rfl
theorem hp_l_cpy {h : rt_H} {a p n : Nat} {f : Nat → Value} : hp_l (hp_cpy h a p n f) = hp_l h := rfl
theorem hp_v_cpy {h : rt_H} {a p n : Nat} {f : Nat → Value} {x j : Nat} : hp_v (hp_cpy h a p n f) x j = if x = a ∧ p ≤ j ∧ j < p + n then f (j - p) else hp_v h x j := rfl
theorem hp_n_cost {h : rt_H} {c s : Nat} : hp_n (hp_cost h c s) = hp_n h := rfl
theorem hp_c_cost {h : rt_H} {c s : Nat} : hp_c (hp_cost h c s) = hp_c h + c := rfl
theorem hp_s_cost {h : rt_H} {c s : Nat} : hp_s (hp_cost h c s) = hp_s h + s := rfl
theorem hp_t_cost {h : rt_H} {c s : Nat} : hp_t (hp_cost h c s) = hp_t h := rfl
theorem hp_l_cost {h : rt_H} {c s : Nat} : hp_l (hp_cost h c s) = hp_l h := rfl
theorem hp_v_cost {h : rt_H} {c s : Nat} : hp_v (hp_cost h c s) = hp_v h := rfl
theorem hp_n_new {h : rt_H} {t n s : Nat} {f : Nat → Value} : hp_n (hp_new h t n s f) = hp_n h + 1 := rfl
theorem hp_c_new {h : rt_H} {t n s : Nat} {f : Nat → Value} : hp_c (hp_new h t n s f) = hp_c h + 1 := rfl
theorem hp_s_new {h : rt_H} {t n s : Nat} {f : Nat → Value} : hp_s (hp_new h t n s f) = hp_s h + s := rfl
theorem hp_t_new {h : rt_H} {t n s x : Nat} {f : Nat → Value} : hp_t (hp_new h t n s f) x = if x = hp_n h then t else hp_t h x := rfl
theorem hp_l_new {h : rt_H} {t n s x : Nat} {f : Nat → Value} : hp_l (hp_new h t n s f) x = if x = hp_n h then n else hp_l h x := rfl
theorem hp_v_new {h : rt_H} {t n s x j : Nat} {f : Nat → Value} : hp_v (hp_new h t n s f) x j = if x = hp_n h then f j else hp_v h x j := rfl
theorem hp_set_set {h : rt_H} {a k : Nat} {v w : Value} : hp_set (hp_set h a k v) a k w = hp_set h a k w := by
  unfold hp_set
  congr 1; congr 1; congr 1; congr 1; congr 1
  funext x j
  show (if x = a ∧ j = k then w else if x = a ∧ j = k then v else hp_v h x j) = _
  split <;> rfl
theorem hp_set_same {h : rt_H} {a k : Nat} {v : Value} (e : hp_v h a k = v) : hp_set h a k v = h := by
  obtain ⟨n, c, s, t, l, f⟩ := h
  unfold hp_set
  congr 1; congr 1; congr 1; congr 1; congr 1
  funext x j
  show (if x = a ∧ j = k then v else f x j) = f x j
  split
  · rename_i q; rw [q.1, q.2]; exact e.symm
  · rfl
theorem hp_ext {h g : rt_H} (e1 : hp_n h = hp_n g) (e2 : hp_c h = hp_c g) (e3 : hp_s h = hp_s g) (e4 : hp_t h = hp_t g) (e5 : hp_l h = hp_l g) (e6 : ∀ x j, hp_v h x j = hp_v g x j) : h = g := by
  obtain ⟨a1, a2, a3, a4, a5, a6⟩ := h
  obtain ⟨b1, b2, b3, b4, b5, b6⟩ := g
  have e7 : a6 = b6 := funext fun x => funext fun j => e6 x j
  simp only [hp_n, hp_c, hp_s, hp_t, hp_l] at e1 e2 e3 e4 e5
  rw [e1, e2, e3, e4, e5, e7]
-- values
def rv_i : Value → Int32 | .int x => x | _ => 0
def rv_l : Value → Int64 | .long x => x | _ => 0
def rv_a : Value → Nat | .ref a => a | _ => 0
/-- a reference, or null -/
def rv_n : Value → Value | .ref a => .ref a | _ => .null
def rp_i : Value → Prop | .int _ => True | _ => False
def rp_l : Value → Prop | .long _ => True | _ => False
def rp_a : Value → Prop | .ref _ => True | .null => True | _ => False
def rp_r : Value → Prop | .ref _ => True | _ => False
def rb_l : Value → Bool | .long _ => true | _ => false
theorem rv_i_int {x : Int32} : rv_i (.int x) = x := rfl
theorem rv_l_long {x : Int64} : rv_l (.long x) = x := rfl
theorem rv_a_ref {a : Nat} : rv_a (.ref a) = a := rfl
theorem rv_n_ref {a : Nat} : rv_n (.ref a) = .ref a := rfl
theorem rv_n_null : rv_n .null = .null := rfl
theorem rp_i_int {x : Int32} : rp_i (.int x) = True := rfl
theorem rp_l_long {x : Int64} : rp_l (.long x) = True := rfl
theorem rp_a_ref {a : Nat} : rp_a (.ref a) = True := rfl
theorem rp_a_null : rp_a .null = True := rfl
theorem rp_r_ref {a : Nat} : rp_r (.ref a) = True := rfl
theorem rp_r_null : rp_r .null = False := rfl
theorem rp_a_n {v : Value} : rp_a (rv_n v) = True := by cases v <;> rfl
theorem rb_l_int {x : Int32} : rb_l (.int x) = false := rfl
theorem rb_l_long {x : Int64} : rb_l (.long x) = true := rfl
theorem rb_l_ref {a : Nat} : rb_l (.ref a) = false := rfl
theorem rb_l_null : rb_l .null = false := rfl
theorem rb_l_un {n : Nat} : rb_l (.retAddr n) = false := rfl
theorem rb_l_n {v : Value} : rb_l (rv_n v) = false := by cases v <;> rfl
-- types of values by numbers: 0 int, 1 long, 2 reference, 3 boolean
def rt_ty (t : Nat) (v : Value) : Prop := match t with | 0 => rp_i v | 1 => rp_l v | 2 => rp_a v | 3 => rp_i v ∧ (rv_i v = 0 ∨ rv_i v = 1) | _ => False
theorem rt_ty_0 {v : Value} : rt_ty 0 v = rp_i v := rfl
theorem rt_ty_1 {v : Value} : rt_ty 1 v = rp_l v := rfl
theorem rt_ty_2 {v : Value} : rt_ty 2 v = rp_a v := rfl
theorem rt_ty_3 {v : Value} : rt_ty 3 v = (rp_i v ∧ (rv_i v = 0 ∨ rv_i v = 1)) := rfl
/-- what is read from the heap, by its type -/
def rt_nv (t : Nat) (v : Value) : Value := match t with | 1 => .long (rv_l v) | 2 => rv_n v | 4 => .int (rv_i v).toInt8.toInt32 | 5 => .int (rv_i v).toInt16.toInt32 | _ => .int (rv_i v)
theorem rt_nv_0 {v : Value} : rt_nv 0 v = .int (rv_i v) := rfl
theorem rt_nv_1 {v : Value} : rt_nv 1 v = .long (rv_l v) := rfl
theorem rt_nv_2 {v : Value} : rt_nv 2 v = rv_n v := rfl
theorem rt_nv_3 {v : Value} : rt_nv 3 v = .int (rv_i v) := rfl
theorem rt_nv_4 {v : Value} : rt_nv 4 v = .int (rv_i v).toInt8.toInt32 := rfl
theorem rt_nv_5 {v : Value} : rt_nv 5 v = .int (rv_i v).toInt16.toInt32 := rfl
def rt_tys : List Nat → List Value → Prop | [], [] => True | t :: ts, v :: vs => rt_ty t v ∧ rt_tys ts vs | _, _ => False
theorem rt_tys_0 : rt_tys [] [] = True := rfl
theorem rt_tys_s {t : Nat} {ts : List Nat} {v : Value} {vs : List Value} : rt_tys (t :: ts) (v :: vs) = (rt_ty t v ∧ rt_tys ts vs) := rfl
/-- the words of a stack -/
def rt_cw : List Value → Nat | [] => 0 | v :: r => (bif rb_l v then 2 else 1) + rt_cw r
theorem rt_cw_0 : rt_cw [] = 0 := rfl
theorem rt_cw_s {v : Value} {r : List Value} : rt_cw (v :: r) = (bif rb_l v then 2 else 1) + rt_cw r := rfl
-- locals
abbrev lk_u : Value := .retAddr 0
def lk_g : List Value → Nat → Value | [], _ => lk_u | v :: _, 0 => v | _ :: L, i + 1 => lk_g L i
def lk_s : List Value → Nat → Value → List Value
  | [], _, _ => []
  | _ :: L, 0, v => v :: L
  | a :: L, 1, v => (bif rb_l a then lk_u else a) :: lk_s L 0 v
  | a :: L, i + 2, v => a :: lk_s L (i + 1) v
def lk_2 : List Value → Nat → Value → List Value
  | [], _, _ => []
  | [_], _, v => [v]
  | _ :: _ :: L, 0, v => v :: lk_u :: L
  | a :: b :: L, 1, v => (bif rb_l a then lk_u else a) :: lk_2 (b :: L) 0 v
  | a :: b :: L, i + 2, v => a :: lk_2 (b :: L) (i + 1) v
theorem lk_g_0 {v : Value} {L : List Value} : lk_g (v :: L) 0 = v := rfl
theorem lk_g_s {v : Value} {L : List Value} {i : Nat} : lk_g (v :: L) (i + 1) = lk_g L i := rfl
theorem lk_s_0 {a v : Value} {L : List Value} : lk_s (a :: L) 0 v = v :: L := rfl
theorem lk_s_1 {a v : Value} {L : List Value} : lk_s (a :: L) 1 v = (bif rb_l a then lk_u else a) :: lk_s L 0 v := rfl
theorem lk_s_s {a v : Value} {L : List Value} {i : Nat} : lk_s (a :: L) (i + 2) v = a :: lk_s L (i + 1) v := rfl
theorem lk_2_0 {a b v : Value} {L : List Value} : lk_2 (a :: b :: L) 0 v = v :: lk_u :: L := rfl
theorem lk_2_1 {a b v : Value} {L : List Value} : lk_2 (a :: b :: L) 1 v = (bif rb_l a then lk_u else a) :: lk_2 (b :: L) 0 v := rfl
theorem lk_2_s {a b v : Value} {L : List Value} {i : Nat} : lk_2 (a :: b :: L) (i + 2) v = a :: lk_2 (b :: L) (i + 1) v := rfl
/-- the locals at a method's entry: by the types of what comes in -/
def rt_en : List Nat → Nat → List Value → List Value
  | 1 :: ts, n + 2, v :: vs => v :: lk_u :: rt_en ts n vs
  | _ :: ts, n + 1, v :: vs => v :: rt_en ts n vs
  | _, n, _ => List.replicate n lk_u
/-! ===== runs ===== -/
/-- what an instruction comes to: the next place; a call; a return; a throw -/
abbrev rt_O : Type := (Nat × List Value × List Value × rt_H) ⊕ ((Nat × List Value × Nat × List Value × List Value × rt_H) ⊕ ((Option Value × rt_H) ⊕ (Nat × Nat × rt_H)))
abbrev rt_Op : Type := List Value → List Value → rt_H → Prop × rt_O
abbrev rt_Qr : Type := Option Value → rt_H → Prop
abbrev rt_Qt : Type := Nat → Nat → rt_H → Prop
abbrev rt_P : Type := Nat → List Value → List Value → rt_H → Prop
abbrev rt_Ca : Type := Nat → List Value → rt_H → rt_Qr → rt_Qt → Prop
/-- what the handler's local holds: 0 is a Fault, the others are opaque -/
def rt_x (k a : Nat) : Value := bif k == 0 then .ref a else lk_u
def rt_hd (hd : Nat → Nat → Option (Nat × Nat)) (Qt : rt_Qt) (P : rt_P) (pc : Nat) (L : List Value) (k a : Nat) (h : rt_H) : Prop := match hd pc k with
  | some q => q.1 < 9999 ∧ P q.1 (lk_s L q.2 (rt_x k a)) [] h
  | none => Qt k a h
def rt_out (C : rt_Ca) (hd : Nat → Nat → Option (Nat × Nat)) (Qr : rt_Qr) (Qt : rt_Qt) (P : rt_P) (pc : Nat) (L : List Value) : rt_O → Prop
  | .inl (n, L', S', h') => P n L' S' h'
  | .inr (.inl (m, as, n, L', S', h')) => C m as h' (fun v h1 => P n L' (v.toList ++ S') h1) (fun k a h1 => rt_hd hd Qt P pc L' k a h1)
  | .inr (.inr (.inl (v, h'))) => Qr v h'
  | .inr (.inr (.inr (k, a, h'))) => rt_hd hd Qt P pc L k a h'
def rt_st (K : Nat → rt_Op) (hd : Nat → Nat → Option (Nat × Nat)) (C : rt_Ca) (Qr : rt_Qr) (Qt : rt_Qt) (P : rt_P) : rt_P := fun pc L S h => (K pc L S h).1 ∧ rt_out C hd Qr Qt P pc L (K pc L S h).2
/-- a frame's run: the least predicate closed under the steps -/
def rt_R (K : Nat → rt_Op) (hd : Nat → Nat → Option (Nat × Nat)) (C : rt_Ca) (Qr : rt_Qr) (Qt : rt_Qt) : rt_P := fun pc L S h =>
  ∀ P : rt_P, (∀ pc L S h, rt_st K hd C Qr Qt P pc L S h → P pc L S h) → P pc L S h
def rt_CM (C : rt_Ca) : Prop := ∀ (m : Nat) (as : List Value) (h : rt_H) (Qr Qr' : rt_Qr) (Qt Qt' : rt_Qt), (∀ v g, Qr v g → Qr' v g) → (∀ k a g, Qt k a g → Qt' k a g) → C m as h Qr Qt → C m as h Qr' Qt'
theorem rt_hd_mono {hd : Nat → Nat → Option (Nat × Nat)} {Qt Qt' : rt_Qt} {P P' : rt_P} (hP : ∀ pc L S h, P pc L S h → P' pc L S h) (hQ : ∀ k a g, Qt k a g → Qt' k a g) {pc : Nat} {L : List Value} {k a : Nat} {h : rt_H} (q : rt_hd hd Qt P pc L k a h) : rt_hd hd Qt' P' pc L k a h := by
  unfold rt_hd at q ⊢
  cases e : hd pc k with
  | none => rw [e] at q; exact hQ _ _ _ q
  | some x => rw [e] at q; exact ⟨q.1, hP _ _ _ _ q.2⟩
theorem rt_out_mono {C C' : rt_Ca} {hd : Nat → Nat → Option (Nat × Nat)} {Qr Qr' : rt_Qr} {Qt Qt' : rt_Qt} {P P' : rt_P} (hC : rt_CM C') (hCC : ∀ m as h Qr Qt, C m as h Qr Qt → C' m as h Qr Qt) (hP : ∀ pc L S h, P pc L S h → P' pc L S h) (h1 : ∀ v g, Qr v g → Qr' v g) (h2 : ∀ k a g, Qt k a g → Qt' k a g) {pc : Nat} {L : List Value} {o : rt_O} (q : rt_out C hd Qr Qt P pc L o) : rt_out C' hd Qr' Qt' P' pc L o := by
  rcases o with x | x | x | x
  · exact hP _ _ _ _ q
  · exact hC _ _ _ _ _ _ _ (fun v g z => hP _ _ _ _ z) (fun k a g z => rt_hd_mono hP h2 z) (hCC _ _ _ _ _ q)
  · exact h1 _ _ q
  · exact rt_hd_mono hP h2 q
theorem rt_R_in {K : Nat → rt_Op} {hd : Nat → Nat → Option (Nat × Nat)} {C : rt_Ca} (hC : rt_CM C) {Qr : rt_Qr} {Qt : rt_Qt} {pc : Nat} {L S : List Value} {h : rt_H} (q : rt_st K hd C Qr Qt (rt_R K hd C Qr Qt) pc L S h) : rt_R K hd C Qr Qt pc L S h := by
  intro P hP
  exact hP _ _ _ _ ⟨q.1, rt_out_mono hC (fun _ _ _ _ _ z => z) (fun pc L S h z => z P hP) (fun _ _ z => z) (fun _ _ _ z => z) q.2⟩
theorem rt_R_u {K : Nat → rt_Op} {hd : Nat → Nat → Option (Nat × Nat)} {C : rt_Ca} (hC : rt_CM C) {Qr : rt_Qr} {Qt : rt_Qt} {pc : Nat} {L S : List Value} {h : rt_H} : rt_R K hd C Qr Qt pc L S h = rt_st K hd C Qr Qt (rt_R K hd C Qr Qt) pc L S h := by
  refine propext ⟨fun q => ?_, rt_R_in hC⟩
  refine q (rt_st K hd C Qr Qt (rt_R K hd C Qr Qt)) (fun pc L S h z => ?_)
  exact ⟨z.1, rt_out_mono hC (fun _ _ _ _ _ z => z) (fun _ _ _ _ w => rt_R_in hC w) (fun _ _ z => z) (fun _ _ _ z => z) z.2⟩
theorem rt_R_mono {K : Nat → rt_Op} {hd : Nat → Nat → Option (Nat × Nat)} {C C' : rt_Ca} (hC' : rt_CM C') (hCC : ∀ m as h Qr Qt, C m as h Qr Qt → C' m as h Qr Qt) {Qr Qr' : rt_Qr} {Qt Qt' : rt_Qt} (h1 : ∀ v g, Qr v g → Qr' v g) (h2 : ∀ k a g, Qt k a g → Qt' k a g) {pc : Nat} {L S : List Value} {h : rt_H} (q : rt_R K hd C Qr Qt pc L S h) : rt_R K hd C' Qr' Qt' pc L S h := by
  refine q _ (fun pc L S h z => rt_R_in hC' ⟨z.1, ?_⟩)
  exact rt_out_mono hC' hCC (fun _ _ _ _ w => w) h1 h2 z.2
/-- a program: the code, the handlers, the types of what comes in, the number of locals, of each method -/
abbrev rt_Pg : Type := (Nat → Nat → rt_Op) × (Nat → Nat → Nat → Option (Nat × Nat)) × (Nat → List Nat) × (Nat → Nat)
def rt_Cg (G : rt_Pg) : Nat → rt_Ca
  | 0 => fun _ _ _ _ _ => False
  | d + 1 => fun m as h Qr Qt => rt_tys (G.2.2.1 m) as ∧ rt_R (G.1 m) (G.2.1 m) (rt_Cg G d) Qr Qt 0 (rt_en (G.2.2.1 m) (G.2.2.2 m) as) [] h
theorem rt_Cg_CM (G : rt_Pg) : ∀ d, rt_CM (rt_Cg G d)
  | 0 => fun _ _ _ _ _ _ _ _ _ z => z
  | d + 1 => fun _ _ _ _ _ _ _ h1 h2 z => ⟨z.1, rt_R_mono (rt_Cg_CM G d) (fun _ _ _ _ _ w => w) h1 h2 z.2⟩
theorem rt_Cg_s (G : rt_Pg) : ∀ d m as h Qr Qt, rt_Cg G d m as h Qr Qt → rt_Cg G (d + 1) m as h Qr Qt
  | 0, _, _, _, _, _, z => z.elim
  | d + 1, _, _, _, _, _, z => ⟨z.1, rt_R_mono (rt_Cg_CM G (d + 1)) (rt_Cg_s G d) (fun _ _ w => w) (fun _ _ _ w => w) z.2⟩
theorem rt_Cg_le (G : rt_Pg) {d e : Nat} (hd : d ≤ e) {m : Nat} {as : List Value} {h : rt_H} {Qr : rt_Qr} {Qt : rt_Qt} (z : rt_Cg G d m as h Qr Qt) : rt_Cg G e m as h Qr Qt := by
  induction hd with
  | refl => exact z
  | step _ ih => exact rt_Cg_s G _ _ _ _ _ _ ih
/-- a choice between two places -/
noncomputable def rt_sel (p : Prop) (a b : Nat) : Nat := @ite Nat p (Classical.propDecidable p) a b
theorem rt_sel_P {P : Nat → Prop} {p : Prop} {a b : Nat} : P (rt_sel p a b) = ((p → P a) ∧ (¬ p → P b)) := by
  unfold rt_sel
  by_cases h : p
  · rw [if_pos h]; exact propext ⟨fun z => ⟨fun _ => z, fun q => absurd h q⟩, fun z => z.1 h⟩
  · rw [if_neg h]; exact propext ⟨fun z => ⟨fun q => absurd q h, fun _ => z⟩, fun z => z.2 h⟩
noncomputable def rt_swt (x : Int32) : List (Int32 × Nat) → Nat → Nat | [], d => d | q :: r, d => rt_sel (x = q.1) q.2 (rt_swt x r d)
/-- the method that a receiver's class has -/
def rt_vl : List (Nat × Nat) → Nat → Nat | [], _ => 0 | q :: r, t => if t = q.1 then q.2 else rt_vl r t
theorem rt_vl_s {k m t : Nat} {r : List (Nat × Nat)} : rt_vl ((k, m) :: r) t = if t = k then m else rt_vl r t := rfl
end AM
