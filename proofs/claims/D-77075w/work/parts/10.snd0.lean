/-! ===== the abstract machine against the JVM: heaps ===== -/
section SND0
/-- what a start gives: the classes' numbers and slots, the array classes, the script's cell, its length and ints, the heap, the address of the text "integer overflow" -/
abbrev rt_X : Type := va_G × (Nat → ClassId) × Nat × Nat × (Nat → Int32) × Heap × Nat
def rx_D (X : rt_X) : va_G := X.1
def rx_A (X : rt_X) : Nat → ClassId := X.2.1
def rx_b (X : rt_X) : Nat := X.2.2.1
def rx_L (X : rt_X) : Nat := X.2.2.2.1
def rx_x (X : rt_X) : Nat → Int32 := X.2.2.2.2.1
def rx_H (X : rt_X) : Heap := X.2.2.2.2.2.1
def rx_s (X : rt_X) : Nat := X.2.2.2.2.2.2
def rt_tr (ad : Nat → Nat) : Value → Value | .ref a => .ref (ad a) | v => v
def rt_vn (n : Nat) : Value → Prop | .ref a => a < n | .double _ => False | .float _ => False | _ => True
theorem rt_tr_int {ad : Nat → Nat} {x : Int32} : rt_tr ad (.int x) = .int x := rfl
theorem rt_tr_long {ad : Nat → Nat} {x : Int64} : rt_tr ad (.long x) = .long x := rfl
theorem rt_tr_ref {ad : Nat → Nat} {a : Nat} : rt_tr ad (.ref a) = .ref (ad a) := rfl
theorem rt_tr_null {ad : Nat → Nat} : rt_tr ad .null = .null := rfl
theorem rt_tr_cat {ad : Nat → Nat} {v : Value} : (rt_tr ad v).category = v.category := by cases v <;> rfl
theorem rt_tr_up {ad : Nat → Nat} {n q : Nat} {v : Value} (h : rt_vn n v) : rt_tr (va_up ad n q) v = rt_tr ad v := by
  cases v <;> try rfl
  rename_i a
  have h1 : a < n := h
  show Value.ref (va_up ad n q a) = _
  simp [va_up, Nat.ne_of_lt h1, rt_tr]
theorem rt_vn_mono {n m : Nat} (h : n ≤ m) {v : Value} (hv : rt_vn n v) : rt_vn m v := by
  cases v <;> first | trivial | exact Nat.lt_of_lt_of_le hv h | exact hv
theorem rt_vn_nv {n t : Nat} {v : Value} (hv : rt_vn n v) : rt_vn n (rt_nv t v) := by
  unfold rt_nv
  split <;> first | trivial | (cases v <;> first | trivial | exact hv)
theorem rt_vn_df {n t : Nat} : rt_vn n (rt_df t) := by
  unfold rt_df
  split <;> trivial
/-- the cell k of the abstract heap lies in the heap -/
def rt_ok (X : rt_X) (ad : Nat → Nat) (h : rt_H) (k : Nat) (H : Heap) : Prop :=
  (∀ q : vw_C, rt_cl[hp_t h k]? = some q → t_OB (ad k) ((rx_D X).1 (hp_t h k)) q.2.2 ((rx_D X).2 (hp_t h k)) H (fun j => rt_tr ad (rt_nv ((rt_ft (hp_t h k)).getD j 0) (hp_v h k j)))) ∧
  (∀ (j : Nat) (e : FieldType × Nat), hp_t h k = 100 + j → rt_ai[j]? = some e → H[ad k]? = some (arrV (rx_A X j) (hp_l h k) (fun i => rt_tr ad (rt_nv e.2 (hp_v h k i)))))
def rt_ss (z : Nat) (H : Heap) : Nat := ((H.toList.drop z).map (·.slots.size)).sum
/-- the abstract heap, at the addresses ad -/
def rt_HR (X : rt_X) (ad : Nat → Nat) (h : rt_H) (H : Heap) : Prop :=
  (∀ k, 0 < k → k < hp_n h → rt_ok X ad h k H) ∧
  (∀ k, 0 < k → k < hp_n h → (rx_H X).size ≤ ad k ∧ ad k < H.size) ∧
  (∀ i j, 0 < i → i < hp_n h → 0 < j → j < hp_n h → ad i = ad j → i = j) ∧
  (ad 0 = rx_b X ∧ hp_t h 0 = 99 ∧ hp_l h 0 = rx_L X ∧ (∀ j, j < rx_L X → hp_v h 0 j = .int (rx_x X j)) ∧ 0 < hp_n h ∧ ∀ k, hp_t h k = 99 → k = 0) ∧
  (∀ a, hp_n h ≤ a → hp_t h a = 999) ∧
  (∀ k j, k < hp_n h → rt_vn (hp_n h) (hp_v h k j)) ∧
  (H.size ≤ (rx_H X).size + hp_c h ∧ rt_ss (rx_H X).size H ≤ hp_s h ∧ rt_bud h 0 0) ∧
  ((rx_H X).size ≤ H.size ∧ ∀ q : Nat, q < (rx_H X).size → H[q]? = (rx_H X)[q]?)
theorem rt_ss_same {z : Nat} {H H1 : Heap} (hz : H1.size = H.size) (hs : ∀ (q : Nat) (c c1 : Cell), H[q]? = some c → H1[q]? = some c1 → c1.slots.size = c.slots.size) : rt_ss z H1 = rt_ss z H := by
  have e : H1.toList.map (fun c : Cell => c.slots.size) = H.toList.map (fun c : Cell => c.slots.size) := by
    apply List.ext_getElem?
    intro i
    rw [List.getElem?_map, List.getElem?_map, Array.getElem?_toList, Array.getElem?_toList]
    cases e1 : H1[i]? with
    | none =>
      have : H[i]? = none := by
        rw [Array.getElem?_eq_none_iff] at e1 ⊢
        omega
      rw [this]
    | some c1 =>
      have hi : i < H.size := by
        have := (Array.getElem?_eq_some_iff.mp e1).1
        omega
      have e2 : H[i]? = some H[i] := Array.getElem?_eq_getElem hi
      rw [e2]
      exact congrArg some (hs i _ _ e2 e1)
  unfold rt_ss
  rw [List.map_drop, List.map_drop, e]
theorem rt_ss_put {z : Nat} {H H1 : Heap} {a : Nat} {c c1 : Cell} (hz : H1.size = H.size) (o : ∀ q : Nat, q ≠ a → H1[q]? = H[q]?) (e : H[a]? = some c) (e1 : H1[a]? = some c1) (hs : c1.slots.size = c.slots.size) : rt_ss z H1 = rt_ss z H := by
  refine rt_ss_same hz fun q x x1 h h1 => ?_
  by_cases hq : q = a
  · subst hq
    rw [e] at h; rw [e1] at h1
    cases h; cases h1
    exact hs
  · rw [o q hq, h] at h1
    rw [Option.some.inj h1]
theorem rt_ss_push {z : Nat} {H : Heap} {c : Cell} (hz : z ≤ H.size) : rt_ss z (H.push c) = rt_ss z H + c.slots.size := by
  unfold rt_ss
  rw [Array.toList_push, List.drop_append_of_le_length (by simpa using hz)]
  simp
/-- a heap that has grown by one cell is the old one with it pushed -/
theorem rt_grown {H H1 : Heap} {c : Cell} (e : H1[H.size]? = some c) (z : H1.size = H.size + 1) (o : ∀ q : Nat, q < H.size → H1[q]? = H[q]?) : H1 = H.push c := by
  apply Array.ext_getElem?
  intro i
  rcases Nat.lt_trichotomy i H.size with h | h | h
  · rw [o i h, Array.getElem?_push, if_neg (Nat.ne_of_lt h)]
  · subst h
    rw [e, Array.getElem?_push, if_pos rfl]
  · rw [Array.getElem?_eq_none (by omega), Array.getElem?_eq_none (by rw [Array.size_push]; omega)]
theorem rt_ok_kept {X : rt_X} {ad : Nat → Nat} {h : rt_H} {k : Nat} {H H1 : Heap} (hk : rt_ok X ad h k H) (e : H1[ad k]? = H[ad k]?) : rt_ok X ad h k H1 :=
  ⟨fun q hq => (hk.1 q hq).kept e, fun j w hj hw => by rw [e]; exact hk.2 j w hj hw⟩
/-- what a write of one place keeps -/
theorem rt_HR_put {X : rt_X} {ad : Nat → Nat} {h g : rt_H} {H H1 : Heap} {a : Nat} (R : rt_HR X ad h H) (h0 : 0 < a) (hn : a < hp_n h) (en : hp_n g = hp_n h) (ec : hp_c g = hp_c h) (es : hp_s g = hp_s h) (et : hp_t g = hp_t h) (el : hp_l g = hp_l h) (ev : ∀ x j, x ≠ a → hp_v g x j = hp_v h x j) (hv : ∀ j, rt_vn (hp_n h) (hp_v g a j)) (hok : rt_ok X ad g a H1) (z : H1.size = H.size) (o : ∀ q : Nat, q ≠ ad a → H1[q]? = H[q]?)
    (hsz : ∀ c c1 : Cell, H[ad a]? = some c → H1[ad a]? = some c1 → c1.slots.size = c.slots.size) : rt_HR X ad g H1 := by
  obtain ⟨r1, r2, r3, ⟨r4, r5, r6, r7, r8, r13⟩, r9, r10, r11, r12⟩ := R
  refine ⟨fun k k0 kn => ?_, fun k k0 kn => by rw [en] at kn; rw [z]; exact r2 k k0 kn, fun i j i0 hi j0 hj e => by rw [en] at hi hj; exact r3 i j i0 hi j0 hj e, ⟨r4, by rw [et]; exact r5, by rw [el]; exact r6, fun j hj => by rw [ev 0 j (by omega)]; exact r7 j hj, by rw [en]; exact r8, fun k hk => r13 k (by rw [← et]; exact hk)⟩, fun x hx => by rw [et]; exact r9 x (by rw [← en]; exact hx), fun k j kn => ?_, ⟨by rw [z, ec]; exact r11.1, ?_⟩, by rw [z]; exact r12.1, fun q hq => ?_⟩
  · rw [en] at kn
    by_cases hka : k = a
    · subst hka; exact hok
    · have hne : ad k ≠ ad a := fun e => hka (r3 k a k0 kn h0 hn e)
      have hk := rt_ok_kept (r1 k k0 kn) (o _ hne)
      unfold rt_ok at hk ⊢
      rw [et, el]
      have e2 : hp_v g k = hp_v h k := funext fun j => ev k j hka
      rw [e2]
      exact hk
  · rw [en] at kn ⊢
    by_cases hka : k = a
    · subst hka; exact hv j
    · rw [ev k j hka]; exact r10 k j kn
  · refine ⟨?_, by unfold rt_bud; rw [ec, es]; exact r11.2.2⟩
    rw [es, rt_ss_same z]
    · exact r11.2.1
    · intro q c c1 e e1
      by_cases hq : q = ad a
      · subst hq; exact hsz c c1 e e1
      · rw [o q hq, e] at e1
        rw [Option.some.inj e1]
  · have := (r2 a h0 hn).1
    rw [o q (by omega)]
    exact r12.2 q hq
/-- a new cell -/
theorem rt_HR_new {X : rt_X} {ad : Nat → Nat} {h : rt_H} {H H1 : Heap} {t n s : Nat} {f : Nat → Value} {c : Cell} (R : rt_HR X ad h H) (hb : rt_bud h 1 s) (hf : ∀ j, rt_vn 0 (f j)) (ht : t ≠ 99) (e : H1[H.size]? = some c) (z : H1.size = H.size + 1) (o : ∀ q : Nat, q < H.size → H1[q]? = H[q]?) (hs : c.slots.size ≤ s)
    (hok : rt_ok X (va_up ad (hp_n h) H.size) (hp_new h t n s f) (hp_n h) H1) : rt_HR X (va_up ad (hp_n h) H.size) (hp_new h t n s f) H1 := by
  have hpush := rt_grown e z o
  obtain ⟨r1, r2, r3, ⟨r4, r5, r6, r7, r8, r13⟩, r9, r10, r11, r12⟩ := R
  have u1 : ∀ k, k < hp_n h → va_up ad (hp_n h) H.size k = ad k := fun k hk => by simp [va_up, Nat.ne_of_lt hk]
  have u2 : va_up ad (hp_n h) H.size (hp_n h) = H.size := by simp [va_up]
  refine ⟨fun k k0 kn => ?_, fun k k0 kn => ?_, fun i j i0 hi j0 hj e => ?_, ⟨by rw [u1 0 r8]; exact r4, ?_, ?_, fun j hj => ?_, Nat.succ_pos _, fun k hk => ?_⟩, fun a ha => ?_, fun k j kn => ?_, ⟨?_, ?_⟩, ?_, fun q hq => ?_⟩
  · rw [hp_n_new] at kn
    by_cases hka : k = hp_n h
    · subst hka; exact hok
    · have hk : k < hp_n h := by omega
      have h1 := rt_ok_kept (H1 := H1) (r1 k k0 hk) (o _ (r2 k k0 hk).2)
      unfold rt_ok at h1 ⊢
      rw [hp_t_new, if_neg hka, hp_l_new, if_neg hka, u1 k hk]
      have e2 : hp_v (hp_new h t n s f) k = hp_v h k := funext fun j => by rw [hp_v_new, if_neg hka]
      rw [e2]
      have e3 : ∀ (ty j : Nat), rt_tr (va_up ad (hp_n h) H.size) (rt_nv ty (hp_v h k j)) = rt_tr ad (rt_nv ty (hp_v h k j)) := fun ty j => rt_tr_up (rt_vn_nv (r10 k j hk))
      simp only [e3]
      exact h1
  · rw [hp_n_new] at kn
    by_cases hka : k = hp_n h
    · subst hka; rw [u2, z]; exact ⟨r12.1, by omega⟩
    · rw [u1 k (by omega), z]
      have := r2 k k0 (by omega)
      exact ⟨this.1, by omega⟩
  · rw [hp_n_new] at hi hj
    by_cases hia : i = hp_n h <;> by_cases hja : j = hp_n h
    · rw [hia, hja]
    · subst hia
      rw [u2, u1 j (by omega)] at e
      have := (r2 j j0 (by omega)).2
      omega
    · subst hja
      rw [u2, u1 i (by omega)] at e
      have := (r2 i i0 (by omega)).2
      omega
    · rw [u1 i (by omega), u1 j (by omega)] at e
      exact r3 i j i0 (by omega) j0 (by omega) e
  · rw [hp_t_new, if_neg (by omega)]; exact r5
  · rw [hp_l_new, if_neg (by omega)]; exact r6
  · rw [hp_v_new, if_neg (by omega)]; exact r7 j hj
  · rw [hp_t_new] at hk
    by_cases hka : k = hp_n h
    · rw [if_pos hka] at hk; exact absurd hk ht
    · rw [if_neg hka] at hk; exact r13 k hk
  · rw [hp_n_new] at ha
    rw [hp_t_new, if_neg (by omega)]
    exact r9 a (by omega)
  · rw [hp_n_new] at kn ⊢
    rw [hp_v_new]
    split
    · exact rt_vn_mono (Nat.zero_le _) (hf j)
    · exact rt_vn_mono (Nat.le_succ _) (r10 k j (by omega))
  · rw [z, hp_c_new]; omega
  · rw [hpush, rt_ss_push r12.1, hp_s_new]
    exact ⟨by omega, by have := hb; unfold rt_bud at this ⊢; rw [hp_c_new, hp_s_new]; omega⟩
  · omega
  · rw [o q (by omega)]; exact r12.2 q hq
/-- cells that aren't told of -/
theorem rt_HR_grow {X : rt_X} {ad : Nat → Nat} {h : rt_H} {H H1 : Heap} {c s : Nat} (R : rt_HR X ad h H) (hb : rt_bud h c s) (hz : H.size ≤ H1.size) (o : ∀ q : Nat, q < H.size → H1[q]? = H[q]?) (hc : H1.size ≤ (rx_H X).size + hp_c h + c) (hs : rt_ss (rx_H X).size H1 ≤ hp_s h + s) : rt_HR X ad (hp_cost h c s) H1 := by
  obtain ⟨r1, r2, r3, r4, r9, r10, r11, r12⟩ := R
  refine ⟨fun k k0 kn => ?_, fun k k0 kn => ⟨(r2 k k0 kn).1, Nat.lt_of_lt_of_le (r2 k k0 kn).2 hz⟩, r3, r4, r9, r10, ⟨by rw [hp_c_cost]; omega, by rw [hp_s_cost]; exact hs, by have := hb; unfold rt_bud at this ⊢; rw [hp_c_cost, hp_s_cost]; omega⟩, Nat.le_trans r12.1 hz, fun q hq => by rw [o q (by omega)]; exact r12.2 q hq⟩
  exact rt_ok_kept (h := h) (r1 k k0 kn) (o _ (r2 k k0 kn).2)
/-- locals as the kit has them -/
def rb_v : Value → Bool | .retAddr _ => false | _ => true
def rt_lv (ad : Nat → Nat) (L : List Value) : List (Nat × Value) := L.zipIdx.filterMap (fun q => if rb_v q.1 = true then some (q.2, rt_tr ad q.1) else none)
theorem rt_lv_mem {ad : Nat → Nat} {L : List Value} {i : Nat} {w : Value} : (i, w) ∈ rt_lv ad L ↔ ∃ v, L[i]? = some v ∧ rb_v v = true ∧ w = rt_tr ad v := by
  unfold rt_lv
  rw [List.mem_filterMap]
  constructor
  · rintro ⟨⟨v, j⟩, hm, he⟩
    rw [List.mem_zipIdx_iff_getElem?] at hm
    by_cases hb : rb_v v = true
    · rw [if_pos hb] at he
      cases he
      exact ⟨v, hm, hb, rfl⟩
    · rw [if_neg hb] at he; cases he
  · rintro ⟨v, hv, hb, rfl⟩
    exact ⟨(v, i), List.mem_zipIdx_iff_getElem?.mpr hv, if_pos hb⟩
theorem lk_g_get : ∀ (L : List Value) (i : Nat), lk_g L i = L.getD i lk_u
  | [], _ => rfl
  | _ :: _, 0 => rfl
  | _ :: L, i + 1 => lk_g_get L i
theorem lk_g_some {L : List Value} {i : Nat} {v : Value} (h : lk_g L i = v) (hv : rb_v v = true) : L[i]? = some v := by
  rw [lk_g_get] at h
  rw [List.getD_eq_getElem?_getD] at h
  cases e : L[i]? with
  | none => rw [e] at h; subst h; cases hv
  | some w => rw [e] at h; exact congrArg some h
theorem lk_s_len : ∀ (L : List Value) (i : Nat) (v : Value), (lk_s L i v).length = L.length
  | [], i, _ => by cases i <;> rfl
  | _ :: _, 0, _ => rfl
  | _ :: L, 1, v => congrArg Nat.succ (lk_s_len L 0 v)
  | _ :: L, i + 2, v => congrArg Nat.succ (lk_s_len L (i + 1) v)
theorem lk_2_len : ∀ (L : List Value) (i : Nat) (v : Value), (lk_2 L i v).length = L.length
  | [], i, _ => by cases i <;> rfl
  | [_], i, _ => by cases i <;> rfl
  | _ :: _ :: _, 0, _ => rfl
  | _ :: b :: L, 1, v => congrArg Nat.succ (lk_2_len (b :: L) 0 v)
  | _ :: b :: L, i + 2, v => congrArg Nat.succ (lk_2_len (b :: L) (i + 1) v)
theorem rb_kill {a w : Value} (h : (bif rb_l a then lk_u else a) = w) (hw : rb_v w = true) : w = a ∧ rb_l a = false := by
  cases e : rb_l a with
  | true => rw [e] at h; subst h; cases hw
  | false => rw [e] at h; exact ⟨h.symm, rfl⟩
/-- what stands in the locals behind a store -/
theorem lk_s_get : ∀ (L : List Value) (i : Nat) (v : Value) (j : Nat) (w : Value), (lk_s L i v)[j]? = some w → rb_v w = true → (j = i ∧ w = v) ∨ (j ≠ i ∧ L[j]? = some w ∧ (j + 1 = i → rb_l w = false))
  | [], i, v, j, w, h, _ => by cases i <;> cases h
  | a :: L, 0, v, 0, w, h, _ => Or.inl ⟨rfl, (Option.some.inj h).symm⟩
  | a :: L, 0, v, j + 1, w, h, _ => Or.inr ⟨Nat.succ_ne_zero _, h, fun e => by omega⟩
  | a :: L, 1, v, 0, w, h, hw => by
    obtain ⟨e1, e2⟩ := rb_kill (Option.some.inj h) hw
    exact Or.inr ⟨by omega, by rw [e1]; rfl, fun _ => by rw [e1]; exact e2⟩
  | a :: L, 1, v, j + 1, w, h, hw => by
    rcases lk_s_get L 0 v j w h hw with ⟨e1, e2⟩ | ⟨e1, e2, e3⟩
    · exact Or.inl ⟨by rw [e1], e2⟩
    · exact Or.inr ⟨by omega, e2, fun e => by omega⟩
  | a :: L, i + 2, v, 0, w, h, _ => Or.inr ⟨by omega, h, fun e => by omega⟩
  | a :: L, i + 2, v, j + 1, w, h, hw => by
    rcases lk_s_get L (i + 1) v j w h hw with ⟨e1, e2⟩ | ⟨e1, e2, e3⟩
    · exact Or.inl ⟨by rw [e1], e2⟩
    · exact Or.inr ⟨by omega, e2, fun e => e3 (by omega)⟩
theorem lk_2_get : ∀ (L : List Value) (i : Nat) (v : Value) (j : Nat) (w : Value), i + 1 < L.length → (lk_2 L i v)[j]? = some w → rb_v w = true → (j = i ∧ w = v) ∨ (j ≠ i ∧ j ≠ i + 1 ∧ L[j]? = some w ∧ (j + 1 = i → rb_l w = false))
  | [], i, v, j, w, hl, h, _ => by cases i <;> cases h
  | [_], i, v, j, w, hl, h, _ => by simp at hl
  | a :: b :: L, 0, v, 0, w, _, h, _ => Or.inl ⟨rfl, (Option.some.inj h).symm⟩
  | a :: b :: L, 0, v, 1, w, _, h, hw => by rw [← Option.some.inj h] at hw; cases hw
  | a :: b :: L, 0, v, j + 2, w, _, h, _ => Or.inr ⟨by omega, by omega, h, fun e => by omega⟩
  | a :: b :: L, 1, v, 0, w, _, h, hw => by
    obtain ⟨e1, e2⟩ := rb_kill (Option.some.inj h) hw
    exact Or.inr ⟨by omega, by omega, by rw [e1]; rfl, fun _ => by rw [e1]; exact e2⟩
  | a :: b :: L, 1, v, j + 1, w, hl, h, hw => by
    rcases lk_2_get (b :: L) 0 v j w (by simpa using hl) h hw with ⟨e1, e2⟩ | ⟨e1, e2, e3, e4⟩
    · exact Or.inl ⟨by rw [e1], e2⟩
    · exact Or.inr ⟨by omega, by omega, e3, fun e => by omega⟩
  | a :: b :: L, i + 2, v, 0, w, _, h, _ => Or.inr ⟨by omega, by omega, h, fun e => by omega⟩
  | a :: b :: L, i + 2, v, j + 1, w, hl, h, hw => by
    rcases lk_2_get (b :: L) (i + 1) v j w (by simp at hl ⊢; omega) h hw with ⟨e1, e2⟩ | ⟨e1, e2, e3, e4⟩
    · exact Or.inl ⟨by rw [e1], e2⟩
    · exact Or.inr ⟨by omega, by omega, e3, fun e => e4 (by omega)⟩
theorem rb_cat {v : Value} {ad : Nat → Nat} (h : rb_l v = false) (hd : ∀ b, v ≠ .double b) : ((rt_tr ad v).category == 2) = false := by
  cases v <;> first | rfl | exact absurd rfl (hd _) | cases h
/-- the kit's list behind a store, and ours -/
theorem rt_lv_s {ad : Nat → Nat} {L : List Value} {nL i : Nat} {v : Value} {ls : Array Slot} (hd : ∀ w ∈ L, ∀ b, w ≠ .double b) (h : lv_has ls nL ((i, rt_tr ad v) :: (rt_lv ad L).filter (fun q => !(q.1 == i) && !(q.1 + 1 == i && q.2.category == 2)))) : lv_has ls nL (rt_lv ad (lk_s L i v)) := by
  refine ⟨h.1, h.2.1, fun q hq => h.2.2 q ?_⟩
  obtain ⟨j, w⟩ := q
  obtain ⟨u, hu, hb, rfl⟩ := rt_lv_mem.mp hq
  rcases lk_s_get L i v j u hu hb with ⟨rfl, rfl⟩ | ⟨e1, e2, e3⟩
  · exact List.mem_cons_self
  · refine List.mem_cons_of_mem _ (List.mem_filter.mpr ⟨rt_lv_mem.mpr ⟨u, e2, hb, rfl⟩, ?_⟩)
    have hdu := hd u (List.mem_of_getElem? e2)
    by_cases e4 : j + 1 = i
    · simp [e1, rb_cat (ad := ad) (e3 e4) hdu]
    · simp [e1, e4]
theorem rt_lv_2 {ad : Nat → Nat} {L : List Value} {nL i : Nat} {v : Value} {ls : Array Slot} (hi : i + 1 < L.length) (hd : ∀ w ∈ L, ∀ b, w ≠ .double b) (h : lv_has ls nL ((i, rt_tr ad v) :: (rt_lv ad L).filter (fun q => !(q.1 == i) && (!(q.1 == i + 1) && !(q.1 + 1 == i && q.2.category == 2))))) : lv_has ls nL (rt_lv ad (lk_2 L i v)) := by
  refine ⟨h.1, h.2.1, fun q hq => h.2.2 q ?_⟩
  obtain ⟨j, w⟩ := q
  obtain ⟨u, hu, hb, rfl⟩ := rt_lv_mem.mp hq
  rcases lk_2_get L i v j u hi hu hb with ⟨rfl, rfl⟩ | ⟨e1, e0, e2, e3⟩
  · exact List.mem_cons_self
  · refine List.mem_cons_of_mem _ (List.mem_filter.mpr ⟨rt_lv_mem.mpr ⟨u, e2, hb, rfl⟩, ?_⟩)
    have hdu := hd u (List.mem_of_getElem? e2)
    by_cases e4 : j + 1 = i
    · simp [e1, e0, rb_cat (ad := ad) (e3 e4) hdu]
    · simp [e1, e0, e4]
theorem rt_lv_at {ad : Nat → Nat} {L : List Value} {nL i : Nat} {ls : Array Slot} {v : Value} (h : lv_has ls nL (rt_lv ad L)) (e : lk_g L i = v) (hb : rb_v v = true) : ls[i]? = some (.val (rt_tr ad v)) := h.2.2 (i, rt_tr ad v) (rt_lv_mem.mpr ⟨v, lk_g_some e hb, hb, rfl⟩)
end SND0
