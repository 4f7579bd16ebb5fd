/-! ===== the abstract machine against the JVM: new arrays ===== -/
section SND4
variable {X : rt_X} {cc : ByteArray} {nL : Nat} {own mn : String} {pc : Nat} {s : State} {ad : Nat → Nat} {h : rt_H} {H : Heap}
theorem rt_AF.cls {U : State} {c1 c2 : ClassId} {ty : FieldType} (h : rt_AF U c1 ty) (e : U.vm.findClass ("[" ++ ty.toString) = some c2) : c2 = c1 := by
  obtain ⟨kA, comp, h1, -⟩ := h
  exact Option.some.inj (e.symm.trans h1)
/-- behind a new array -/
theorem rt_Rel.newa {n0 : Nat} {ad0 : Nat → Nat} {L S : List Value} {ls : Array Slot} {locs : List Loc} {j n : Nat} {w : FieldType × Nat} {H1 : Heap} {D : Value} (r : rt_Rel X nL s n0 ad0 L S h ad ls H locs) (hb : rt_bud h 1 n) (hw : rt_ai[j]? = some w) (hD : ∀ ad, D = rt_tr ad (rt_nv w.2 (rt_df w.2))) (e1 : H1[H.size]? = some (arrV (rx_A X j) n (fun _ => D))) (e2 : H1.size = H.size + 1) (e3 : ∀ q : Nat, q < H.size → H1[q]? = H[q]?) : rt_Rel X nL s n0 ad0 L (.ref (hp_n h) :: S) (hp_new h (100 + j) n n (fun _ => rt_df w.2)) (va_up ad (hp_n h) H.size) ls H1 locs := by
  have hlt : j < 15 := (List.getElem?_eq_some_iff.mp hw).1
  refine rt_Rel.new r hb (fun _ => rt_vn_df) (by omega) e1 e2 e3 (by rw [arrV_size]; exact Nat.le_refl _) ⟨fun q' hq' => ?_, fun j' w' hj' hw' => ?_⟩
  · have := rt_cl_lt _ q' hq'
    rw [hp_t_new, if_pos rfl] at this
    omega
  · rw [hp_t_new, if_pos rfl] at hj'
    have e : j' = j := by omega
    subst e
    rw [hw] at hw'
    cases hw'
    have e9 : va_up ad (hp_n h) H.size (hp_n h) = H.size := by simp [va_up]
    rw [e9, e1, hp_l_new, if_pos rfl]
    congr 2
    funext i
    rw [hp_v_new, if_pos rfl]
    exact hD _
theorem rt_J_new {p : Program} {l : Launch} {e : Env} {R : Room} {m : MethodId} {args : Array Value} {below : List Frame} {meth : Method} {c : Code} {n0 : Nat} {ad0 : Nat → Nat} {Q : State → Prop} {L S : List Value} {g : rt_H} {ls : Array Slot} {H1 : Heap} {locs : List Loc} {nx : Nat} (h2 : rt_J X nL p l e R s m args below meth c n0 ad0 Q nx L (.ref (hp_n h) :: S) g) (hS : ∀ v ∈ S, rt_vn (hp_n h) v) (hr : rt_Rel X nL s n0 ad0 L (.ref (hp_n h) :: S) g (va_up ad (hp_n h) H.size) ls H1 locs) : rt_W X p l e R s m args below meth c Q H1 locs (F0 m nx ls (.ref H.size :: S.map (rt_tr ad))) := by
  have h3 := h2 _ ls H1 locs hr
  have e : ((Value.ref (hp_n h) :: S).map (rt_tr (va_up ad (hp_n h) H.size))) = .ref H.size :: S.map (rt_tr ad) := by
    rw [List.map_cons, rt_map_up hS]
    simp [rt_tr, va_up]
  rw [e] at h3
  exact h3
theorem sd_newarray {atype : ArrayType} {j t ty nx : Nat} {ft : FieldType} (hd : decode cc pc = .ok (.newarray atype, 2)) (hj : t = 100 + j) (hw : rt_ai[j]? = some (ft, ty)) (hft : newarray.typeOf atype = ft) (hc : Cond.arrayClass ft ∈ lw_all) (hb : componentBytes ft ≤ 8) (hD : ∀ ad, defaultValue ft = rt_tr ad (rt_nv ty (rt_df ty))) (hn : pc + 2 = nx) : rt_Sd X cc nL own mn pc (op_newa t ty nx) := by
  subst hn; subst hj; subst hft
  intro d l p e R s m args below meth c n0 ad0 Q C hd' Qr Qt B L S h h1 h2 ad ls H locs r
  match S, h1, h2, r with
  | v :: S, h1, h2, r =>
    obtain ⟨x, rfl⟩ : ∃ x, v = .int x := ⟨_, rp_i_e h1.1⟩
    have hx0 : ¬ x < 0 := h1.2.1
    have hx1 : x.toNatClampNeg ≤ 5000 := h1.2.2.1
    have hrm := rt_room B r h1.2.2.2
    refine va_newaK B.1 B.2.1 (B.2.2.2.2.1 _ hc) rfl hd rfl hx0 rfl (Nat.le_trans (Nat.mul_le_mul hx1 hb) (by decide)) hrm.1 hrm.2 rfl fun H1 cA e1 e2 e3 _ hfc => ?_
    have := rt_AF.cls (B.2.2.2.2.2.1.2.1 j _ hw) hfc
    subst this
    exact rt_tight B.2.2.2.2.2.2.1.1 (rt_J_new h2 r.tail.2.2.2.2.2.1 (rt_Rel.newa r.tail h1.2.2.2 hw hD e1 e2 e3))
theorem sd_anewarray {i j t nx : Nat} {E : String} (hd : decode cc pc = .ok (.anewarray i, 3)) (hj : t = 100 + j) (hw : rt_ai[j]? = some (.object E, 2)) (hl : Cond.classLink own i E ∈ lw_all) (hn : pc + 3 = nx) : rt_Sd X cc nL own mn pc (op_newa t 2 nx) := by
  subst hn; subst hj
  intro d l p e R s m args below meth c n0 ad0 Q C hd' Qr Qt B L S h h1 h2 ad ls H locs r
  match S, h1, h2, r with
  | v :: S, h1, h2, r =>
    obtain ⟨x, rfl⟩ : ∃ x, v = .int x := ⟨_, rp_i_e h1.1⟩
    have hx0 : ¬ x < 0 := h1.2.1
    have hx1 : x.toNatClampNeg ≤ 5000 := h1.2.2.1
    have hrm := rt_room B r h1.2.2.2
    refine W.anew B.1 B.2.1 B.2.2.2.1 (B.2.2.2.2.1 _ hl) (va_AO.use (B.2.2.2.2.2.1.2.2.2.2.2.2.2.2.2.1 j _ hw E rfl)) rfl hd rfl hx0 (Nat.le_trans (Nat.mul_le_mul_right 4 hx1) (by decide)) hrm.1 hrm.2 fun cA kA comp f1 f2 f3 f4 => ?_
    have := rt_AF.cls (B.2.2.2.2.2.1.2.1 j _ hw) f1
    subst this
    generalize hH1 : H.push ({ cls := rx_A X j, slots := Array.replicate x.toNatClampNeg .null, vm := .none } : Cell) = H1
    have z1 : H1.size = H.size + 1 := by rw [← hH1, Array.size_push]
    have e1 : H1[H.size]? = some (arrV (rx_A X j) x.toNatClampNeg (fun _ => .null)) := by rw [← hH1, Array.getElem?_push_size, ← arrV_new]
    have o1 : ∀ q : Nat, q < H.size → H1[q]? = H[q]? := fun q hq => by rw [← hH1, Array.getElem?_push, if_neg (Nat.ne_of_lt hq)]
    exact rt_tight B.2.2.2.2.2.2.1.1 (rt_J_new h2 r.tail.2.2.2.2.2.1 (rt_Rel.newa r.tail h1.2.2.2 hw (fun _ => rfl) e1 z1 o1))
end SND4
