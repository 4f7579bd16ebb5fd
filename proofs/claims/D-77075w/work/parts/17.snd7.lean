/-! ===== the abstract machine against the JVM: contracts by depth ===== -/
section SND7
theorem rt_R_stuck {K : Nat → rt_Op} {hd : Nat → Nat → Option (Nat × Nat)} {C : rt_Ca} {Qr : rt_Qr} {Qt : rt_Qt} (hK : ∀ pc, K pc = op_stuck) {pc : Nat} {L S : List Value} {h : rt_H} (q : rt_R K hd C Qr Qt pc L S h) : False := q (fun _ _ _ _ => False) (fun pc L S h z => by
  have := z.1
  rw [hK] at this
  exact this)
/-- the words of what comes in -/
def rt_tw : List Nat → Nat | [] => 0 | 1 :: ts => 2 + rt_tw ts | _ :: ts => 1 + rt_tw ts
theorem rt_ty_cat {t : Nat} {v : Value} (h : rt_ty t v) : (t = 1 ∧ rb_l v = true ∧ v.category = 2) ∨ (t ≠ 1 ∧ rb_l v = false ∧ v.category = 1) := by
  unfold rt_ty at h
  split at h
  · exact Or.inr ⟨by decide, by rw [rp_i_e h]; rfl, by rw [rp_i_e h]; rfl⟩
  · exact Or.inl ⟨rfl, by rw [rp_l_e h]; rfl, by rw [rp_l_e h]; rfl⟩
  · refine Or.inr ⟨by decide, ?_, ?_⟩ <;> rcases rp_a_e h with e | e <;> rw [e] <;> rfl
  · exact Or.inr ⟨by decide, by rw [rp_i_e h.1]; rfl, by rw [rp_i_e h.1]; rfl⟩
  · exact h.elim
theorem rt_tw_s {t : Nat} {ts : List Nat} (h : t ≠ 1) : rt_tw (t :: ts) = 1 + rt_tw ts := by
  rw [rt_tw.eq_def]
  split
  · rename_i e; cases e
  · rename_i e; cases e; exact absurd rfl h
  · rename_i e; cases e; rfl
theorem rt_en_1 {ts : List Nat} {n : Nat} {v : Value} {vs : List Value} : rt_en (1 :: ts) (n + 2) (v :: vs) = v :: lk_u :: rt_en ts n vs := rfl
theorem rt_en_s {t : Nat} {ts : List Nat} {n : Nat} {v : Value} {vs : List Value} (h : t ≠ 1) : rt_en (t :: ts) (n + 1) (v :: vs) = v :: rt_en ts n vs := by
  rw [rt_en.eq_def]
  split
  · rename_i e _ _; cases e; exact absurd rfl h
  · rename_i e1 e2 e3; cases e1; cases e2; cases e3; rfl
  · rename_i h1 h2
    exact absurd rfl (h2 t ts n v vs rfl rfl)
theorem rt_en_len : ∀ (ts : List Nat) (n : Nat) (vs : List Value), rt_tys ts vs → rt_tw ts ≤ n → (rt_en ts n vs).length = n
  | [], n, [], _, _ => by simp [rt_en]
  | [], _, _ :: _, h, _ => h.elim
  | _ :: _, _, [], h, _ => h.elim
  | t :: ts, n, v :: vs, h, hn => by
    rcases rt_ty_cat h.1 with ⟨rfl, -, -⟩ | ⟨h1, -, -⟩
    · have h2 : 2 + rt_tw ts ≤ n := hn
      obtain ⟨k, rfl⟩ : ∃ k, n = k + 2 := ⟨n - 2, by omega⟩
      rw [rt_en_1, List.length_cons, List.length_cons, rt_en_len ts k vs h.2 (by omega)]
    · rw [rt_tw_s h1] at hn
      obtain ⟨k, rfl⟩ : ∃ k, n = k + 1 := ⟨n - 1, by omega⟩
      rw [rt_en_s h1, List.length_cons, rt_en_len ts k vs h.2 (by omega)]
theorem rt_en_sl {ad : Nat → Nat} : ∀ (ts : List Nat) (vs : List Value), rt_tys ts vs → (lg_sl (vs.map (rt_tr ad))).length = rt_tw ts
  | [], [], _ => rfl
  | [], _ :: _, h => h.elim
  | _ :: _, [], h => h.elim
  | t :: ts, v :: vs, h => by
    have ih := rt_en_sl (ad := ad) ts vs h.2
    unfold lg_sl at ih ⊢
    rw [List.map_cons, List.flatMap_cons, List.length_append, ih, rt_tr_cat]
    rcases rt_ty_cat h.1 with ⟨rfl, -, h2⟩ | ⟨h1, -, h2⟩
    · rw [h2]; rfl
    · rw [h2, rt_tw_s h1]; rfl
theorem rt_en_at {ad : Nat → Nat} : ∀ (ts : List Nat) (n : Nat) (vs : List Value) (k i : Nat) (w : Value), rt_tys ts vs → rt_tw ts ≤ n → (rt_en ts n vs)[i]? = some w → rb_v w = true → (k + i, rt_tr ad w) ∈ lv_args k (vs.map (rt_tr ad))
  | [], n, [], k, i, w, _, _, h, hw => by
    have h2 : w ∈ List.replicate n lk_u := by
      have : rt_en [] n [] = List.replicate n lk_u := by simp [rt_en]
      rw [this] at h
      exact List.mem_of_getElem? h
    rw [(List.mem_replicate.mp h2).2] at hw
    cases hw
  | [], _, _ :: _, _, _, _, h, _, _, _ => h.elim
  | _ :: _, _, [], _, _, _, h, _, _, _ => h.elim
  | t :: ts, n, v :: vs, k, i, w, h, hn, hi, hw => by
    rcases rt_ty_cat h.1 with ⟨rfl, -, h2⟩ | ⟨h1, -, h2⟩
    · have h3 : 2 + rt_tw ts ≤ n := hn
      obtain ⟨j, rfl⟩ : ∃ j, n = j + 2 := ⟨n - 2, by omega⟩
      rw [rt_en_1] at hi
      rw [List.map_cons, lv_args, rt_tr_cat, if_pos h2]
      match i, hi with
      | 0, hi => cases hi; exact List.mem_cons_self
      | 1, hi => cases hi; cases hw
      | i + 2, hi =>
        have := rt_en_at (ad := ad) ts j vs (k + 2) i w h.2 (by omega) hi hw
        rw [show k + (i + 2) = k + 2 + i by omega]
        exact List.mem_cons_of_mem _ this
    · rw [rt_tw_s h1] at hn
      obtain ⟨j, rfl⟩ : ∃ j, n = j + 1 := ⟨n - 1, by omega⟩
      rw [rt_en_s h1] at hi
      rw [List.map_cons, lv_args, rt_tr_cat, if_neg (by omega)]
      match i, hi with
      | 0, hi => cases hi; exact List.mem_cons_self
      | i + 1, hi =>
        have := rt_en_at (ad := ad) ts j vs (k + 1) i w h.2 (by omega) hi hw
        rw [show k + (i + 1) = k + 1 + i by omega]
        exact List.mem_cons_of_mem _ this
theorem rt_en_mem : ∀ {ts : List Nat} {n : Nat} {vs : List Value} {w : Value}, w ∈ rt_en ts n vs → w ∈ vs ∨ w = lk_u := by
  intro ts n vs
  induction vs generalizing ts n with
  | nil =>
    intro w h
    have : rt_en ts n [] = List.replicate n lk_u := by
      rw [rt_en.eq_def]; split <;> first | rfl | (rename_i e; cases e)
    rw [this] at h
    exact Or.inr (List.mem_replicate.mp h).2
  | cons v vs ih =>
    intro w h
    rw [rt_en.eq_def] at h
    split at h
    · rename_i e; cases e
      rcases List.mem_cons.mp h with e | h
      · exact Or.inl (by rw [e]; exact List.mem_cons_self)
      · rcases List.mem_cons.mp h with e | h
        · exact Or.inr e
        · rcases ih h with e | e
          · exact Or.inl (List.mem_cons_of_mem _ e)
          · exact Or.inr e
    · rename_i e; cases e
      rcases List.mem_cons.mp h with e | h
      · exact Or.inl (by rw [e]; exact List.mem_cons_self)
      · rcases ih h with e | e
        · exact Or.inl (List.mem_cons_of_mem _ e)
        · exact Or.inr e
    · exact Or.inr (List.mem_replicate.mp h).2
/-- a method of the abstract program is what the class file has -/
def rt_Mok (G : rt_Pg) (Y : Nat → rt_Y) (m : Nat) : Prop :=
  plainFor (Y m).1 = true ∧ rt_yw (Y m) ∈ lw_all ∧ G.2.2.2 m = (Y m).2.2.1 ∧ (∃ rows, G.2.1 m = rt_hdl rows ∧ ((Y m).1.cls = "java/lang/Math" → rows = []) ∧ rt_mt (Y m).1.cls (Y m).2.1 (Y m).2.2.1 rows (Y m).2.2.2.2) ∧ rt_tw (G.2.2.1 m) ≤ (Y m).2.2.1 ∧
  ∀ (X : rt_X) (pc : Nat), rt_Sc X Y (Y m).2.1 (Y m).2.2.1 (Y m).1.cls (Y m).1.name (Y m).2.2.2.1 pc (G.1 m pc)
theorem rt_ofW {l : Launch} {y : rt_Y} {rm : Room} {Pc : Array Value → State → Prop} {Qc : Array Value → State → Outcome → State → Prop} {XC : Addr → String → State → State → Prop} {mc ms : Nat} {free : Addr → Prop} (hy : plainFor y.1 = true)
    (body : ∀ p e s m args below meth c s₁, BodyLoose p l y.1 (headSpec (rt_ws y) rm) y.2.1 y.2.2.1 y.2.2.2.1 e s m args below meth c s₁ → c.maxLocals = y.2.2.1 → c.exceptionTable.toList = tableOf y.2.2.2.2 → Pc args s →
      W p l e (headSpec (rt_ws y) rm).room s m args below meth c s.heap [] 0 0 (vx_MQ below Qc XC args s mc ms free) (entryFrame m args y.2.2.1)) : vx_Met l y.1 (rt_ws y) rm Pc Qc XC mc ms free := by
  obtain ⟨y, cc, nL, ret, hh⟩ := y
  refine MetFree.of_bodySF (code := cc) (maxLocals := nL) (ret := ret) hy ?_ ?_
  · intro args s m h hn
    match hh, h with
    | [], h =>
      obtain ⟨meth, c, h1, h2, h3, h4, h5, h6, -, -⟩ := Cond.code_spec hn (atoms_spec (ws := rt_ws (y, cc, nL, ret, [])) h _ List.mem_cons_self)
      exact ⟨meth, c, h1, h2, h3, h4, h5, h6⟩
    | q :: r, h =>
      obtain ⟨m9, meth, c, hn9, h1, h2, h3, h4, -, h5, h6, -⟩ := Cond.codeWith_spec (atoms_spec (ws := rt_ws (y, cc, nL, ret, q :: r)) h _ List.mem_cons_self)
      cases hn.symm.trans hn9
      exact ⟨meth, c, h1, h2, h3, h4, h5, h6⟩
  · intro p e s m args below meth c s₁ B hml hP _
    have hh0 : s₁.heap = s.heap := by rw [B.state]; rfl
    have ht : c.exceptionTable.toList = tableOf hh := by
      match hh, B with
      | [], B =>
        obtain ⟨meth9, c9, h1, h2, -, -, -, -, h7, -⟩ := Cond.code_spec B.named (atoms_spec (ws := rt_ws (y, cc, nL, ret, [])) B.pre _ List.mem_cons_self)
        cases Option.some.inj (h1.symm.trans B.method)
        cases Option.some.inj (h2.symm.trans (Stand.of_body B).code)
        rw [Array.isEmpty_iff.mp h7]; rfl
      | q :: r, B => exact vx_table (x := y) B (atoms_spec (ws := rt_ws (y, cc, nL, ret, q :: r)) B.pre _ List.mem_cons_self)
    obtain ⟨t, a1, o, b1, b2, b3⟩ := body p e s m args below meth c s₁ B hml ht hP s₁ hh0 (Stand.of_body B)
    exact ⟨t, o, a1, b1, b2, b3⟩
theorem rt_Cs_of {G : rt_Pg} {Y : Nat → rt_Y} (X : rt_X) {l : Launch} (hl : l.stackTraces = false) (hG : ∀ m, rt_Mok G Y m ∨ (∀ pc, G.1 m pc = op_stuck) ∨ ∀ as, ¬ rt_tys (G.2.2.1 m) as) : ∀ d, rt_Cs X l Y (rt_Cg G d) d
  | 0 => fun _ _ _ _ _ h => h.elim
  | d + 1 => by
    intro m as h Qr Qt hC ad N M
    refine (hG m).elim (fun hm => ?_) (fun hm => hm.elim (fun hm => (rt_R_stuck hm hC.2).elim) (fun hm => absurd hC.1 (hm as)))
    obtain ⟨hy, hw, hnL, ⟨rows, hrows, hMt, hmt⟩, htw, hsc⟩ := hm
    have ihC := rt_Cs_of X hl hG d
    refine rt_ofW hy fun p e s m' args below meth c s₁ B hml ht hP => ?_
    obtain ⟨hargs, hHR, hvn, hN, hM, henv⟩ := hP
    have hts : ∀ w ∈ rt_ws (Y m), w.before args s = true := atoms_spec B.pre
    have hown : s.vm.findClass (Y m).1.cls = some m'.cls := findClass_of_methodNamed B.named
    have hbud := hHR.2.2.2.2.2.2.1
    have hb2 := hbud.2.2
    unfold rt_bud at hb2
    have Bd : rt_Bd X (Y m).2.1 (Y m).2.2.1 (Y m).1.cls (Y m).1.name d l p (rt_rm X (d + 1) N M) s m' args meth c := by
      refine ⟨B.exec, B.bytes, hml, hown, fun w hw => hts w (List.mem_cons_of_mem _ hw), henv, hHR.2.2.2.2.2.2.2, B.notSynchronized, ⟨?_, ?_, ?_, ?_⟩, hl, (name_of_methodNamed B.named B.method).1⟩
      · show d + 20 ≤ d + 1 + 19; omega
      · show 60 * d + 10400 ≤ 60 * (d + 1) + 10340; omega
      · show 1200144 + (rx_H X).size - N + s.heap.size = _; omega
      · show 5497210 - M + _ = _; omega
    have hRR := hC.2
    rw [hrows] at hRR
    have hJ : rt_J X (Y m).2.2.1 p l e (rt_rm X (d + 1) N M) s m' args below meth c (hp_n h) ad (rt_mq X (hp_n h) ad Qr Qt below args s) 0 (rt_en (G.2.2.1 m) (G.2.2.2 m) as) [] h := by
      refine hRR _ fun pc L S g z => ?_
      exact hsc X pc Bd ihC (rt_Rt_of Bd B.returns) (rt_Th_of Bd hmt ht) (fun e9 => by rw [hMt e9]; rfl) z.1 z.2
    rw [hnL] at hJ
    have hsl : (lg_sl (as.map (rt_tr ad))).length ≤ (Y m).2.2.1 := by rw [rt_en_sl _ _ hC.1]; exact htw
    have hent := lv_entry (as.map (rt_tr ad)) hsl
    have hrel : rt_Rel X (Y m).2.2.1 s (hp_n h) ad (rt_en (G.2.2.1 m) (Y m).2.2.1 as) [] h ad ((lg_sl (as.map (rt_tr ad)) ++ List.replicate ((Y m).2.2.1 - (lg_sl (as.map (rt_tr ad))).length) Slot.unset).toArray) s.heap [] := by
      refine ⟨hHR, ⟨Nat.le_refl _, fun _ _ => rfl, Nat.le_refl _⟩, ⟨Nat.le_refl _, fun _ _ _ => rfl, fun _ hz => absurd hz List.not_mem_nil⟩, rt_en_len _ _ _ hC.1 htw, fun w hw => ?_, fun _ hz => absurd hz List.not_mem_nil, hent.1, hent.2.1, fun z hz => ?_⟩
      · rcases rt_en_mem hw with e | e
        · exact hvn w e
        · rw [e]; trivial
      · obtain ⟨j, w⟩ := z
        obtain ⟨v, h1, h2, h3⟩ := rt_lv_mem.mp hz
        have := rt_en_at (ad := ad) (G.2.2.1 m) _ as 0 j v hC.1 htw h1 h2
        rw [Nat.zero_add] at this
        rw [h3]
        exact hent.2.2 _ this
    have hW := hJ ad _ s.heap [] hrel
    unfold rt_W at hW
    rw [Nat.sub_self, Nat.sub_self] at hW
    have e0 : entryFrame m' args (Y m).2.2.1 = F0 m' 0 ((lg_sl (as.map (rt_tr ad)) ++ List.replicate ((Y m).2.2.1 - (lg_sl (as.map (rt_tr ad))).length) Slot.unset).toArray) (([] : List Value).map (rt_tr ad)) := by rw [hargs]; exact lg_entry_eq m' _ _
    rw [e0]
    unfold rt_mq at hW
    rw [hN, hM] at hW
    exact hW
end SND7
