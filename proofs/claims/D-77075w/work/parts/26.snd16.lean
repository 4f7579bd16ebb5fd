/-! ===== the abstract machine against the JVM: what is wanting still ===== -/
section SND16
variable {X : rt_X} {Y : Nat → rt_Y} {cc : ByteArray} {nL : Nat} {own mn : String} {ret : Option FieldType} {pc : Nat}
theorem sc_cpy {i nx : Nat} {tg : List Nat} (hd : decode cc pc = .ok (.invokestatic i, 3)) (hl : Cond.methodLink own i arraycopyName ∈ lw_all) (ht : ∀ t ∈ tg, t = 100 ∨ t = 101 ∨ t = 103) (hn : pc + 3 = nx) : rt_Sc X Y cc nL own mn ret pc (op_cpy tg nx) := by
  sorry
theorem sc_exc {i nx : Nat} (hd : decode cc pc = .ok (.invokespecial i, 3)) (hl : Cond.methodLink own i ⟨"java/lang/Exception", "<init>", "(Ljava/lang/String;Ljava/lang/Throwable;ZZ)V"⟩ ∈ lw_all) (hn : pc + 3 = nx) : rt_Sc X Y cc nL own mn ret pc (op_exc 12 nx) := by
  sorry
theorem ws_T {k n i : Nat} {x : MethodName} {owner : String} (hd : decode cc pc = .ok (.invokestatic i, 3)) (hh : (Y k).2.2.2.2 = []) (hk : rt_kS (Y k) n) (hl : Cond.methodLink own i x ∈ lw_all) (hsm : Cond.sameMethod x.cls owner x.name x.desc ∈ lw_all) (hx : (Y k).1 = ⟨owner, x.name, x.desc⟩) : rt_WS X Y cc nL own pc k n := by
  sorry
theorem wv_SS {t k n i : Nat} {x : MethodName} {owner : String} (hd : decode cc pc = .ok (.invokespecial i, 3)) (hh : (Y k).2.2.2.2 = []) (hk : rt_kV (Y k) n) (hl : Cond.methodLink own i x ∈ lw_all) (hsm : Cond.sameMethod x.cls owner x.name x.desc ∈ lw_all) (hsup : Cond.superclass own x.cls ∈ lw_all) (hx : (Y k).1 = ⟨owner, x.name, x.desc⟩) (hno : x.name ≠ "<init>") : rt_WV X Y cc nL own pc t k n := by
  sorry
theorem wf_D {t k n i j : Nat} (hd : decode cc pc = .ok (.invokeinterface i j, 5)) (hh : (Y k).2.2.2.2 = []) (hk : rt_kV (Y k) n) (hl : Cond.methodLink own i rt_frm ∈ lw_all) (hx : (Y k).1 = rt_frm) (hC : (rt_cl[t]?).map Prod.fst ∈ rt_mk.map some) : rt_WF X Y cc nL own pc t k n := by
  sorry
end SND16
