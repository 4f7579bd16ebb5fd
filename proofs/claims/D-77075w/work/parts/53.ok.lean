/-! ===== the methods are what the class files have (written by tools/gen.py) ===== -/
section OK13
theorem o_391 (X : rt_X) : ∀ n, rt_Sc X rt_Yt cJ4_abs_2 1 "java/lang/Math" "abs" (some .int) n (c_391 n) := fun n => (sc_br (sc_br (sc_lf (rt_Sc.of (sd_il_n dJ4_abs_2_0 rfl rfl))) (sc_br (sc_lf (rt_Sc.of (sd_if_ge dJ4_abs_2_1 rfl rfl))) (sc_lf (rt_Sc.of (sd_il_n dJ4_abs_2_4 rfl rfl))))) (sc_br (sc_br (sc_lf (rt_Sc.of (sd_ineg dJ4_abs_2_5 rfl))) (sc_lf (rt_Sc.of (sd_go dJ4_abs_2_6 rfl)))) (sc_br (sc_lf (rt_Sc.of (sd_il_n dJ4_abs_2_9 rfl rfl))) (sc_lf (sc_ireturn dJ4_abs_2_10 (Or.inl ⟨rfl, rfl⟩))))))
theorem m_391 : rt_Mok rt_G rt_Yt 391 := ⟨by decide +kernel, q1221, rfl, ⟨rt_hr 391, rfl, fun _ => rfl, trivial⟩, by decide, fun X n => o_391 X n⟩
end OK13
