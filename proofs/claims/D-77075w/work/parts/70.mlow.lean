/-! ===== the reference: its leaves ===== -/
section MLOW
variable {d : Nat} {Qr : rt_Qr} {Qt : rt_Qt} {h : rt_H}
theorem w_269 {s v : Int32} : rt_Cg rt_G (d + 1) 269 [.int s, .int v] h Qr Qt = Qr (some (.int (if (s &&& (1 <<< (v &&& 31))) = 0 then 0 else 1))) h := by
  simp only [s_269_0, s_269_1, s_269_2, s_269_3, s_269_4, s_269_5, s_269_6, s_269_9, s_269_10, s_269_13, s_269_14, e_269, n_269, lk_g_0, lk_g_s, lk_s_0, lk_s_1, lk_s_s, lk_2_0, lk_2_1, lk_2_s, rp_i_int, rp_l_long, rp_a_ref, rp_a_null, rp_r_ref, rp_a_n, rv_i_int, rv_l_long, rv_a_ref, rv_n_ref, rv_n_null, rb_l_int, rb_l_long, rb_l_ref, rb_l_null, rb_l_un, rb_l_n, rt_ty_0, rt_ty_1, rt_ty_2, rt_ty_3, rt_nv_0, rt_nv_1, rt_nv_2, rt_nv_3, rt_nv_4, rt_nv_5, rt_na_0, rt_na_1, rt_na_2, rt_na_3, rt_na_4, rt_na_5, rt_at_0, rt_at_1, rt_at_3, rt_at_4, rt_at_5, rt_cw_0, rt_cw_s, rt_Bg_v, rt_Bg_n, cond_true, cond_false, List.length_cons, List.length_nil, true_and, and_true, Nat.zero_lt_succ, List.mem_cons, List.not_mem_nil, or_false, eq_self, not_true, not_false_eq_true, false_implies, true_implies, rt_out_if, Nat.reduceLT, Nat.reduceAdd, Nat.reduceLeDiff, reduceCtorEq]
end MLOW
