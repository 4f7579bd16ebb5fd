/-! ===== the abstract machine against the JVM: arithmetic, branches (written by tools/gensnd2.py) ===== -/
section SND2
variable {X : rt_X} {cc : ByteArray} {nL : Nat} {own mn : String} {pc : Nat}
theorem sd_iadd {nx : Nat} (hd : decode cc pc = .ok (.iadd, 1)) (hn : pc + 1 = nx) : rt_Sd X cc nL own mn pc (op_i2 (fun x y => x + y) nx) := by
  subst hn
  intro d l p e R s m args below meth c n0 ad0 Q C hd' Qr Qt B L S h h1 h2 ad ls H locs r
  match S, h1, h2, r with
  | b :: a :: S, h1, h2, r =>
    obtain ⟨y, rfl⟩ : ∃ y, b = .int y := ⟨_, rp_i_e h1.1⟩
    obtain ⟨x, rfl⟩ : ∃ x, a = .int x := ⟨_, rp_i_e h1.2⟩
    exact lv_iadd B.1 B.2.1 hd (h2 ad ls H locs (r.tail.tail.push trivial))
theorem sd_isub {nx : Nat} (hd : decode cc pc = .ok (.isub, 1)) (hn : pc + 1 = nx) : rt_Sd X cc nL own mn pc (op_i2 (fun x y => x - y) nx) := by
  subst hn
  intro d l p e R s m args below meth c n0 ad0 Q C hd' Qr Qt B L S h h1 h2 ad ls H locs r
  match S, h1, h2, r with
  | b :: a :: S, h1, h2, r =>
    obtain ⟨y, rfl⟩ : ∃ y, b = .int y := ⟨_, rp_i_e h1.1⟩
    obtain ⟨x, rfl⟩ : ∃ x, a = .int x := ⟨_, rp_i_e h1.2⟩
    exact lv_isub B.1 B.2.1 hd (h2 ad ls H locs (r.tail.tail.push trivial))
theorem sd_imul {nx : Nat} (hd : decode cc pc = .ok (.imul, 1)) (hn : pc + 1 = nx) : rt_Sd X cc nL own mn pc (op_i2 (fun x y => x * y) nx) := by
  subst hn
  intro d l p e R s m args below meth c n0 ad0 Q C hd' Qr Qt B L S h h1 h2 ad ls H locs r
  match S, h1, h2, r with
  | b :: a :: S, h1, h2, r =>
    obtain ⟨y, rfl⟩ : ∃ y, b = .int y := ⟨_, rp_i_e h1.1⟩
    obtain ⟨x, rfl⟩ : ∃ x, a = .int x := ⟨_, rp_i_e h1.2⟩
    exact lv_imul B.1 B.2.1 hd (h2 ad ls H locs (r.tail.tail.push trivial))
theorem sd_iand {nx : Nat} (hd : decode cc pc = .ok (.iand, 1)) (hn : pc + 1 = nx) : rt_Sd X cc nL own mn pc (op_i2 (fun x y => x &&& y) nx) := by
  subst hn
  intro d l p e R s m args below meth c n0 ad0 Q C hd' Qr Qt B L S h h1 h2 ad ls H locs r
  match S, h1, h2, r with
  | b :: a :: S, h1, h2, r =>
    obtain ⟨y, rfl⟩ : ∃ y, b = .int y := ⟨_, rp_i_e h1.1⟩
    obtain ⟨x, rfl⟩ : ∃ x, a = .int x := ⟨_, rp_i_e h1.2⟩
    exact lv_iand B.1 B.2.1 hd (h2 ad ls H locs (r.tail.tail.push trivial))
theorem sd_ior {nx : Nat} (hd : decode cc pc = .ok (.ior, 1)) (hn : pc + 1 = nx) : rt_Sd X cc nL own mn pc (op_i2 (fun x y => x ||| y) nx) := by
  subst hn
  intro d l p e R s m args below meth c n0 ad0 Q C hd' Qr Qt B L S h h1 h2 ad ls H locs r
  match S, h1, h2, r with
  | b :: a :: S, h1, h2, r =>
    obtain ⟨y, rfl⟩ : ∃ y, b = .int y := ⟨_, rp_i_e h1.1⟩
    obtain ⟨x, rfl⟩ : ∃ x, a = .int x := ⟨_, rp_i_e h1.2⟩
    exact lv_ior B.1 B.2.1 hd (h2 ad ls H locs (r.tail.tail.push trivial))
theorem sd_ixor {nx : Nat} (hd : decode cc pc = .ok (.ixor, 1)) (hn : pc + 1 = nx) : rt_Sd X cc nL own mn pc (op_i2 (fun x y => x ^^^ y) nx) := by
  subst hn
  intro d l p e R s m args below meth c n0 ad0 Q C hd' Qr Qt B L S h h1 h2 ad ls H locs r
  match S, h1, h2, r with
  | b :: a :: S, h1, h2, r =>
    obtain ⟨y, rfl⟩ : ∃ y, b = .int y := ⟨_, rp_i_e h1.1⟩
    obtain ⟨x, rfl⟩ : ∃ x, a = .int x := ⟨_, rp_i_e h1.2⟩
    exact lv_ixor B.1 B.2.1 hd (h2 ad ls H locs (r.tail.tail.push trivial))
theorem sd_ishl {nx : Nat} (hd : decode cc pc = .ok (.ishl, 1)) (hn : pc + 1 = nx) : rt_Sd X cc nL own mn pc (op_i2 (fun x y => x <<< (y &&& 31)) nx) := by
  subst hn
  intro d l p e R s m args below meth c n0 ad0 Q C hd' Qr Qt B L S h h1 h2 ad ls H locs r
  match S, h1, h2, r with
  | b :: a :: S, h1, h2, r =>
    obtain ⟨y, rfl⟩ : ∃ y, b = .int y := ⟨_, rp_i_e h1.1⟩
    obtain ⟨x, rfl⟩ : ∃ x, a = .int x := ⟨_, rp_i_e h1.2⟩
    exact lv_ishl B.1 B.2.1 hd (h2 ad ls H locs (r.tail.tail.push trivial))
theorem sd_ishr {nx : Nat} (hd : decode cc pc = .ok (.ishr, 1)) (hn : pc + 1 = nx) : rt_Sd X cc nL own mn pc (op_i2 (fun x y => x >>> (y &&& 31)) nx) := by
  subst hn
  intro d l p e R s m args below meth c n0 ad0 Q C hd' Qr Qt B L S h h1 h2 ad ls H locs r
  match S, h1, h2, r with
  | b :: a :: S, h1, h2, r =>
    obtain ⟨y, rfl⟩ : ∃ y, b = .int y := ⟨_, rp_i_e h1.1⟩
    obtain ⟨x, rfl⟩ : ∃ x, a = .int x := ⟨_, rp_i_e h1.2⟩
    exact lv_ishr B.1 B.2.1 hd (h2 ad ls H locs (r.tail.tail.push trivial))
theorem sd_iushr {nx : Nat} (hd : decode cc pc = .ok (.iushr, 1)) (hn : pc + 1 = nx) : rt_Sd X cc nL own mn pc (op_i2 (fun x y => (x.toUInt32 >>> (y.toUInt32 &&& Int32.toUInt32 31)).toInt32) nx) := by
  subst hn
  intro d l p e R s m args below meth c n0 ad0 Q C hd' Qr Qt B L S h h1 h2 ad ls H locs r
  match S, h1, h2, r with
  | b :: a :: S, h1, h2, r =>
    obtain ⟨y, rfl⟩ : ∃ y, b = .int y := ⟨_, rp_i_e h1.1⟩
    obtain ⟨x, rfl⟩ : ∃ x, a = .int x := ⟨_, rp_i_e h1.2⟩
    exact lv_iushr B.1 B.2.1 hd rfl (h2 ad ls H locs (r.tail.tail.push trivial))
theorem sd_idiv {nx : Nat} (hd : decode cc pc = .ok (.idiv, 1)) (hn : pc + 1 = nx) : rt_Sd X cc nL own mn pc (op_i2z (fun x y => x / y) nx) := by
  subst hn
  intro d l p e R s m args below meth c n0 ad0 Q C hd' Qr Qt B L S h h1 h2 ad ls H locs r
  match S, h1, h2, r with
  | b :: a :: S, h1, h2, r =>
    obtain ⟨y, rfl⟩ : ∃ y, b = .int y := ⟨_, rp_i_e h1.1⟩
    obtain ⟨x, rfl⟩ : ∃ x, a = .int x := ⟨_, rp_i_e h1.2.1⟩
    exact lv_idiv B.1 B.2.1 hd h1.2.2 (h2 ad ls H locs (r.tail.tail.push trivial))
theorem sd_irem {nx : Nat} (hd : decode cc pc = .ok (.irem, 1)) (hn : pc + 1 = nx) : rt_Sd X cc nL own mn pc (op_i2z (fun x y => x - x / y * y) nx) := by
  subst hn
  intro d l p e R s m args below meth c n0 ad0 Q C hd' Qr Qt B L S h h1 h2 ad ls H locs r
  match S, h1, h2, r with
  | b :: a :: S, h1, h2, r =>
    obtain ⟨y, rfl⟩ : ∃ y, b = .int y := ⟨_, rp_i_e h1.1⟩
    obtain ⟨x, rfl⟩ : ∃ x, a = .int x := ⟨_, rp_i_e h1.2.1⟩
    exact lv_irem B.1 B.2.1 hd h1.2.2 (h2 ad ls H locs (r.tail.tail.push trivial))
theorem sd_ladd {nx : Nat} (hd : decode cc pc = .ok (.ladd, 1)) (hn : pc + 1 = nx) : rt_Sd X cc nL own mn pc (op_l2 (fun x y => x + y) nx) := by
  subst hn
  intro d l p e R s m args below meth c n0 ad0 Q C hd' Qr Qt B L S h h1 h2 ad ls H locs r
  match S, h1, h2, r with
  | b :: a :: S, h1, h2, r =>
    obtain ⟨y, rfl⟩ : ∃ y, b = .long y := ⟨_, rp_l_e h1.1⟩
    obtain ⟨x, rfl⟩ : ∃ x, a = .long x := ⟨_, rp_l_e h1.2⟩
    exact lv_ladd B.1 B.2.1 hd (h2 ad ls H locs (r.tail.tail.push trivial))
theorem sd_lsub {nx : Nat} (hd : decode cc pc = .ok (.lsub, 1)) (hn : pc + 1 = nx) : rt_Sd X cc nL own mn pc (op_l2 (fun x y => x - y) nx) := by
  subst hn
  intro d l p e R s m args below meth c n0 ad0 Q C hd' Qr Qt B L S h h1 h2 ad ls H locs r
  match S, h1, h2, r with
  | b :: a :: S, h1, h2, r =>
    obtain ⟨y, rfl⟩ : ∃ y, b = .long y := ⟨_, rp_l_e h1.1⟩
    obtain ⟨x, rfl⟩ : ∃ x, a = .long x := ⟨_, rp_l_e h1.2⟩
    exact lv_lsub B.1 B.2.1 hd (h2 ad ls H locs (r.tail.tail.push trivial))
theorem sd_lmul {nx : Nat} (hd : decode cc pc = .ok (.lmul, 1)) (hn : pc + 1 = nx) : rt_Sd X cc nL own mn pc (op_l2 (fun x y => x * y) nx) := by
  subst hn
  intro d l p e R s m args below meth c n0 ad0 Q C hd' Qr Qt B L S h h1 h2 ad ls H locs r
  match S, h1, h2, r with
  | b :: a :: S, h1, h2, r =>
    obtain ⟨y, rfl⟩ : ∃ y, b = .long y := ⟨_, rp_l_e h1.1⟩
    obtain ⟨x, rfl⟩ : ∃ x, a = .long x := ⟨_, rp_l_e h1.2⟩
    exact lv_lmul B.1 B.2.1 hd (h2 ad ls H locs (r.tail.tail.push trivial))
theorem sd_land {nx : Nat} (hd : decode cc pc = .ok (.land, 1)) (hn : pc + 1 = nx) : rt_Sd X cc nL own mn pc (op_l2 (fun x y => x &&& y) nx) := by
  subst hn
  intro d l p e R s m args below meth c n0 ad0 Q C hd' Qr Qt B L S h h1 h2 ad ls H locs r
  match S, h1, h2, r with
  | b :: a :: S, h1, h2, r =>
    obtain ⟨y, rfl⟩ : ∃ y, b = .long y := ⟨_, rp_l_e h1.1⟩
    obtain ⟨x, rfl⟩ : ∃ x, a = .long x := ⟨_, rp_l_e h1.2⟩
    exact lv_land B.1 B.2.1 hd (h2 ad ls H locs (r.tail.tail.push trivial))
theorem sd_lor {nx : Nat} (hd : decode cc pc = .ok (.lor, 1)) (hn : pc + 1 = nx) : rt_Sd X cc nL own mn pc (op_l2 (fun x y => x ||| y) nx) := by
  subst hn
  intro d l p e R s m args below meth c n0 ad0 Q C hd' Qr Qt B L S h h1 h2 ad ls H locs r
  match S, h1, h2, r with
  | b :: a :: S, h1, h2, r =>
    obtain ⟨y, rfl⟩ : ∃ y, b = .long y := ⟨_, rp_l_e h1.1⟩
    obtain ⟨x, rfl⟩ : ∃ x, a = .long x := ⟨_, rp_l_e h1.2⟩
    exact lv_lor B.1 B.2.1 hd (h2 ad ls H locs (r.tail.tail.push trivial))
theorem sd_lxor {nx : Nat} (hd : decode cc pc = .ok (.lxor, 1)) (hn : pc + 1 = nx) : rt_Sd X cc nL own mn pc (op_l2 (fun x y => x ^^^ y) nx) := by
  subst hn
  intro d l p e R s m args below meth c n0 ad0 Q C hd' Qr Qt B L S h h1 h2 ad ls H locs r
  match S, h1, h2, r with
  | b :: a :: S, h1, h2, r =>
    obtain ⟨y, rfl⟩ : ∃ y, b = .long y := ⟨_, rp_l_e h1.1⟩
    obtain ⟨x, rfl⟩ : ∃ x, a = .long x := ⟨_, rp_l_e h1.2⟩
    exact lv_lxor B.1 B.2.1 hd (h2 ad ls H locs (r.tail.tail.push trivial))
theorem sd_ldiv {nx : Nat} (hd : decode cc pc = .ok (.ldiv, 1)) (hn : pc + 1 = nx) : rt_Sd X cc nL own mn pc (op_l2z (fun x y => x / y) nx) := by
  subst hn
  intro d l p e R s m args below meth c n0 ad0 Q C hd' Qr Qt B L S h h1 h2 ad ls H locs r
  match S, h1, h2, r with
  | b :: a :: S, h1, h2, r =>
    obtain ⟨y, rfl⟩ : ∃ y, b = .long y := ⟨_, rp_l_e h1.1⟩
    obtain ⟨x, rfl⟩ : ∃ x, a = .long x := ⟨_, rp_l_e h1.2.1⟩
    exact lv_ldiv B.1 B.2.1 hd h1.2.2 (h2 ad ls H locs (r.tail.tail.push trivial))
theorem sd_lrem {nx : Nat} (hd : decode cc pc = .ok (.lrem, 1)) (hn : pc + 1 = nx) : rt_Sd X cc nL own mn pc (op_l2z (fun x y => x - x / y * y) nx) := by
  subst hn
  intro d l p e R s m args below meth c n0 ad0 Q C hd' Qr Qt B L S h h1 h2 ad ls H locs r
  match S, h1, h2, r with
  | b :: a :: S, h1, h2, r =>
    obtain ⟨y, rfl⟩ : ∃ y, b = .long y := ⟨_, rp_l_e h1.1⟩
    obtain ⟨x, rfl⟩ : ∃ x, a = .long x := ⟨_, rp_l_e h1.2.1⟩
    exact lv_lrem B.1 B.2.1 hd h1.2.2 (h2 ad ls H locs (r.tail.tail.push trivial))
theorem sd_lshl {nx : Nat} (hd : decode cc pc = .ok (.lshl, 1)) (hn : pc + 1 = nx) : rt_Sd X cc nL own mn pc (op_ls2 (fun x y => x <<< (y.toInt64 &&& 63)) nx) := by
  subst hn
  intro d l p e R s m args below meth c n0 ad0 Q C hd' Qr Qt B L S h h1 h2 ad ls H locs r
  match S, h1, h2, r with
  | b :: a :: S, h1, h2, r =>
    obtain ⟨y, rfl⟩ : ∃ y, b = .int y := ⟨_, rp_i_e h1.1⟩
    obtain ⟨x, rfl⟩ : ∃ x, a = .long x := ⟨_, rp_l_e h1.2⟩
    exact lv_lshl B.1 B.2.1 hd rfl (h2 ad ls H locs (r.tail.tail.push trivial))
theorem sd_lshr {nx : Nat} (hd : decode cc pc = .ok (.lshr, 1)) (hn : pc + 1 = nx) : rt_Sd X cc nL own mn pc (op_ls2 (fun x y => x >>> (y.toInt64 &&& 63)) nx) := by
  subst hn
  intro d l p e R s m args below meth c n0 ad0 Q C hd' Qr Qt B L S h h1 h2 ad ls H locs r
  match S, h1, h2, r with
  | b :: a :: S, h1, h2, r =>
    obtain ⟨y, rfl⟩ : ∃ y, b = .int y := ⟨_, rp_i_e h1.1⟩
    obtain ⟨x, rfl⟩ : ∃ x, a = .long x := ⟨_, rp_l_e h1.2⟩
    exact lv_lshr B.1 B.2.1 hd rfl (h2 ad ls H locs (r.tail.tail.push trivial))
theorem sd_lushr {nx : Nat} (hd : decode cc pc = .ok (.lushr, 1)) (hn : pc + 1 = nx) : rt_Sd X cc nL own mn pc (op_ls2 (fun x y => (x.toUInt64 >>> (y.toInt64.toUInt64 &&& Int64.toUInt64 63)).toInt64) nx) := by
  subst hn
  intro d l p e R s m args below meth c n0 ad0 Q C hd' Qr Qt B L S h h1 h2 ad ls H locs r
  match S, h1, h2, r with
  | b :: a :: S, h1, h2, r =>
    obtain ⟨y, rfl⟩ : ∃ y, b = .int y := ⟨_, rp_i_e h1.1⟩
    obtain ⟨x, rfl⟩ : ∃ x, a = .long x := ⟨_, rp_l_e h1.2⟩
    exact lv_lushr B.1 B.2.1 hd rfl (h2 ad ls H locs (r.tail.tail.push trivial))
theorem sd_ineg {nx : Nat} (hd : decode cc pc = .ok (.ineg, 1)) (hn : pc + 1 = nx) : rt_Sd X cc nL own mn pc (op_i1 (fun x => -x) nx) := by
  subst hn
  intro d l p e R s m args below meth c n0 ad0 Q C hd' Qr Qt B L S h h1 h2 ad ls H locs r
  match S, h1, h2, r with
  | a :: S, h1, h2, r =>
    obtain ⟨x, rfl⟩ : ∃ x, a = .int x := ⟨_, rp_i_e h1⟩
    exact lv_ineg B.1 B.2.1 hd (h2 ad ls H locs (r.tail.push trivial))
theorem sd_lneg {nx : Nat} (hd : decode cc pc = .ok (.lneg, 1)) (hn : pc + 1 = nx) : rt_Sd X cc nL own mn pc (op_l1 (fun x => -x) nx) := by
  subst hn
  intro d l p e R s m args below meth c n0 ad0 Q C hd' Qr Qt B L S h h1 h2 ad ls H locs r
  match S, h1, h2, r with
  | a :: S, h1, h2, r =>
    obtain ⟨x, rfl⟩ : ∃ x, a = .long x := ⟨_, rp_l_e h1⟩
    exact lv_lneg B.1 B.2.1 hd (h2 ad ls H locs (r.tail.push trivial))
theorem sd_i2b {nx : Nat} (hd : decode cc pc = .ok (.i2b, 1)) (hn : pc + 1 = nx) : rt_Sd X cc nL own mn pc (op_i1 (fun x => x.toInt8.toInt32) nx) := by
  subst hn
  intro d l p e R s m args below meth c n0 ad0 Q C hd' Qr Qt B L S h h1 h2 ad ls H locs r
  match S, h1, h2, r with
  | a :: S, h1, h2, r =>
    obtain ⟨x, rfl⟩ : ∃ x, a = .int x := ⟨_, rp_i_e h1⟩
    exact lv_i2b B.1 B.2.1 hd rfl (h2 ad ls H locs (r.tail.push trivial))
theorem sd_i2s {nx : Nat} (hd : decode cc pc = .ok (.i2s, 1)) (hn : pc + 1 = nx) : rt_Sd X cc nL own mn pc (op_i1 (fun x => x.toInt16.toInt32) nx) := by
  subst hn
  intro d l p e R s m args below meth c n0 ad0 Q C hd' Qr Qt B L S h h1 h2 ad ls H locs r
  match S, h1, h2, r with
  | a :: S, h1, h2, r =>
    obtain ⟨x, rfl⟩ : ∃ x, a = .int x := ⟨_, rp_i_e h1⟩
    exact lv_i2s B.1 B.2.1 hd rfl (h2 ad ls H locs (r.tail.push trivial))
theorem sd_i2l {nx : Nat} (hd : decode cc pc = .ok (.i2l, 1)) (hn : pc + 1 = nx) : rt_Sd X cc nL own mn pc (op_i2l nx) := by
  subst hn
  intro d l p e R s m args below meth c n0 ad0 Q C hd' Qr Qt B L S h h1 h2 ad ls H locs r
  match S, h1, h2, r with
  | a :: S, h1, h2, r =>
    obtain ⟨x, rfl⟩ : ∃ x, a = .int x := ⟨_, rp_i_e h1⟩
    exact lv_i2l B.1 B.2.1 hd rfl (h2 ad ls H locs (r.tail.push trivial))
theorem sd_l2i {nx : Nat} (hd : decode cc pc = .ok (.l2i, 1)) (hn : pc + 1 = nx) : rt_Sd X cc nL own mn pc (op_l2i nx) := by
  subst hn
  intro d l p e R s m args below meth c n0 ad0 Q C hd' Qr Qt B L S h h1 h2 ad ls H locs r
  match S, h1, h2, r with
  | a :: S, h1, h2, r =>
    obtain ⟨x, rfl⟩ : ∃ x, a = .long x := ⟨_, rp_l_e h1⟩
    exact lv_l2i B.1 B.2.1 hd rfl (h2 ad ls H locs (r.tail.push trivial))
theorem sd_lcmp {nx : Nat} (hd : decode cc pc = .ok (.lcmp, 1)) (hn : pc + 1 = nx) : rt_Sd X cc nL own mn pc (op_lcmp nx) := by
  subst hn
  intro d l p e R s m args below meth c n0 ad0 Q C hd' Qr Qt B L S h h1 h2 ad ls H locs r
  match S, h1, h2, r with
  | b :: a :: S, h1, h2, r =>
    obtain ⟨y, rfl⟩ : ∃ y, b = .long y := ⟨_, rp_l_e h1.1⟩
    obtain ⟨x, rfl⟩ : ∃ x, a = .long x := ⟨_, rp_l_e h1.2⟩
    exact W.lcmp B.1 B.2.1 hd (h2 ad ls H locs (r.tail.tail.push trivial))
theorem rt_selJ {P : rt_P} {p : Prop} {a b : Nat} {L S : List Value} {h : rt_H} (k : P (rt_sel p a b) L S h) : (p → P a L S h) ∧ (¬ p → P b L S h) := (rt_sel_P (P := fun n => P n L S h)).mp k
theorem sd_if_eq {off : Int} {t nx : Nat} (hd : decode cc pc = .ok (.ifCond .eq off, 3)) (ht : (pc : Int) + off = (t : Int)) (hn : pc + 3 = nx) : rt_Sd X cc nL own mn pc (op_if1 (fun x => x = 0) t nx) := by
  subst hn
  intro d l p e R s m args below meth c n0 ad0 Q C hd' Qr Qt B L S h h1 h2 ad ls H locs r
  match S, h1, h2, r with
  | a :: S, h1, h2, r =>
    obtain ⟨x, rfl⟩ : ∃ x, a = .int x := ⟨_, rp_i_e h1⟩
    have h3 : rt_J X nL p l e R s m args below meth c n0 ad0 Q (rt_sel (x = 0) t (pc + 3)) L S h := h2
    have hs := rt_selJ (P := rt_J X nL p l e R s m args below meth c n0 ad0 Q) h3
    exact lv_if_eq B.1 B.2.1 hd ht (fun z => hs.1 z ad ls H locs r.tail) (fun z => hs.2 z ad ls H locs r.tail)
theorem sd_icmp_eq {off : Int} {t nx : Nat} (hd : decode cc pc = .ok (.if_icmp .eq off, 3)) (ht : (pc : Int) + off = (t : Int)) (hn : pc + 3 = nx) : rt_Sd X cc nL own mn pc (op_if2 (fun x y => x = y) t nx) := by
  subst hn
  intro d l p e R s m args below meth c n0 ad0 Q C hd' Qr Qt B L S h h1 h2 ad ls H locs r
  match S, h1, h2, r with
  | b :: a :: S, h1, h2, r =>
    obtain ⟨y, rfl⟩ : ∃ y, b = .int y := ⟨_, rp_i_e h1.1⟩
    obtain ⟨x, rfl⟩ : ∃ x, a = .int x := ⟨_, rp_i_e h1.2⟩
    have h3 : rt_J X nL p l e R s m args below meth c n0 ad0 Q (rt_sel (x = y) t (pc + 3)) L S h := h2
    have hs := rt_selJ (P := rt_J X nL p l e R s m args below meth c n0 ad0 Q) h3
    exact lv_icmp_eq B.1 B.2.1 hd ht (fun z => hs.1 z ad ls H locs r.tail.tail) (fun z => hs.2 z ad ls H locs r.tail.tail)
theorem sd_if_ne {off : Int} {t nx : Nat} (hd : decode cc pc = .ok (.ifCond .ne off, 3)) (ht : (pc : Int) + off = (t : Int)) (hn : pc + 3 = nx) : rt_Sd X cc nL own mn pc (op_if1 (fun x => ¬ x = 0) t nx) := by
  subst hn
  intro d l p e R s m args below meth c n0 ad0 Q C hd' Qr Qt B L S h h1 h2 ad ls H locs r
  match S, h1, h2, r with
  | a :: S, h1, h2, r =>
    obtain ⟨x, rfl⟩ : ∃ x, a = .int x := ⟨_, rp_i_e h1⟩
    have h3 : rt_J X nL p l e R s m args below meth c n0 ad0 Q (rt_sel (¬ x = 0) t (pc + 3)) L S h := h2
    have hs := rt_selJ (P := rt_J X nL p l e R s m args below meth c n0 ad0 Q) h3
    exact lv_if_ne B.1 B.2.1 hd ht (fun z => hs.1 z ad ls H locs r.tail) (fun z => hs.2 (fun w => w z) ad ls H locs r.tail)
theorem sd_icmp_ne {off : Int} {t nx : Nat} (hd : decode cc pc = .ok (.if_icmp .ne off, 3)) (ht : (pc : Int) + off = (t : Int)) (hn : pc + 3 = nx) : rt_Sd X cc nL own mn pc (op_if2 (fun x y => ¬ x = y) t nx) := by
  subst hn
  intro d l p e R s m args below meth c n0 ad0 Q C hd' Qr Qt B L S h h1 h2 ad ls H locs r
  match S, h1, h2, r with
  | b :: a :: S, h1, h2, r =>
    obtain ⟨y, rfl⟩ : ∃ y, b = .int y := ⟨_, rp_i_e h1.1⟩
    obtain ⟨x, rfl⟩ : ∃ x, a = .int x := ⟨_, rp_i_e h1.2⟩
    have h3 : rt_J X nL p l e R s m args below meth c n0 ad0 Q (rt_sel (¬ x = y) t (pc + 3)) L S h := h2
    have hs := rt_selJ (P := rt_J X nL p l e R s m args below meth c n0 ad0 Q) h3
    exact lv_icmp_ne B.1 B.2.1 hd ht (fun z => hs.1 z ad ls H locs r.tail.tail) (fun z => hs.2 (fun w => w z) ad ls H locs r.tail.tail)
theorem sd_if_lt {off : Int} {t nx : Nat} (hd : decode cc pc = .ok (.ifCond .lt off, 3)) (ht : (pc : Int) + off = (t : Int)) (hn : pc + 3 = nx) : rt_Sd X cc nL own mn pc (op_if1 (fun x => x < 0) t nx) := by
  subst hn
  intro d l p e R s m args below meth c n0 ad0 Q C hd' Qr Qt B L S h h1 h2 ad ls H locs r
  match S, h1, h2, r with
  | a :: S, h1, h2, r =>
    obtain ⟨x, rfl⟩ : ∃ x, a = .int x := ⟨_, rp_i_e h1⟩
    have h3 : rt_J X nL p l e R s m args below meth c n0 ad0 Q (rt_sel (x < 0) t (pc + 3)) L S h := h2
    have hs := rt_selJ (P := rt_J X nL p l e R s m args below meth c n0 ad0 Q) h3
    exact lv_if_lt B.1 B.2.1 hd ht (fun z => hs.1 z ad ls H locs r.tail) (fun z => hs.2 z ad ls H locs r.tail)
theorem sd_icmp_lt {off : Int} {t nx : Nat} (hd : decode cc pc = .ok (.if_icmp .lt off, 3)) (ht : (pc : Int) + off = (t : Int)) (hn : pc + 3 = nx) : rt_Sd X cc nL own mn pc (op_if2 (fun x y => x < y) t nx) := by
  subst hn
  intro d l p e R s m args below meth c n0 ad0 Q C hd' Qr Qt B L S h h1 h2 ad ls H locs r
  match S, h1, h2, r with
  | b :: a :: S, h1, h2, r =>
    obtain ⟨y, rfl⟩ : ∃ y, b = .int y := ⟨_, rp_i_e h1.1⟩
    obtain ⟨x, rfl⟩ : ∃ x, a = .int x := ⟨_, rp_i_e h1.2⟩
    have h3 : rt_J X nL p l e R s m args below meth c n0 ad0 Q (rt_sel (x < y) t (pc + 3)) L S h := h2
    have hs := rt_selJ (P := rt_J X nL p l e R s m args below meth c n0 ad0 Q) h3
    exact lv_icmp_lt B.1 B.2.1 hd ht (fun z => hs.1 z ad ls H locs r.tail.tail) (fun z => hs.2 z ad ls H locs r.tail.tail)
theorem sd_if_ge {off : Int} {t nx : Nat} (hd : decode cc pc = .ok (.ifCond .ge off, 3)) (ht : (pc : Int) + off = (t : Int)) (hn : pc + 3 = nx) : rt_Sd X cc nL own mn pc (op_if1 (fun x => 0 ≤ x) t nx) := by
  subst hn
  intro d l p e R s m args below meth c n0 ad0 Q C hd' Qr Qt B L S h h1 h2 ad ls H locs r
  match S, h1, h2, r with
  | a :: S, h1, h2, r =>
    obtain ⟨x, rfl⟩ : ∃ x, a = .int x := ⟨_, rp_i_e h1⟩
    have h3 : rt_J X nL p l e R s m args below meth c n0 ad0 Q (rt_sel (0 ≤ x) t (pc + 3)) L S h := h2
    have hs := rt_selJ (P := rt_J X nL p l e R s m args below meth c n0 ad0 Q) h3
    exact lv_if_ge B.1 B.2.1 hd ht (fun z => hs.1 z ad ls H locs r.tail) (fun z => hs.2 z ad ls H locs r.tail)
theorem sd_icmp_ge {off : Int} {t nx : Nat} (hd : decode cc pc = .ok (.if_icmp .ge off, 3)) (ht : (pc : Int) + off = (t : Int)) (hn : pc + 3 = nx) : rt_Sd X cc nL own mn pc (op_if2 (fun x y => y ≤ x) t nx) := by
  subst hn
  intro d l p e R s m args below meth c n0 ad0 Q C hd' Qr Qt B L S h h1 h2 ad ls H locs r
  match S, h1, h2, r with
  | b :: a :: S, h1, h2, r =>
    obtain ⟨y, rfl⟩ : ∃ y, b = .int y := ⟨_, rp_i_e h1.1⟩
    obtain ⟨x, rfl⟩ : ∃ x, a = .int x := ⟨_, rp_i_e h1.2⟩
    have h3 : rt_J X nL p l e R s m args below meth c n0 ad0 Q (rt_sel (y ≤ x) t (pc + 3)) L S h := h2
    have hs := rt_selJ (P := rt_J X nL p l e R s m args below meth c n0 ad0 Q) h3
    exact lv_icmp_ge B.1 B.2.1 hd ht (fun z => hs.1 z ad ls H locs r.tail.tail) (fun z => hs.2 z ad ls H locs r.tail.tail)
theorem sd_if_gt {off : Int} {t nx : Nat} (hd : decode cc pc = .ok (.ifCond .gt off, 3)) (ht : (pc : Int) + off = (t : Int)) (hn : pc + 3 = nx) : rt_Sd X cc nL own mn pc (op_if1 (fun x => 0 < x) t nx) := by
  subst hn
  intro d l p e R s m args below meth c n0 ad0 Q C hd' Qr Qt B L S h h1 h2 ad ls H locs r
  match S, h1, h2, r with
  | a :: S, h1, h2, r =>
    obtain ⟨x, rfl⟩ : ∃ x, a = .int x := ⟨_, rp_i_e h1⟩
    have h3 : rt_J X nL p l e R s m args below meth c n0 ad0 Q (rt_sel (0 < x) t (pc + 3)) L S h := h2
    have hs := rt_selJ (P := rt_J X nL p l e R s m args below meth c n0 ad0 Q) h3
    exact lv_if_gt B.1 B.2.1 hd ht (fun z => hs.1 z ad ls H locs r.tail) (fun z => hs.2 z ad ls H locs r.tail)
theorem sd_icmp_gt {off : Int} {t nx : Nat} (hd : decode cc pc = .ok (.if_icmp .gt off, 3)) (ht : (pc : Int) + off = (t : Int)) (hn : pc + 3 = nx) : rt_Sd X cc nL own mn pc (op_if2 (fun x y => y < x) t nx) := by
  subst hn
  intro d l p e R s m args below meth c n0 ad0 Q C hd' Qr Qt B L S h h1 h2 ad ls H locs r
  match S, h1, h2, r with
  | b :: a :: S, h1, h2, r =>
    obtain ⟨y, rfl⟩ : ∃ y, b = .int y := ⟨_, rp_i_e h1.1⟩
    obtain ⟨x, rfl⟩ : ∃ x, a = .int x := ⟨_, rp_i_e h1.2⟩
    have h3 : rt_J X nL p l e R s m args below meth c n0 ad0 Q (rt_sel (y < x) t (pc + 3)) L S h := h2
    have hs := rt_selJ (P := rt_J X nL p l e R s m args below meth c n0 ad0 Q) h3
    exact lv_icmp_gt B.1 B.2.1 hd ht (fun z => hs.1 z ad ls H locs r.tail.tail) (fun z => hs.2 z ad ls H locs r.tail.tail)
theorem sd_if_le {off : Int} {t nx : Nat} (hd : decode cc pc = .ok (.ifCond .le off, 3)) (ht : (pc : Int) + off = (t : Int)) (hn : pc + 3 = nx) : rt_Sd X cc nL own mn pc (op_if1 (fun x => x ≤ 0) t nx) := by
  subst hn
  intro d l p e R s m args below meth c n0 ad0 Q C hd' Qr Qt B L S h h1 h2 ad ls H locs r
  match S, h1, h2, r with
  | a :: S, h1, h2, r =>
    obtain ⟨x, rfl⟩ : ∃ x, a = .int x := ⟨_, rp_i_e h1⟩
    have h3 : rt_J X nL p l e R s m args below meth c n0 ad0 Q (rt_sel (x ≤ 0) t (pc + 3)) L S h := h2
    have hs := rt_selJ (P := rt_J X nL p l e R s m args below meth c n0 ad0 Q) h3
    exact lv_if_le B.1 B.2.1 hd ht (fun z => hs.1 z ad ls H locs r.tail) (fun z => hs.2 z ad ls H locs r.tail)
theorem sd_icmp_le {off : Int} {t nx : Nat} (hd : decode cc pc = .ok (.if_icmp .le off, 3)) (ht : (pc : Int) + off = (t : Int)) (hn : pc + 3 = nx) : rt_Sd X cc nL own mn pc (op_if2 (fun x y => x ≤ y) t nx) := by
  subst hn
  intro d l p e R s m args below meth c n0 ad0 Q C hd' Qr Qt B L S h h1 h2 ad ls H locs r
  match S, h1, h2, r with
  | b :: a :: S, h1, h2, r =>
    obtain ⟨y, rfl⟩ : ∃ y, b = .int y := ⟨_, rp_i_e h1.1⟩
    obtain ⟨x, rfl⟩ : ∃ x, a = .int x := ⟨_, rp_i_e h1.2⟩
    have h3 : rt_J X nL p l e R s m args below meth c n0 ad0 Q (rt_sel (x ≤ y) t (pc + 3)) L S h := h2
    have hs := rt_selJ (P := rt_J X nL p l e R s m args below meth c n0 ad0 Q) h3
    exact lv_icmp_le B.1 B.2.1 hd ht (fun z => hs.1 z ad ls H locs r.tail.tail) (fun z => hs.2 z ad ls H locs r.tail.tail)
theorem sd_ifnull {off : Int} {t nx : Nat} (hd : decode cc pc = .ok (.ifnull off, 3)) (ht : (pc : Int) + off = (t : Int)) (hn : pc + 3 = nx) : rt_Sd X cc nL own mn pc (op_ifn t nx) := by
  subst hn
  intro d l p e R s m args below meth c n0 ad0 Q C hd' Qr Qt B L S h h1 h2 ad ls H locs r
  match S, h1, h2, r with
  | a :: S, h1, h2, r =>
    have hs := rt_selJ (P := rt_J X nL p l e R s m args below meth c n0 ad0 Q) (show rt_J X nL p l e R s m args below meth c n0 ad0 Q (rt_sel (a = .null) _ _) L S h from h2)
    rcases rp_a_e h1 with e1 | e1
    · subst e1
      exact lv_ifnullN B.1 B.2.1 hd ht (hs.1 rfl ad ls H locs r.tail)
    · obtain ⟨x, rfl⟩ : ∃ x, a = .ref x := ⟨_, e1⟩
      exact lv_ifnull B.1 B.2.1 hd (hs.2 (fun z => by cases z) ad ls H locs r.tail)
theorem sd_ifnonnull {off : Int} {t nx : Nat} (hd : decode cc pc = .ok (.ifnonnull off, 3)) (ht : (pc : Int) + off = (t : Int)) (hn : pc + 3 = nx) : rt_Sd X cc nL own mn pc (op_ifn nx t) := by
  subst hn
  intro d l p e R s m args below meth c n0 ad0 Q C hd' Qr Qt B L S h h1 h2 ad ls H locs r
  match S, h1, h2, r with
  | a :: S, h1, h2, r =>
    have hs := rt_selJ (P := rt_J X nL p l e R s m args below meth c n0 ad0 Q) (show rt_J X nL p l e R s m args below meth c n0 ad0 Q (rt_sel (a = .null) _ _) L S h from h2)
    rcases rp_a_e h1 with e1 | e1
    · subst e1
      exact lv_ifnonnullN B.1 B.2.1 hd (hs.1 rfl ad ls H locs r.tail)
    · obtain ⟨x, rfl⟩ : ∃ x, a = .ref x := ⟨_, e1⟩
      exact lv_ifnonnull B.1 B.2.1 hd ht (hs.2 (fun z => by cases z) ad ls H locs r.tail)
theorem rb_cat1 {n : Nat} {ad : Nat → Nat} {v : Value} (h : rb_l v = false) (hv : rt_vn n v) : (rt_tr ad v).category = 1 := by cases v <;> first | rfl | exact hv.elim | cases h
theorem sd_dup {nx : Nat} (hd : decode cc pc = .ok (.dup, 1)) (hn : pc + 1 = nx) : rt_Sd X cc nL own mn pc (op_dup nx) := by
  subst hn
  intro d l p e R s m args below meth c n0 ad0 Q C hd' Qr Qt B L S h h1 h2 ad ls H locs r
  match S, h1, h2, r with
  | a :: S, h1, h2, r => exact lv_dup B.1 B.2.1 hd (rb_cat1 h1 r.head) (h2 ad ls H locs (r.push r.head))
theorem sd_pop {nx : Nat} (hd : decode cc pc = .ok (.pop, 1)) (hn : pc + 1 = nx) : rt_Sd X cc nL own mn pc (op_pop nx) := by
  subst hn
  intro d l p e R s m args below meth c n0 ad0 Q C hd' Qr Qt B L S h h1 h2 ad ls H locs r
  match S, h1, h2, r with
  | a :: S, h1, h2, r => exact lv_pop B.1 B.2.1 hd (rb_cat1 h1 r.head) (h2 ad ls H locs r.tail)
theorem sd_dup_x1 {nx : Nat} (hd : decode cc pc = .ok (.dup_x1, 1)) (hn : pc + 1 = nx) : rt_Sd X cc nL own mn pc (op_dupx nx) := by
  subst hn
  intro d l p e R s m args below meth c n0 ad0 Q C hd' Qr Qt B L S h h1 h2 ad ls H locs r
  match S, h1, h2, r with
  | a :: b :: S, h1, h2, r => exact lv_dup_x1 B.1 B.2.1 hd (rb_cat1 h1.1 r.head) (rb_cat1 h1.2 r.tail.head) (h2 ad ls H locs (((r.tail.tail.push r.head).push r.tail.head).push r.head))
theorem sd_dup2 {nx : Nat} (hd : decode cc pc = .ok (.dup2, 1)) (hn : pc + 1 = nx) : rt_Sd X cc nL own mn pc (op_dup2 nx) := by
  subst hn
  intro d l p e R s m args below meth c n0 ad0 Q C hd' Qr Qt B L S h h1 h2 ad ls H locs r
  match S, h1, h2, r with
  | a :: b :: S, h1, h2, r => exact lv_dup2_11 B.1 B.2.1 hd (rb_cat1 h1.1 r.head) (rb_cat1 h1.2 r.tail.head) (h2 ad ls H locs ((r.push r.tail.head).push r.head))
theorem sd_dup2l {nx : Nat} (hd : decode cc pc = .ok (.dup2, 1)) (hn : pc + 1 = nx) : rt_Sd X cc nL own mn pc (op_dup2l nx) := by
  subst hn
  intro d l p e R s m args below meth c n0 ad0 Q C hd' Qr Qt B L S h h1 h2 ad ls H locs r
  match S, h1, h2, r with
  | a :: S, h1, h2, r =>
    obtain ⟨x, rfl⟩ : ∃ x, a = .long x := ⟨_, rp_l_e h1⟩
    exact lv_dup2_2 B.1 B.2.1 hd rfl (h2 ad ls H locs (r.push r.head))
/-- the table of a switch: its places, and where each goes -/
def rt_tab (pc : Nat) (lo : Int) (q : List (Int32 × Nat)) (offs : List Int) : Prop := q.length = offs.length ∧ ∀ (i : Nat) (k : Int32 × Nat), q[i]? = some k → k.1.toInt = lo + i ∧ ∃ off, offs[i]? = some off ∧ (pc : Int) + off = (k.2 : Int)
theorem rt_swt_in {P : Nat → Prop} {x : Int32} {d : Nat} : ∀ (q : List (Int32 × Nat)) (i : Nat) (k : Int32 × Nat), q[i]? = some k → x = k.1 → (∀ j kj, j < i → q[j]? = some kj → ¬ x = kj.1) → P (rt_swt x q d) → P k.2
  | [], i, k, h, _, _, _ => by cases h
  | a :: q, 0, k, h, hx, _, hp => by
    cases h
    exact ((rt_sel_P (P := P)).mp hp).1 hx
  | a :: q, i + 1, k, h, hx, hn, hp => rt_swt_in q i k h hx (fun j kj hj hq => hn (j + 1) kj (by omega) hq) (((rt_sel_P (P := P)).mp hp).2 (hn 0 a (by omega) rfl))
theorem rt_swt_out {P : Nat → Prop} {x : Int32} {d : Nat} : ∀ (q : List (Int32 × Nat)), (∀ k ∈ q, ¬ x = k.1) → P (rt_swt x q d) → P d
  | [], _, hp => hp
  | a :: q, hn, hp => rt_swt_out q (fun k hk => hn k (List.mem_cons_of_mem _ hk)) (((rt_sel_P (P := P)).mp hp).2 (hn a List.mem_cons_self))
theorem sd_tsw {dflt lo hi : Int} {offs : Array Int} {len t : Nat} {q : List (Int32 × Nat)} (hd : decode cc pc = .ok (.tableswitch dflt lo hi offs, len)) (ht : (pc : Int) + dflt = (t : Int)) (hq : rt_tab pc lo q offs.toList) (hh : lo + offs.size = hi + 1) : rt_Sd X cc nL own mn pc (op_sw q t) := by
  intro d l p e R s m args below meth c n0 ad0 Q C hd' Qr Qt B L S h h1 h2 ad ls H locs r
  match S, h1, h2, r with
  | a :: S, h1, h2, r =>
    obtain ⟨x, rfl⟩ : ∃ x, a = .int x := ⟨_, rp_i_e h1⟩
    have h3 : rt_J X nL p l e R s m args below meth c n0 ad0 Q (rt_swt x q t) L S h := h2
    by_cases c1 : x.toInt < lo ∨ hi < x.toInt
    · refine lv_tableOut B.1 B.2.1 hd c1 ht (rt_swt_out (P := fun n => rt_J X nL p l e R s m args below meth c n0 ad0 Q n L S h) q (fun k hk e1 => ?_) h3 ad ls H locs r.tail)
      obtain ⟨i, hi⟩ := List.getElem?_of_mem hk
      have h4 := (hq.2 i k hi).1
      have h5 : i < q.length := (List.getElem?_eq_some_iff.mp hi).1
      rw [hq.1, Array.length_toList] at h5
      rw [e1] at c1
      omega
    · have h0 : ¬ x.toInt < lo := fun z => c1 (Or.inl z)
      have h00 : ¬ hi < x.toInt := fun z => c1 (Or.inr z)
      have h5 : (x.toInt - lo).toNat < q.length := by rw [hq.1, Array.length_toList]; omega
      have h6 := hq.2 _ _ (List.getElem?_eq_getElem h5)
      obtain ⟨h7, off, h8, h9⟩ := h6
      refine lv_tableIn B.1 B.2.1 hd h0 h00 (by rw [← Array.getElem?_toList]; exact h8) h9 (rt_swt_in (P := fun n => rt_J X nL p l e R s m args below meth c n0 ad0 Q n L S h) q _ _ (List.getElem?_eq_getElem h5) (Int32.toInt_inj.mp (by omega)) (fun j kj hj hqj e1 => ?_) h3 ad ls H locs r.tail)
      have := (hq.2 j kj hqj).1
      rw [e1] at hj
      omega
theorem rt_lsw {P : Nat → Prop} {pc d : Nat} {x : Int32} {dflt : Int} (hdf : (pc : Int) + dflt = (d : Int)) : ∀ (q : List (Int32 × Nat)) (ps : List (Int × Int)), ps = q.map (fun k => (k.1.toInt, (k.2 : Int) - pc)) → P (rt_swt x q d) → ∃ t : Nat, (pc : Int) + Op.lookupswitch.offset ps dflt x.toInt = (t : Int) ∧ P t
  | [], ps, e, hp => ⟨d, by subst e; exact hdf, hp⟩
  | k :: q, ps, e, hp => by
    subst e
    have h := (rt_sel_P (P := P)).mp hp
    by_cases c : x = k.1
    · refine ⟨k.2, ?_, h.1 c⟩
      subst c
      simp [Op.lookupswitch.offset]
      omega
    · obtain ⟨t, h1, h2⟩ := rt_lsw hdf q _ rfl (h.2 c)
      refine ⟨t, ?_, h2⟩
      rw [← h1]
      have c2 : ¬ k.1.toInt = x.toInt := fun z => c (Int32.toInt_inj.mp z.symm)
      have c3 : ¬ x.toInt = k.1.toInt := fun z => c2 z.symm
      congr 1
      simp [Op.lookupswitch.offset, c2, c3]
theorem sd_lsw {dflt : Int} {ps : Array (Int × Int)} {len t : Nat} {q : List (Int32 × Nat)} (hd : decode cc pc = .ok (.lookupswitch dflt ps, len)) (hp : (ps.toList.zip (ps.toList.drop 1)).all (fun (a, next) => a.1 < next.1) = true) (ht : (pc : Int) + dflt = (t : Int)) (hq : ps.toList = q.map (fun k => (k.1.toInt, (k.2 : Int) - pc))) : rt_Sd X cc nL own mn pc (op_sw q t) := by
  intro d l p e R s m args below meth c n0 ad0 Q C hd' Qr Qt B L S h h1 h2 ad ls H locs r
  match S, h1, h2, r with
  | a :: S, h1, h2, r =>
    obtain ⟨x, rfl⟩ : ∃ x, a = .int x := ⟨_, rp_i_e h1⟩
    obtain ⟨t2, h3, h4⟩ := rt_lsw (P := fun n => rt_J X nL p l e R s m args below meth c n0 ad0 Q n L S h) ht q ps.toList hq (show _ from h2)
    exact lv_lookup B.1 B.2.1 hd hp rfl h3 (h4 ad ls H locs r.tail)
end SND2
