/-! RULES: a block, an instruction at a time, as equations (their proofs aren't 'rfl', so that simp writes them down) -/
section AMR
variable {cs : List am_T} {hs : List (Nat × Nat × Nat)} {Q : am_O → am_S → Prop} {K : Nat → am_S → am_L → List am_V → Prop} {b : List am_I} {pc n : Nat} {σ : am_S} {ls : am_L} {x : am_X} {r st : List am_V}
theorem am_r_nil : am_run cs hs Q K [] pc σ ls st = K pc σ ls st := by
  rw [am_run]
def am_gv (σ : am_S) (a b c d j : Nat) : am_V := match c with
  | 0 => .inl (σ.1 a j b)
  | 6 => .inl (am_kf j b)
  | 77 => .inl (nI 0)
  | _ => .inr (.inr (c, d + j))
theorem am_gv_i {a b d j : Nat} : am_gv σ a b 0 d j = .inl (σ.1 a j b) := by
  unfold am_gv
  rfl
theorem am_gv_k {a b d j : Nat} : am_gv σ a b 6 d j = .inl (am_kf j b) := by
  unfold am_gv
  rfl
theorem am_gv_c {a b d j : Nat} : am_gv σ a b 77 d j = .inl (nI 0) := by
  unfold am_gv
  rfl
theorem am_gv_r {a b c d j : Nat} (h0 : c ≠ 0) (h6 : c ≠ 6) (h7 : c ≠ 77) : am_gv σ a b c d j = .inr (.inr (c, d + j)) := by
  unfold am_gv
  split
  · exact absurd rfl h0
  · exact absurd rfl h6
  · exact absurd rfl h7
  · rfl
theorem am_gi_0 {v : Int32} {l : am_L} {k : Int32 → Prop} : am_gi (some (.inl v) :: l) 0 k = k v := by
  unfold am_gi
  rfl
theorem am_gi_s1 {o : Option am_V} {l : am_L} {i : Nat} {k : Int32 → Prop} : am_gi (o :: l) (i + 1) k = am_gi l i k := by
  unfold am_gi
  rfl
theorem am_gl_0 {v : Int64} {l : am_L} {k : Int64 → Prop} : am_gl (some (.inr (.inl v)) :: l) 0 k = k v := by
  unfold am_gl
  rfl
theorem am_gl_s1 {o : Option am_V} {l : am_L} {i : Nat} {k : Int64 → Prop} : am_gl (o :: l) (i + 1) k = am_gl l i k := by
  unfold am_gl
  rfl
theorem am_gr_0 {v : am_P} {l : am_L} {k : am_P → Prop} : am_gr (some (.inr (.inr v)) :: l) 0 k = k v := by
  unfold am_gr
  rfl
theorem am_gr_s1 {o : Option am_V} {l : am_L} {i : Nat} {k : am_P → Prop} : am_gr (o :: l) (i + 1) k = am_gr l i k := by
  unfold am_gr
  rfl
theorem am_r_iconst {y : Int} {a1 b1 c1 d1 : Nat} {z1 : Int} : am_run cs hs Q K ((.iconst y, n, (a1, b1, c1, d1, z1)) :: b) pc σ ls (st) = (am_run cs hs Q K b (pc + n) σ ls (.inl (am_i z1) :: st)) := by
  rw [am_run]
  rfl
theorem am_r_bipush {y : Int} {a1 b1 c1 d1 : Nat} {z1 : Int} : am_run cs hs Q K ((.bipush y, n, (a1, b1, c1, d1, z1)) :: b) pc σ ls (st) = (am_run cs hs Q K b (pc + n) σ ls (.inl (am_i z1) :: st)) := by
  rw [am_run]
  rfl
theorem am_r_sipush {y : Int} {a1 b1 c1 d1 : Nat} {z1 : Int} : am_run cs hs Q K ((.sipush y, n, (a1, b1, c1, d1, z1)) :: b) pc σ ls (st) = (am_run cs hs Q K b (pc + n) σ ls (.inl (am_i z1) :: st)) := by
  rw [am_run]
  rfl
theorem am_r_lconst {y : Fin 2} {a1 b1 c1 d1 : Nat} {z1 : Int} : am_run cs hs Q K ((.lconst y, n, (a1, b1, c1, d1, z1)) :: b) pc σ ls (st) = (am_run cs hs Q K b (pc + n) σ ls (.inr (.inl (am_l z1)) :: st)) := by
  rw [am_run]
  rfl
theorem am_r_ldc2 {y : Nat} {a1 b1 c1 d1 : Nat} {z1 : Int} : am_run cs hs Q K ((.ldc2_w y, n, (a1, b1, c1, d1, z1)) :: b) pc σ ls (st) = (am_run cs hs Q K b (pc + n) σ ls (.inr (.inl (am_l z1)) :: st)) := by
  rw [am_run]
  rfl
theorem am_r_ldc_i {y b1 c1 d1 : Nat} {z1 : Int} : am_run cs hs Q K ((.ldc y, n, (0, b1, c1, d1, z1)) :: b) pc σ ls (st) = (am_run cs hs Q K b (pc + n) σ ls (.inl (am_i z1) :: st)) := by
  rw [am_run]
  rfl
theorem am_r_ldc_s {y b1 c1 d1 : Nat} {z1 : Int} : am_run cs hs Q K ((.ldc y, n, (7, b1, c1, d1, z1)) :: b) pc σ ls (st) = (am_run cs hs Q K b (pc + n) σ ls (.inr (.inr (7, b1)) :: st)) := by
  rw [am_run]
  rfl
theorem am_r_ldc_w_i {y b1 c1 d1 : Nat} {z1 : Int} : am_run cs hs Q K ((.ldc_w y, n, (0, b1, c1, d1, z1)) :: b) pc σ ls (st) = (am_run cs hs Q K b (pc + n) σ ls (.inl (am_i z1) :: st)) := by
  rw [am_run]
  rfl
theorem am_r_ldc_w_s {y b1 c1 d1 : Nat} {z1 : Int} : am_run cs hs Q K ((.ldc_w y, n, (7, b1, c1, d1, z1)) :: b) pc σ ls (st) = (am_run cs hs Q K b (pc + n) σ ls (.inr (.inr (7, b1)) :: st)) := by
  rw [am_run]
  rfl
theorem am_r_iload {y : Nat} {a1 b1 c1 d1 : Nat} {z1 : Int} : am_run cs hs Q K ((.iload y, n, (a1, b1, c1, d1, z1)) :: b) pc σ ls (st) = (am_gi ls a1 fun v => am_run cs hs Q K b (pc + n) σ ls (.inl v :: st)) := by
  rw [am_run]
  rfl
theorem am_r_iload_n {y : Fin 4} {a1 b1 c1 d1 : Nat} {z1 : Int} : am_run cs hs Q K ((.iload_n y, n, (a1, b1, c1, d1, z1)) :: b) pc σ ls (st) = (am_gi ls a1 fun v => am_run cs hs Q K b (pc + n) σ ls (.inl v :: st)) := by
  rw [am_run]
  rfl
theorem am_r_lload {y : Nat} {a1 b1 c1 d1 : Nat} {z1 : Int} : am_run cs hs Q K ((.lload y, n, (a1, b1, c1, d1, z1)) :: b) pc σ ls (st) = (am_gl ls a1 fun v => am_run cs hs Q K b (pc + n) σ ls (.inr (.inl v) :: st)) := by
  rw [am_run]
  rfl
theorem am_r_lload_n {y : Fin 4} {a1 b1 c1 d1 : Nat} {z1 : Int} : am_run cs hs Q K ((.lload_n y, n, (a1, b1, c1, d1, z1)) :: b) pc σ ls (st) = (am_gl ls a1 fun v => am_run cs hs Q K b (pc + n) σ ls (.inr (.inl v) :: st)) := by
  rw [am_run]
  rfl
theorem am_r_aload {y : Nat} {a1 b1 c1 d1 : Nat} {z1 : Int} : am_run cs hs Q K ((.aload y, n, (a1, b1, c1, d1, z1)) :: b) pc σ ls (st) = (am_gr ls a1 fun v => am_run cs hs Q K b (pc + n) σ ls (.inr (.inr v) :: st)) := by
  rw [am_run]
  rfl
theorem am_r_aload_n {y : Fin 4} {a1 b1 c1 d1 : Nat} {z1 : Int} : am_run cs hs Q K ((.aload_n y, n, (a1, b1, c1, d1, z1)) :: b) pc σ ls (st) = (am_gr ls a1 fun v => am_run cs hs Q K b (pc + n) σ ls (.inr (.inr v) :: st)) := by
  rw [am_run]
  rfl
theorem am_r_istore {y : Nat} {v : Int32} {a1 b1 c1 d1 : Nat} {z1 : Int} : am_run cs hs Q K ((.istore y, n, (a1, b1, c1, d1, z1)) :: b) pc σ ls (.inl v :: r) = (am_run cs hs Q K b (pc + n) σ (am_put1 ls a1 (.inl v)) (r)) := by
  rw [am_run]
  rfl
theorem am_r_istore_n {y : Fin 4} {v : Int32} {a1 b1 c1 d1 : Nat} {z1 : Int} : am_run cs hs Q K ((.istore_n y, n, (a1, b1, c1, d1, z1)) :: b) pc σ ls (.inl v :: r) = (am_run cs hs Q K b (pc + n) σ (am_put1 ls a1 (.inl v)) (r)) := by
  rw [am_run]
  rfl
theorem am_r_lstore {y : Nat} {v : Int64} {a1 b1 c1 d1 : Nat} {z1 : Int} : am_run cs hs Q K ((.lstore y, n, (a1, b1, c1, d1, z1)) :: b) pc σ ls (.inr (.inl v) :: r) = (am_run cs hs Q K b (pc + n) σ (am_put2 ls a1 (.inr (.inl v))) (r)) := by
  rw [am_run]
  rfl
theorem am_r_lstore_n {y : Fin 4} {v : Int64} {a1 b1 c1 d1 : Nat} {z1 : Int} : am_run cs hs Q K ((.lstore_n y, n, (a1, b1, c1, d1, z1)) :: b) pc σ ls (.inr (.inl v) :: r) = (am_run cs hs Q K b (pc + n) σ (am_put2 ls a1 (.inr (.inl v))) (r)) := by
  rw [am_run]
  rfl
theorem am_r_astore {y : Nat} {v : am_P} {a1 b1 c1 d1 : Nat} {z1 : Int} : am_run cs hs Q K ((.astore y, n, (a1, b1, c1, d1, z1)) :: b) pc σ ls (.inr (.inr v) :: r) = (am_run cs hs Q K b (pc + n) σ (am_put1 ls a1 (.inr (.inr v))) (r)) := by
  rw [am_run]
  rfl
theorem am_r_astore_n {y : Fin 4} {v : am_P} {a1 b1 c1 d1 : Nat} {z1 : Int} : am_run cs hs Q K ((.astore_n y, n, (a1, b1, c1, d1, z1)) :: b) pc σ ls (.inr (.inr v) :: r) = (am_run cs hs Q K b (pc + n) σ (am_put1 ls a1 (.inr (.inr v))) (r)) := by
  rw [am_run]
  rfl
theorem am_r_iinc {y : Nat} {y2 : Int} {a1 b1 c1 d1 : Nat} {z1 : Int} : am_run cs hs Q K ((.iinc y y2, n, (a1, b1, c1, d1, z1)) :: b) pc σ ls (st) = (am_gi ls a1 fun v => am_run cs hs Q K b (pc + n) σ (am_put1 ls a1 (.inl (v + am_i z1))) (st)) := by
  rw [am_run]
  rfl
theorem am_r_iadd {v w : Int32} : am_run cs hs Q K ((.iadd, n, x) :: b) pc σ ls (.inl w :: .inl v :: r) = (am_run cs hs Q K b (pc + n) σ ls (.inl (v + w) :: r)) := by
  rw [am_run]
  rfl
theorem am_r_isub {v w : Int32} : am_run cs hs Q K ((.isub, n, x) :: b) pc σ ls (.inl w :: .inl v :: r) = (am_run cs hs Q K b (pc + n) σ ls (.inl (v - w) :: r)) := by
  rw [am_run]
  rfl
theorem am_r_imul {v w : Int32} : am_run cs hs Q K ((.imul, n, x) :: b) pc σ ls (.inl w :: .inl v :: r) = (am_run cs hs Q K b (pc + n) σ ls (.inl (v * w) :: r)) := by
  rw [am_run]
  rfl
theorem am_r_iand {v w : Int32} : am_run cs hs Q K ((.iand, n, x) :: b) pc σ ls (.inl w :: .inl v :: r) = (am_run cs hs Q K b (pc + n) σ ls (.inl (v &&& w) :: r)) := by
  rw [am_run]
  rfl
theorem am_r_ishr {v w : Int32} : am_run cs hs Q K ((.ishr, n, x) :: b) pc σ ls (.inl w :: .inl v :: r) = (am_run cs hs Q K b (pc + n) σ ls (.inl (am_ishr v w) :: r)) := by
  rw [am_run]
  rfl
theorem am_r_idiv {v w : Int32} : am_run cs hs Q K ((.idiv, n, x) :: b) pc σ ls (.inl w :: .inl v :: r) = (¬ w = 0 ∧ am_run cs hs Q K b (pc + n) σ ls (.inl (v / w) :: r)) := by
  rw [am_run]
  rfl
theorem am_r_irem {v w : Int32} : am_run cs hs Q K ((.irem, n, x) :: b) pc σ ls (.inl w :: .inl v :: r) = (¬ w = 0 ∧ am_run cs hs Q K b (pc + n) σ ls (.inl (am_irem v w) :: r)) := by
  rw [am_run]
  rfl
theorem am_r_ladd {v w : Int64} : am_run cs hs Q K ((.ladd, n, x) :: b) pc σ ls (.inr (.inl w) :: .inr (.inl v) :: r) = (am_run cs hs Q K b (pc + n) σ ls (.inr (.inl (v + w)) :: r)) := by
  rw [am_run]
  rfl
theorem am_r_lsub {v w : Int64} : am_run cs hs Q K ((.lsub, n, x) :: b) pc σ ls (.inr (.inl w) :: .inr (.inl v) :: r) = (am_run cs hs Q K b (pc + n) σ ls (.inr (.inl (v - w)) :: r)) := by
  rw [am_run]
  rfl
theorem am_r_lmul {v w : Int64} : am_run cs hs Q K ((.lmul, n, x) :: b) pc σ ls (.inr (.inl w) :: .inr (.inl v) :: r) = (am_run cs hs Q K b (pc + n) σ ls (.inr (.inl (v * w)) :: r)) := by
  rw [am_run]
  rfl
theorem am_r_land {v w : Int64} : am_run cs hs Q K ((.land, n, x) :: b) pc σ ls (.inr (.inl w) :: .inr (.inl v) :: r) = (am_run cs hs Q K b (pc + n) σ ls (.inr (.inl (v &&& w)) :: r)) := by
  rw [am_run]
  rfl
theorem am_r_lor {v w : Int64} : am_run cs hs Q K ((.lor, n, x) :: b) pc σ ls (.inr (.inl w) :: .inr (.inl v) :: r) = (am_run cs hs Q K b (pc + n) σ ls (.inr (.inl (v ||| w)) :: r)) := by
  rw [am_run]
  rfl
theorem am_r_lxor {v w : Int64} : am_run cs hs Q K ((.lxor, n, x) :: b) pc σ ls (.inr (.inl w) :: .inr (.inl v) :: r) = (am_run cs hs Q K b (pc + n) σ ls (.inr (.inl (v ^^^ w)) :: r)) := by
  rw [am_run]
  rfl
theorem am_r_lrem {v w : Int64} : am_run cs hs Q K ((.lrem, n, x) :: b) pc σ ls (.inr (.inl w) :: .inr (.inl v) :: r) = (¬ w = 0 ∧ am_run cs hs Q K b (pc + n) σ ls (.inr (.inl (am_lrem v w)) :: r)) := by
  rw [am_run]
  rfl
theorem am_r_lshl {v : Int64} {w : Int32} : am_run cs hs Q K ((.lshl, n, x) :: b) pc σ ls (.inl w :: .inr (.inl v) :: r) = (am_run cs hs Q K b (pc + n) σ ls (.inr (.inl (am_lshl v w)) :: r)) := by
  rw [am_run]
  rfl
theorem am_r_lshr {v : Int64} {w : Int32} : am_run cs hs Q K ((.lshr, n, x) :: b) pc σ ls (.inl w :: .inr (.inl v) :: r) = (am_run cs hs Q K b (pc + n) σ ls (.inr (.inl (am_lshr v w)) :: r)) := by
  rw [am_run]
  rfl
theorem am_r_lushr {v : Int64} {w : Int32} : am_run cs hs Q K ((.lushr, n, x) :: b) pc σ ls (.inl w :: .inr (.inl v) :: r) = (am_run cs hs Q K b (pc + n) σ ls (.inr (.inl (am_lushr v w)) :: r)) := by
  rw [am_run]
  rfl
theorem am_r_lcmp {v w : Int64} : am_run cs hs Q K ((.lcmp, n, x) :: b) pc σ ls (.inr (.inl w) :: .inr (.inl v) :: r) = (am_run cs hs Q K b (pc + n) σ ls (.inl (lg_cmp v w) :: r)) := by
  rw [am_run]
  rfl
theorem am_r_i2l {v : Int32} : am_run cs hs Q K ((.i2l, n, x) :: b) pc σ ls (.inl v :: r) = (am_run cs hs Q K b (pc + n) σ ls (.inr (.inl v.toInt64) :: r)) := by
  rw [am_run]
  rfl
theorem am_r_i2b {v : Int32} : am_run cs hs Q K ((.i2b, n, x) :: b) pc σ ls (.inl v :: r) = (am_run cs hs Q K b (pc + n) σ ls (.inl v.toInt8.toInt32 :: r)) := by
  rw [am_run]
  rfl
theorem am_r_l2i {v : Int64} : am_run cs hs Q K ((.l2i, n, x) :: b) pc σ ls (.inr (.inl v) :: r) = (am_run cs hs Q K b (pc + n) σ ls (.inl v.toInt32 :: r)) := by
  rw [am_run]
  rfl
theorem am_r_dupI {v : Int32} : am_run cs hs Q K ((.dup, n, x) :: b) pc σ ls (.inl v :: r) = (am_run cs hs Q K b (pc + n) σ ls (.inl v :: .inl v :: r)) := by
  rw [am_run]
  rfl
theorem am_r_dupR {v : am_P} : am_run cs hs Q K ((.dup, n, x) :: b) pc σ ls (.inr (.inr v) :: r) = (am_run cs hs Q K b (pc + n) σ ls (.inr (.inr v) :: .inr (.inr v) :: r)) := by
  rw [am_run]
  rfl
theorem am_r_dup2I {v w : Int32} : am_run cs hs Q K ((.dup2, n, x) :: b) pc σ ls (.inl v :: .inl w :: r) = (am_run cs hs Q K b (pc + n) σ ls (.inl v :: .inl w :: .inl v :: .inl w :: r)) := by
  rw [am_run]
  rfl
theorem am_r_dup2R {v : Int32} {w : am_P} : am_run cs hs Q K ((.dup2, n, x) :: b) pc σ ls (.inl v :: .inr (.inr w) :: r) = (am_run cs hs Q K b (pc + n) σ ls (.inl v :: .inr (.inr w) :: .inl v :: .inr (.inr w) :: r)) := by
  rw [am_run]
  rfl
theorem am_r_pop {v : Int32} : am_run cs hs Q K ((.pop, n, x) :: b) pc σ ls (.inl v :: r) = (am_run cs hs Q K b (pc + n) σ ls (r)) := by
  rw [am_run]
  rfl
theorem am_r_if_eq {y : Int} {v : Int32} {a1 b1 c1 d1 : Nat} {z1 : Int} : am_run cs hs Q K ((.ifCond .eq y, n, (a1, b1, c1, d1, z1)) :: b) pc σ ls (.inl v :: r) = ((v = 0 → K a1 σ ls r) ∧ (¬ v = 0 → am_run cs hs Q K b (pc + n) σ ls (r))) := by
  rw [am_run]
  rfl
theorem am_r_icmp_eq {y : Int} {v w : Int32} {a1 b1 c1 d1 : Nat} {z1 : Int} : am_run cs hs Q K ((.if_icmp .eq y, n, (a1, b1, c1, d1, z1)) :: b) pc σ ls (.inl w :: .inl v :: r) = ((v = w → K a1 σ ls r) ∧ (¬ v = w → am_run cs hs Q K b (pc + n) σ ls (r))) := by
  rw [am_run]
  rfl
theorem am_r_if_ne {y : Int} {v : Int32} {a1 b1 c1 d1 : Nat} {z1 : Int} : am_run cs hs Q K ((.ifCond .ne y, n, (a1, b1, c1, d1, z1)) :: b) pc σ ls (.inl v :: r) = ((¬ v = 0 → K a1 σ ls r) ∧ (v = 0 → am_run cs hs Q K b (pc + n) σ ls (r))) := by
  rw [am_run]
  rfl
theorem am_r_icmp_ne {y : Int} {v w : Int32} {a1 b1 c1 d1 : Nat} {z1 : Int} : am_run cs hs Q K ((.if_icmp .ne y, n, (a1, b1, c1, d1, z1)) :: b) pc σ ls (.inl w :: .inl v :: r) = ((¬ v = w → K a1 σ ls r) ∧ (v = w → am_run cs hs Q K b (pc + n) σ ls (r))) := by
  rw [am_run]
  rfl
theorem am_r_if_lt {y : Int} {v : Int32} {a1 b1 c1 d1 : Nat} {z1 : Int} : am_run cs hs Q K ((.ifCond .lt y, n, (a1, b1, c1, d1, z1)) :: b) pc σ ls (.inl v :: r) = ((v < 0 → K a1 σ ls r) ∧ (0 ≤ v → am_run cs hs Q K b (pc + n) σ ls (r))) := by
  rw [am_run]
  rfl
theorem am_r_icmp_lt {y : Int} {v w : Int32} {a1 b1 c1 d1 : Nat} {z1 : Int} : am_run cs hs Q K ((.if_icmp .lt y, n, (a1, b1, c1, d1, z1)) :: b) pc σ ls (.inl w :: .inl v :: r) = ((v < w → K a1 σ ls r) ∧ (w ≤ v → am_run cs hs Q K b (pc + n) σ ls (r))) := by
  rw [am_run]
  rfl
theorem am_r_if_ge {y : Int} {v : Int32} {a1 b1 c1 d1 : Nat} {z1 : Int} : am_run cs hs Q K ((.ifCond .ge y, n, (a1, b1, c1, d1, z1)) :: b) pc σ ls (.inl v :: r) = ((0 ≤ v → K a1 σ ls r) ∧ (v < 0 → am_run cs hs Q K b (pc + n) σ ls (r))) := by
  rw [am_run]
  rfl
theorem am_r_icmp_ge {y : Int} {v w : Int32} {a1 b1 c1 d1 : Nat} {z1 : Int} : am_run cs hs Q K ((.if_icmp .ge y, n, (a1, b1, c1, d1, z1)) :: b) pc σ ls (.inl w :: .inl v :: r) = ((w ≤ v → K a1 σ ls r) ∧ (v < w → am_run cs hs Q K b (pc + n) σ ls (r))) := by
  rw [am_run]
  rfl
theorem am_r_if_gt {y : Int} {v : Int32} {a1 b1 c1 d1 : Nat} {z1 : Int} : am_run cs hs Q K ((.ifCond .gt y, n, (a1, b1, c1, d1, z1)) :: b) pc σ ls (.inl v :: r) = ((0 < v → K a1 σ ls r) ∧ (v ≤ 0 → am_run cs hs Q K b (pc + n) σ ls (r))) := by
  rw [am_run]
  rfl
theorem am_r_icmp_gt {y : Int} {v w : Int32} {a1 b1 c1 d1 : Nat} {z1 : Int} : am_run cs hs Q K ((.if_icmp .gt y, n, (a1, b1, c1, d1, z1)) :: b) pc σ ls (.inl w :: .inl v :: r) = ((w < v → K a1 σ ls r) ∧ (v ≤ w → am_run cs hs Q K b (pc + n) σ ls (r))) := by
  rw [am_run]
  rfl
theorem am_r_if_le {y : Int} {v : Int32} {a1 b1 c1 d1 : Nat} {z1 : Int} : am_run cs hs Q K ((.ifCond .le y, n, (a1, b1, c1, d1, z1)) :: b) pc σ ls (.inl v :: r) = ((v ≤ 0 → K a1 σ ls r) ∧ (0 < v → am_run cs hs Q K b (pc + n) σ ls (r))) := by
  rw [am_run]
  rfl
theorem am_r_icmp_le {y : Int} {v w : Int32} {a1 b1 c1 d1 : Nat} {z1 : Int} : am_run cs hs Q K ((.if_icmp .le y, n, (a1, b1, c1, d1, z1)) :: b) pc σ ls (.inl w :: .inl v :: r) = ((v ≤ w → K a1 σ ls r) ∧ (w < v → am_run cs hs Q K b (pc + n) σ ls (r))) := by
  rw [am_run]
  rfl
theorem am_r_goto {y : Int} {a1 b1 c1 d1 : Nat} {z1 : Int} : am_run cs hs Q K ((.goto y, n, (a1, b1, c1, d1, z1)) :: b) pc σ ls (st) = (K a1 σ ls st) := by
  rw [am_run]
  rfl
theorem am_r_tsw {df lo hi : Int} {offs : Array Int} {v : Int32} : am_run cs hs Q K ((.tableswitch df lo hi offs, n, x) :: b) pc σ ls (.inl v :: r) = (((v.toInt < lo ∨ hi < v.toInt) → K (am_tg pc df) σ ls r) ∧ ∀ (j : Nat) (off : Int), offs[j]? = some off → v.toInt = lo + (j : Int) → v.toInt ≤ hi → K (am_tg pc off) σ ls r) := by
  rw [am_run]
  rfl
theorem am_r_getfield {y t j : Nat} {a1 b1 c1 d1 : Nat} {z1 : Int} : am_run cs hs Q K ((.getfield y, n, (a1, b1, c1, d1, z1)) :: b) pc σ ls (.inr (.inr (t, j)) :: r) = (t = a1 ∧ am_run cs hs Q K b (pc + n) σ ls (am_gv σ a1 b1 c1 d1 j :: r)) := by
  rw [am_run]
  rfl
theorem am_r_putfield {y t j : Nat} {v : Int32} {a1 b1 c1 d1 : Nat} {z1 : Int} : am_run cs hs Q K ((.putfield y, n, (a1, b1, c1, d1, z1)) :: b) pc σ ls (.inl v :: .inr (.inr (t, j)) :: r) = (t = a1 ∧ am_bit c1 v ∧ am_run cs hs Q K b (pc + n) (am_ri σ a1 j (upd (σ.1 a1 j) b1 v)) ls (r)) := by
  rw [am_run]
  rfl
theorem am_r_getstatic1 {y : Nat} {a1 b1 d1 : Nat} {z1 : Int} : am_run cs hs Q K ((.getstatic y, n, (a1, b1, 1, d1, z1)) :: b) pc σ ls (st) = (am_run cs hs Q K b (pc + n) σ ls (.inl (nI 1) :: st)) := by
  rw [am_run]
  rfl
theorem am_r_i2c {v : Int32} : am_run cs hs Q K ((.i2c, n, x) :: b) pc σ ls (.inl v :: r) = (am_run cs hs Q K b (pc + n) σ ls (.inl (am_i2c v) :: r)) := by
  rw [am_run]
  rfl
theorem am_r_getstatic {y : Nat} {a1 b1 d1 : Nat} {z1 : Int} : am_run cs hs Q K ((.getstatic y, n, (a1, b1, 0, d1, z1)) :: b) pc σ ls (st) = (am_run cs hs Q K b (pc + n) σ ls (.inr (.inr (a1, b1)) :: st)) := by
  rw [am_run]
  rfl
theorem am_r_iaload {t i : Nat} {j : Int32} : am_run cs hs Q K ((.iaload, n, x) :: b) pc σ ls (.inl j :: .inr (.inr (t, i)) :: r) = (am_ak t = 1 ∧ vp_in j (am_al t) ∧ am_run cs hs Q K b (pc + n) σ ls (.inl (σ.1 t i j.toNatClampNeg) :: r)) := by
  rw [am_run]
  rfl
theorem am_r_baload {t i : Nat} {j : Int32} : am_run cs hs Q K ((.baload, n, x) :: b) pc σ ls (.inl j :: .inr (.inr (t, i)) :: r) = (((am_ak t = 2 ∨ am_ak t = 3) ∧ vp_in j (am_al t) ∧ am_run cs hs Q K b (pc + n) σ ls (.inl (σ.1 t i j.toNatClampNeg) :: r)) ∨ (t = 9 ∧ vp_in j (am_sb i).length ∧ am_run cs hs Q K b (pc + n) σ ls (.inl (nI ((am_sb i).getD j.toNatClampNeg 0)) :: r))) := by
  rw [am_run]
  rfl
theorem am_r_laload {t i : Nat} {j : Int32} : am_run cs hs Q K ((.laload, n, x) :: b) pc σ ls (.inl j :: .inr (.inr (t, i)) :: r) = (vp_in j (am_al t) ∧ ((am_ak t = 4 ∧ am_run cs hs Q K b (pc + n) σ ls (.inr (.inl (σ.2 t i j.toNatClampNeg)) :: r)) ∨ (am_ak t = 7 ∧ am_run cs hs Q K b (pc + n) σ ls (.inr (.inl (am_ls j.toNatClampNeg)) :: r)))) := by
  rw [am_run]
  rfl
theorem am_r_aaload {t i : Nat} {j : Int32} : am_run cs hs Q K ((.aaload, n, x) :: b) pc σ ls (.inl j :: .inr (.inr (t, i)) :: r) = ((am_ak t = 5 ∨ am_ak t = 6) ∧ vp_in j (am_al t) ∧ am_run cs hs Q K b (pc + n) σ ls (.inr (.inr (am_ak t - 4, j.toNatClampNeg)) :: r)) := by
  rw [am_run]
  rfl
theorem am_r_iastore {t i : Nat} {j v : Int32} : am_run cs hs Q K ((.iastore, n, x) :: b) pc σ ls (.inl v :: .inl j :: .inr (.inr (t, i)) :: r) = (am_ak t = 1 ∧ vp_in j (am_al t) ∧ am_run cs hs Q K b (pc + n) (am_ri σ t i (upd (σ.1 t i) j.toNatClampNeg v)) ls (r)) := by
  rw [am_run]
  rfl
theorem am_r_bastore {t i : Nat} {j v : Int32} : am_run cs hs Q K ((.bastore, n, x) :: b) pc σ ls (.inl v :: .inl j :: .inr (.inr (t, i)) :: r) = (vp_in j (am_al t) ∧ ((am_ak t = 2 ∧ am_run cs hs Q K b (pc + n) (am_ri σ t i (upd (σ.1 t i) j.toNatClampNeg v.toInt8.toInt32)) ls (r)) ∨ (am_ak t = 3 ∧ (v = nI 0 ∨ v = nI 1) ∧ am_run cs hs Q K b (pc + n) (am_ri σ t i (upd (σ.1 t i) j.toNatClampNeg v)) ls (r)))) := by
  rw [am_run]
  rfl
theorem am_r_lastore {t i : Nat} {j : Int32} {v : Int64} : am_run cs hs Q K ((.lastore, n, x) :: b) pc σ ls (.inr (.inl v) :: .inl j :: .inr (.inr (t, i)) :: r) = (am_ak t = 4 ∧ vp_in j (am_al t) ∧ am_run cs hs Q K b (pc + n) (am_rl σ t i (vp_updL (σ.2 t i) j.toNatClampNeg v)) ls (r)) := by
  rw [am_run]
  rfl
theorem am_r_arraylength {t i : Nat} : am_run cs hs Q K ((.arraylength, n, x) :: b) pc σ ls (.inr (.inr (t, i)) :: r) = ((am_ak t = 1 ∧ am_run cs hs Q K b (pc + n) σ ls (.inl (nI (am_al t)) :: r)) ∨ (t = 9 ∧ am_run cs hs Q K b (pc + n) σ ls (.inl (nI (am_sb i).length) :: r))) := by
  rw [am_run]
  rfl
/-- what comes behind a call -/
def am_af (cs : List am_T) (hs : List (Nat × Nat × Nat)) (Q : am_O → am_S → Prop) (K : Nat → am_S → am_L → List am_V → Prop) (b : List am_I) (pc n : Nat) (ls : am_L) (r : List am_V) : am_O → am_S → Prop := fun o σ' => match o with
  | .inl none => am_run cs hs Q K b (pc + n) σ' ls r
  | .inl (some v) => am_run cs hs Q K b (pc + n) σ' ls (v :: r)
  | .inr q => am_thr hs Q K pc q σ' ls
theorem am_af_v : am_af cs hs Q K b pc n ls r (.inl none) σ = am_run cs hs Q K b (pc + n) σ ls r := by
  unfold am_af
  rfl
theorem am_af_r {v : am_V} : am_af cs hs Q K b pc n ls r (.inl (some v)) σ = am_run cs hs Q K b (pc + n) σ ls (v :: r) := by
  unfold am_af
  rfl
theorem am_af_t {q : am_P} : am_af cs hs Q K b pc n ls r (.inr q) σ = am_thr hs Q K pc q σ ls := by
  unfold am_af
  rfl
theorem am_r_invokestatic {y a1 b1 d1 : Nat} {z1 : Int} : am_run cs hs Q K ((.invokestatic y, n, (a1, b1, 0, d1, z1)) :: b) pc σ ls (st) = (b1 ≤ st.length ∧ ((st.drop b1).length ≤ 4 ∨ am_cat (st.drop b1) ≤ 8) ∧ (am_args (st.take b1).reverse).length ≤ d1 ∧ cs.getD a1 am_F (st.take b1).reverse σ (am_af cs hs Q K b pc n ls (st.drop b1))) := by
  rw [am_run]
  rfl
theorem am_r_copy {y a1 b1 d1 : Nat} {z1 : Int} : am_run cs hs Q K ((.invokestatic y, n, (a1, b1, 1, d1, z1)) :: b) pc σ ls (st) = (am_cp σ st fun σ' r => r.length ≤ 4 ∧ am_run cs hs Q K b (pc + n) σ' ls r) := by
  rw [am_run]
  rfl
theorem am_r_invokevirtual {y : Nat} {a1 b1 c1 d1 : Nat} {z1 : Int} : am_run cs hs Q K ((.invokevirtual y, n, (a1, b1, c1, d1, z1)) :: b) pc σ ls (st) = (b1 ≤ st.length ∧ ((st.drop b1).length ≤ 4 ∨ am_cat (st.drop b1) ≤ 8) ∧ (am_args (st.take b1).reverse).length ≤ d1 ∧ am_rt c1 (st.take b1).reverse ∧ cs.getD a1 am_F (st.take b1).reverse σ (am_af cs hs Q K b pc n ls (st.drop b1))) := by
  rw [am_run]
  rfl
theorem am_r_athrow {q : am_P} : am_run cs hs Q K ((.athrow, n, x) :: b) pc σ ls (.inr (.inr q) :: r) = (am_thr hs Q K pc q σ ls) := by
  rw [am_run]
  rfl
theorem am_r_vret  : am_run cs hs Q K ((.return_, n, x) :: b) pc σ ls ([]) = (Q (.inl none) σ) := by
  rw [am_run]
  rfl
theorem am_r_iret {v : Int32} {a1 b1 c1 d1 : Nat} {z1 : Int} : am_run cs hs Q K ((.ireturn, n, (a1, b1, c1, d1, z1)) :: b) pc σ ls ([.inl v]) = (am_bit c1 v ∧ Q (.inl (some (.inl v))) σ) := by
  rw [am_run]
  rfl
theorem am_r_lret {v : Int64} : am_run cs hs Q K ((.lreturn, n, x) :: b) pc σ ls ([.inr (.inl v)]) = (Q (.inl (some (.inr (.inl v)))) σ) := by
  rw [am_run]
  rfl
theorem am_r_aret {v : am_P} : am_run cs hs Q K ((.areturn, n, x) :: b) pc σ ls ([.inr (.inr v)]) = (Q (.inl (some (.inr (.inr v)))) σ) := by
  rw [am_run]
  rfl
theorem am_cp_c {m dp sp : Int32} {t i t' i' : Nat} {k : am_S → List am_V → Prop} : am_cp σ (.inl m :: .inl dp :: .inr (.inr (t', i')) :: .inl sp :: .inr (.inr (t, i)) :: r) k = ((¬ sp < 0 ∧ ¬ dp < 0 ∧ ¬ m < 0 ∧ sp.toNatClampNeg + m.toNatClampNeg ≤ am_al t ∧ dp.toNatClampNeg + m.toNatClampNeg ≤ am_al t') ∧
      ((am_ak t = 1 ∧ am_ak t' = 1 ∧ k (am_ri σ t' i' (va_cpy (σ.1 t i) (σ.1 t' i') sp.toNatClampNeg dp.toNatClampNeg m.toNatClampNeg)) r) ∨
       (am_ak t = 4 ∧ am_ak t' = 4 ∧ k (am_rl σ t' i' (va_cpy (σ.2 t i) (σ.2 t' i') sp.toNatClampNeg dp.toNatClampNeg m.toNatClampNeg)) r))) := by
  unfold am_cp
  rfl
theorem am_bit_0 {v : Int32} : am_bit 0 v = True := by
  unfold am_bit
  rfl
theorem am_bit_1 {v : Int32} : am_bit 1 v = (v = nI 0 ∨ v = nI 1) := by
  unfold am_bit
  rfl
theorem am_bit_2 {v : Int32} : am_bit 2 v = (v = nI 0) := by
  unfold am_bit
  rfl
theorem am_bit_3 {v : Int32} : am_bit 3 v = (∃ j : Nat, j < 65536 ∧ v = nI j) := by
  unfold am_bit
  rfl
theorem am_rt_c {t t' i : Nat} : am_rt t (.inr (.inr (t', i)) :: r) = (t' = t) := by
  unfold am_rt
  rfl
end AMR
