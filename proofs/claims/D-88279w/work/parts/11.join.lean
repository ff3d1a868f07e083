/-! soundness: the join of all instructions; a method's contract out of its blocks -/
/-- what is checked of a row of a block by computing -/
def am_ck (own : String) (ret : Option FieldType) (nL pc : Nat) (i : Instr) (n : Nat) (x : am_X) : Bool := match i with
  | .iadd => decide (n = 1)
  | .isub => decide (n = 1)
  | .imul => decide (n = 1)
  | .idiv => decide (n = 1)
  | .irem => decide (n = 1)
  | .iand => decide (n = 1)
  | .ishr => decide (n = 1)
  | .i2l => decide (n = 1)
  | .i2b => decide (n = 1)
  | .i2c => decide (n = 1)
  | .l2i => decide (n = 1)
  | .ladd => decide (n = 1)
  | .lsub => decide (n = 1)
  | .lmul => decide (n = 1)
  | .lrem => decide (n = 1)
  | .land => decide (n = 1)
  | .lor => decide (n = 1)
  | .lxor => decide (n = 1)
  | .lshl => decide (n = 1)
  | .lshr => decide (n = 1)
  | .lushr => decide (n = 1)
  | .lcmp => decide (n = 1)
  | .iaload => decide (n = 1)
  | .baload => decide (n = 1)
  | .laload => decide (n = 1)
  | .aaload => decide (n = 1)
  | .iastore => decide (n = 1)
  | .bastore => decide (n = 1)
  | .lastore => decide (n = 1)
  | .arraylength => decide (n = 1)
  | .iconst z => decide (n = 1 ∧ x.2.2.2.2 = z)
  | .bipush z => decide (n = 2 ∧ x.2.2.2.2 = z ∧ (Int8.ofInt z).toInt32 = am_i z)
  | .sipush z => decide (n = 3 ∧ x.2.2.2.2 = z ∧ (Int16.ofInt z).toInt32 = am_i z)
  | .lconst z => decide (n = 1 ∧ x.2.2.2.2 = ((z : Nat) : Int))
  | .ldc2_w i => decide (n = 3)
  | .ldc i => decide (n = 2 ∧ (x.1 = 0 ∨ (¬ x.1 = 0 ∧ x.2.1 < 20 ∧ am_sx x.2.1 = (own, i, (am_sx x.2.1).2.2))))
  | .ldc_w i => decide (n = 3 ∧ (x.1 = 0 ∨ (¬ x.1 = 0 ∧ x.2.1 < 20 ∧ am_sx x.2.1 = (own, i, (am_sx x.2.1).2.2))))
  | .iload i => decide (n = 2 ∧ x.1 = i)
  | .iload_n i => decide (n = 1 ∧ x.1 = (i : Nat))
  | .lload i => decide (n = 2 ∧ x.1 = i)
  | .lload_n i => decide (n = 1 ∧ x.1 = (i : Nat))
  | .aload i => decide (n = 2 ∧ x.1 = i)
  | .aload_n i => decide (n = 1 ∧ x.1 = (i : Nat))
  | .istore i => decide (n = 2 ∧ x.1 = i ∧ x.1 < nL)
  | .istore_n i => decide (n = 1 ∧ x.1 = (i : Nat) ∧ x.1 < nL)
  | .lstore i => decide (n = 2 ∧ x.1 = i ∧ x.1 + 1 < nL)
  | .lstore_n i => decide (n = 1 ∧ x.1 = (i : Nat) ∧ x.1 + 1 < nL)
  | .astore i => decide (n = 2 ∧ x.1 = i ∧ x.1 < nL)
  | .astore_n i => decide (n = 1 ∧ x.1 = (i : Nat) ∧ x.1 < nL)
  | .iinc i z => decide (n = 3 ∧ x.1 = i ∧ x.2.2.2.2 = z ∧ x.1 < nL)
  | .ifCond b off => decide (n = 3 ∧ (pc : Int) + off = (x.1 : Int))
  | .if_icmp b off => decide (n = 3 ∧ (pc : Int) + off = (x.1 : Int))
  | .goto off => decide (n = 3 ∧ (pc : Int) + off = (x.1 : Int))
  | .tableswitch df lo hi offs => decide (0 ≤ (pc : Int) + df ∧ (∀ o ∈ offs.toList, 0 ≤ (pc : Int) + o) ∧ hi - lo + 1 = (offs.size : Int))
  | .dup => decide (n = 1)
  | .dup2 => decide (n = 1)
  | .pop => decide (n = 1)
  | .getfield i => decide (n = 3 ∧ ((x.2.2.1 = 6 ∧ x.1 = 6) ∨ (x.1 = 7 ∧ (x.2.2.1 = 77 ∨ (x.2.2.1 = 9 ∧ x.2.2.2.1 = 0))) ∨ (¬ x.2.2.1 = 6 ∧ ¬ x.2.2.1 = 77 ∧ x.1 < 6 ∧ x.2.1 < am_nf x.1 ∧ ((x.2.2.1 = 0 ∧ (am_fr x.1 x.2.1).1 = 0) ∨ (¬ x.2.2.1 = 0 ∧ am_fr x.1 x.2.1 = (1, x.2.2.1, x.2.2.2.1) ∧ x.2.2.2.1 + am_np x.1 ≤ am_np x.2.2.1)))))
  | .putfield i => decide (n = 3 ∧ x.1 < 6 ∧ x.2.1 < am_nf x.1 ∧ (am_fr x.1 x.2.1).1 = 0 ∧ (am_TT x.1 x.2.1).2.2.2 = false ∧ am_ty x.1 x.2.1 = (if x.2.2.1 = 1 then .boolean else .int))
  | .getstatic i => decide (n = 3 ∧ ((x.2.2.1 = 0 ∧ x.1 = 6 ∧ 1 ≤ x.2.1 ∧ x.2.1 ≤ 14) ∨ (x.2.2.1 = 0 ∧ x.1 = 8 ∧ x.2.1 = 0) ∨ (x.2.2.1 = 1 ∧ x.1 = 78)))
  | .invokestatic i => decide (n = 3)
  | .invokevirtual i => decide (n = 3)
  | .athrow => decide (n = 1)
  | .return_ => decide (n = 1 ∧ ret = none)
  | .ireturn => decide (n = 1 ∧ ((x.2.2.1 = 1 ∧ ret = some .boolean) ∨ (x.2.2.1 = 2 ∧ ret = some .byte) ∨ (x.2.2.1 = 3 ∧ ret = some .char) ∨ (x.2.2.1 = 0 ∧ ret = some .int)))
  | .lreturn => decide (n = 1 ∧ ret = some .long)
  | .areturn => decide (n = 1 ∧ (ret = some (.object "TableWays$Kind") ∨ ret = some (.object "TableWays$Wrong") ∨ ret = some (.object "TableWaysModel$Stop")))
  | _ => false
/-- what the tables must say for a row -/
def am_wd (l : Launch) (own : String) (d : Nat) (cs : List am_T) (i : Instr) (x : am_X) : Prop := match i with
  | .ldc2_w i => Cond.constantLong own i (am_l x.2.2.2.2) ∈ lw_all
  | .ldc i => x.1 = 0 → Cond.constant own i (am_i x.2.2.2.2) ∈ lw_all
  | .ldc_w i => x.1 = 0 → Cond.constant own i (am_i x.2.2.2.2) ∈ lw_all
  | .getfield i => (x.2.2.1 = 6 → Cond.fieldLink own i "TableWays$Kind" (if x.2.1 = 0 then "first" else "second") "I" ∈ lw_all) ∧ (x.1 = 7 → Cond.fieldLink own i "java/lang/String" (if x.2.2.1 = 77 then "coder" else "value") (if x.2.2.1 = 77 then "B" else "[B") ∈ lw_all) ∧ (¬ x.2.2.1 = 6 → ¬ x.1 = 7 → Cond.fieldLink own i (am_TT x.1 x.2.1).1 (am_TT x.1 x.2.1).2.1 (am_TT x.1 x.2.1).2.2.1 ∈ lw_all ∨ (own = "TableWays" ∧ x.1 = 3 ∧ ((i = 232 ∧ x.2.1 = 6) ∨ (i = 235 ∧ x.2.1 = 7))))
  | .putfield i => Cond.fieldLink own i (am_TT x.1 x.2.1).1 (am_TT x.1 x.2.1).2.1 (am_TT x.1 x.2.1).2.2.1 ∈ lw_all
  | .getstatic i => (x.1 = 6 → Cond.fieldLink own i "TableWays$Kind" (am_kn x.2.1) "LTableWays$Kind;" ∈ lw_all) ∧ (x.1 = 8 → Cond.fieldLink own i "TableWaysModel" "LISTED" "[J" ∈ lw_all) ∧ (x.1 = 78 → Cond.fieldLink own i "java/lang/String" "COMPACT_STRINGS" "Z" ∈ lw_all)
  | .invokestatic i => (x.2.2.1 = 0 → am_CO l own (.invokestatic i) d x.2.1 x.2.2.2.1 (fun _ => True) (cs.getD x.1 am_F)) ∧ (¬ x.2.2.1 = 0 → 1 ≤ d ∧ Cond.methodLink own i arraycopyName ∈ lw_all)
  | .invokevirtual i => am_CO l own (.invokevirtual i) d x.2.1 x.2.2.2.1 (am_rt x.2.2.1) (cs.getD x.1 am_F)
  | _ => True
section AMJ
variable {p : Program} {l : Launch} {e : Env} {R : Room} {s : State} {m : MethodId} {args : Array Value} {below : List Frame} {meth : Method} {c : Code} {G : am_G} {nL : Nat} {k : am_O → am_S → Prop}
variable {cc : ByteArray} {own : String} {ret : Option FieldType} {d : Nat} {hs : List (Nat × Nat × Nat)} {cs : List am_T}
theorem am_one (F : am_Fx p R s m args meth c cc nL own ret G d) (hth : am_TH p l e R s m args below meth c G nL k hs) {pc : Nat} {σ : am_S} {ls : am_L} {st : List am_V} {next : am_S → am_L → List am_V → Prop} {i : Instr} {n : Nat} {x : am_X} (hck : am_ck own ret nL pc i n x = true) (hw : am_wd l own d cs i x) (hd : decode cc pc = .ok (i, n)) (h : am_step cs hs k next (am_K p l e R s m args below meth c G nL k) pc i x σ ls st) (hn : ∀ σ ls st, next σ ls st → am_K p l e R s m args below meth c G nL k (pc + n) σ ls st) : am_K p l e R s m args below meth c G nL k pc σ ls st := by
  cases i
  case iadd =>
    have hc : n = 1 := of_decide_eq_true hck
    obtain rfl := hc
    exact am_s_iadd F hd h hn
  case isub =>
    have hc : n = 1 := of_decide_eq_true hck
    obtain rfl := hc
    exact am_s_isub F hd h hn
  case imul =>
    have hc : n = 1 := of_decide_eq_true hck
    obtain rfl := hc
    exact am_s_imul F hd h hn
  case idiv =>
    have hc : n = 1 := of_decide_eq_true hck
    obtain rfl := hc
    exact am_s_idiv F hd h hn
  case irem =>
    have hc : n = 1 := of_decide_eq_true hck
    obtain rfl := hc
    exact am_s_irem F hd h hn
  case iand =>
    have hc : n = 1 := of_decide_eq_true hck
    obtain rfl := hc
    exact am_s_iand F hd h hn
  case ishr =>
    have hc : n = 1 := of_decide_eq_true hck
    obtain rfl := hc
    exact am_s_ishr F hd h hn
  case i2l =>
    have hc : n = 1 := of_decide_eq_true hck
    obtain rfl := hc
    exact am_s_i2l F hd h hn
  case i2b =>
    have hc : n = 1 := of_decide_eq_true hck
    obtain rfl := hc
    exact am_s_i2b F hd h hn
  case i2c =>
    have hc : n = 1 := of_decide_eq_true hck
    obtain rfl := hc
    exact am_s_i2c F hd h hn
  case l2i =>
    have hc : n = 1 := of_decide_eq_true hck
    obtain rfl := hc
    exact am_s_l2i F hd h hn
  case ladd =>
    have hc : n = 1 := of_decide_eq_true hck
    obtain rfl := hc
    exact am_s_ladd F hd h hn
  case lsub =>
    have hc : n = 1 := of_decide_eq_true hck
    obtain rfl := hc
    exact am_s_lsub F hd h hn
  case lmul =>
    have hc : n = 1 := of_decide_eq_true hck
    obtain rfl := hc
    exact am_s_lmul F hd h hn
  case lrem =>
    have hc : n = 1 := of_decide_eq_true hck
    obtain rfl := hc
    exact am_s_lrem F hd h hn
  case land =>
    have hc : n = 1 := of_decide_eq_true hck
    obtain rfl := hc
    exact am_s_land F hd h hn
  case lor =>
    have hc : n = 1 := of_decide_eq_true hck
    obtain rfl := hc
    exact am_s_lor F hd h hn
  case lxor =>
    have hc : n = 1 := of_decide_eq_true hck
    obtain rfl := hc
    exact am_s_lxor F hd h hn
  case lshl =>
    have hc : n = 1 := of_decide_eq_true hck
    obtain rfl := hc
    exact am_s_lshl F hd h hn
  case lshr =>
    have hc : n = 1 := of_decide_eq_true hck
    obtain rfl := hc
    exact am_s_lshr F hd h hn
  case lushr =>
    have hc : n = 1 := of_decide_eq_true hck
    obtain rfl := hc
    exact am_s_lushr F hd h hn
  case lcmp =>
    have hc : n = 1 := of_decide_eq_true hck
    obtain rfl := hc
    exact am_s_lcmp F hd h hn
  case iaload =>
    have hc : n = 1 := of_decide_eq_true hck
    obtain rfl := hc
    exact am_s_iaload F hd h hn
  case baload =>
    have hc : n = 1 := of_decide_eq_true hck
    obtain rfl := hc
    exact am_s_baload F hd h hn
  case laload =>
    have hc : n = 1 := of_decide_eq_true hck
    obtain rfl := hc
    exact am_s_laload F hd h hn
  case aaload =>
    have hc : n = 1 := of_decide_eq_true hck
    obtain rfl := hc
    exact am_s_aaload F hd h hn
  case iastore =>
    have hc : n = 1 := of_decide_eq_true hck
    obtain rfl := hc
    exact am_s_iastore F hd h hn
  case bastore =>
    have hc : n = 1 := of_decide_eq_true hck
    obtain rfl := hc
    exact am_s_bastore F hd h hn
  case lastore =>
    have hc : n = 1 := of_decide_eq_true hck
    obtain rfl := hc
    exact am_s_lastore F hd h hn
  case arraylength =>
    have hc : n = 1 := of_decide_eq_true hck
    obtain rfl := hc
    exact am_s_arraylength F hd h hn
  case iconst z =>
    have hc : n = 1 ∧ x.2.2.2.2 = z := of_decide_eq_true hck
    obtain ⟨rfl, rfl⟩ := hc
    exact am_s_iconst F hd h hn
  case bipush z =>
    have hc : n = 2 ∧ x.2.2.2.2 = z ∧ (Int8.ofInt z).toInt32 = am_i z := of_decide_eq_true hck
    obtain ⟨rfl, rfl, hz⟩ := hc
    exact am_s_bipush F hz hd h hn
  case sipush z =>
    have hc : n = 3 ∧ x.2.2.2.2 = z ∧ (Int16.ofInt z).toInt32 = am_i z := of_decide_eq_true hck
    obtain ⟨rfl, rfl, hz⟩ := hc
    exact am_s_sipush F hz hd h hn
  case lconst z =>
    have hc : n = 1 ∧ x.2.2.2.2 = ((z : Nat) : Int) := of_decide_eq_true hck
    obtain ⟨rfl, hz⟩ := hc
    have h : next σ ls (.inr (.inl (am_l x.2.2.2.2)) :: st) := h
    rw [hz] at h
    exact am_s_lconst F hd h hn
  case ldc2_w i =>
    have hc : n = 3 := of_decide_eq_true hck
    have hw : Cond.constantLong own i (am_l x.2.2.2.2) ∈ lw_all := hw
    obtain rfl := hc
    exact am_s_ldc2 F hw hd h hn
  case ldc i =>
    have hc : n = 2 ∧ (x.1 = 0 ∨ (¬ x.1 = 0 ∧ x.2.1 < 20 ∧ am_sx x.2.1 = (own, i, (am_sx x.2.1).2.2))) := of_decide_eq_true hck
    have hw : x.1 = 0 → Cond.constant own i (am_i x.2.2.2.2) ∈ lw_all := hw
    obtain ⟨rfl, hc⟩ := hc
    obtain ⟨a, b, c1, d1, z1⟩ := x
    cases a with
    | zero => exact am_s_ldc F (hw rfl) hd h hn
    | succ a =>
      rcases hc with hc | ⟨-, hc1, hc2⟩
      · exact absurd hc (Nat.succ_ne_zero a)
      · exact am_s_ldcS F hc1 hc2 hd h hn
  case ldc_w i =>
    have hc : n = 3 ∧ (x.1 = 0 ∨ (¬ x.1 = 0 ∧ x.2.1 < 20 ∧ am_sx x.2.1 = (own, i, (am_sx x.2.1).2.2))) := of_decide_eq_true hck
    have hw : x.1 = 0 → Cond.constant own i (am_i x.2.2.2.2) ∈ lw_all := hw
    obtain ⟨rfl, hc⟩ := hc
    obtain ⟨a, b, c1, d1, z1⟩ := x
    cases a with
    | zero => exact am_s_ldcw F (hw rfl) hd h hn
    | succ a =>
      rcases hc with hc | ⟨-, hc1, hc2⟩
      · exact absurd hc (Nat.succ_ne_zero a)
      · exact am_s_ldcwS F hc1 hc2 hd h hn
  case iload i =>
    have hc : n = 2 ∧ x.1 = i := of_decide_eq_true hck
    obtain ⟨rfl, rfl⟩ := hc
    exact am_s_iload F hd h hn
  case iload_n i =>
    have hc : n = 1 ∧ x.1 = (i : Nat) := of_decide_eq_true hck
    obtain ⟨rfl, hi⟩ := hc
    have h := h
    simp only [am_step, hi] at h
    exact am_s_iload_n F hd h hn
  case lload i =>
    have hc : n = 2 ∧ x.1 = i := of_decide_eq_true hck
    obtain ⟨rfl, rfl⟩ := hc
    exact am_s_lload F hd h hn
  case lload_n i =>
    have hc : n = 1 ∧ x.1 = (i : Nat) := of_decide_eq_true hck
    obtain ⟨rfl, hi⟩ := hc
    have h := h
    simp only [am_step, hi] at h
    exact am_s_lload_n F hd h hn
  case aload i =>
    have hc : n = 2 ∧ x.1 = i := of_decide_eq_true hck
    obtain ⟨rfl, rfl⟩ := hc
    exact am_s_aload F hd h hn
  case aload_n i =>
    have hc : n = 1 ∧ x.1 = (i : Nat) := of_decide_eq_true hck
    obtain ⟨rfl, hi⟩ := hc
    have h := h
    simp only [am_step, hi] at h
    exact am_s_aload_n F hd h hn
  case istore i =>
    have hc : n = 2 ∧ x.1 = i ∧ x.1 < nL := of_decide_eq_true hck
    obtain ⟨rfl, rfl, hi⟩ := hc
    exact am_s_istore F hi hd h hn
  case istore_n i =>
    have hc : n = 1 ∧ x.1 = (i : Nat) ∧ x.1 < nL := of_decide_eq_true hck
    obtain ⟨rfl, hi, hi2⟩ := hc
    rw [hi] at hi2
    simp only [am_step, hi] at h
    exact am_s_istore_n F hi2 hd h hn
  case lstore i =>
    have hc : n = 2 ∧ x.1 = i ∧ x.1 + 1 < nL := of_decide_eq_true hck
    obtain ⟨rfl, rfl, hi⟩ := hc
    exact am_s_lstore F hi hd h hn
  case lstore_n i =>
    have hc : n = 1 ∧ x.1 = (i : Nat) ∧ x.1 + 1 < nL := of_decide_eq_true hck
    obtain ⟨rfl, hi, hi2⟩ := hc
    rw [hi] at hi2
    simp only [am_step, hi] at h
    exact am_s_lstore_n F hi2 hd h hn
  case astore i =>
    have hc : n = 2 ∧ x.1 = i ∧ x.1 < nL := of_decide_eq_true hck
    obtain ⟨rfl, rfl, hi⟩ := hc
    exact am_s_astore F hi hd h hn
  case astore_n i =>
    have hc : n = 1 ∧ x.1 = (i : Nat) ∧ x.1 < nL := of_decide_eq_true hck
    obtain ⟨rfl, hi, hi2⟩ := hc
    rw [hi] at hi2
    simp only [am_step, hi] at h
    exact am_s_astore_n F hi2 hd h hn
  case iinc i z =>
    have hc : n = 3 ∧ x.1 = i ∧ x.2.2.2.2 = z ∧ x.1 < nL := of_decide_eq_true hck
    obtain ⟨rfl, rfl, rfl, hi⟩ := hc
    exact am_s_iinc F hi hd h hn
  case ifCond b off =>
    have hc : n = 3 ∧ (pc : Int) + off = (x.1 : Int) := of_decide_eq_true hck
    obtain ⟨rfl, ht⟩ := hc
    exact am_s_ifCond F ht hd h hn
  case if_icmp b off =>
    have hc : n = 3 ∧ (pc : Int) + off = (x.1 : Int) := of_decide_eq_true hck
    obtain ⟨rfl, ht⟩ := hc
    exact am_s_if_icmp F ht hd h hn
  case goto off =>
    have hc : n = 3 ∧ (pc : Int) + off = (x.1 : Int) := of_decide_eq_true hck
    obtain ⟨rfl, ht⟩ := hc
    exact am_s_goto F ht hd h
  case tableswitch df lo hi offs =>
    have hc : 0 ≤ (pc : Int) + df ∧ (∀ o ∈ offs.toList, 0 ≤ (pc : Int) + o) ∧ hi - lo + 1 = (offs.size : Int) := of_decide_eq_true hck
    obtain ⟨h0, h1, h2⟩ := hc
    exact am_s_tableswitch F h0 (fun j o ho => h1 o (List.mem_of_getElem? (i := j) (by rw [Array.getElem?_toList]; exact ho))) h2 hd h
  case dup =>
    have hc : n = 1 := of_decide_eq_true hck
    obtain rfl := hc
    simp only [am_step] at h
    split at h
    · exact am_s_dupI F hd h hn
    · exact am_s_dupR F hd h hn
    · exact h.elim
  case dup2 =>
    have hc : n = 1 := of_decide_eq_true hck
    obtain rfl := hc
    simp only [am_step] at h
    split at h
    · exact am_s_dup2I F hd h hn
    · exact am_s_dup2R F hd h hn
    · exact h.elim
  case pop =>
    have hc : n = 1 := of_decide_eq_true hck
    obtain rfl := hc
    simp only [am_step] at h
    split at h
    · exact am_s_pop F hd h hn
    · exact h.elim
  case getfield i =>
    have hc : n = 3 ∧ ((x.2.2.1 = 6 ∧ x.1 = 6) ∨ (x.1 = 7 ∧ (x.2.2.1 = 77 ∨ (x.2.2.1 = 9 ∧ x.2.2.2.1 = 0))) ∨ (¬ x.2.2.1 = 6 ∧ ¬ x.2.2.1 = 77 ∧ x.1 < 6 ∧ x.2.1 < am_nf x.1 ∧ ((x.2.2.1 = 0 ∧ (am_fr x.1 x.2.1).1 = 0) ∨ (¬ x.2.2.1 = 0 ∧ am_fr x.1 x.2.1 = (1, x.2.2.1, x.2.2.2.1) ∧ x.2.2.2.1 + am_np x.1 ≤ am_np x.2.2.1)))) := of_decide_eq_true hck
    have hw : (x.2.2.1 = 6 → Cond.fieldLink own i "TableWays$Kind" (if x.2.1 = 0 then "first" else "second") "I" ∈ lw_all) ∧ (x.1 = 7 → Cond.fieldLink own i "java/lang/String" (if x.2.2.1 = 77 then "coder" else "value") (if x.2.2.1 = 77 then "B" else "[B") ∈ lw_all) ∧ (¬ x.2.2.1 = 6 → ¬ x.1 = 7 → Cond.fieldLink own i (am_TT x.1 x.2.1).1 (am_TT x.1 x.2.1).2.1 (am_TT x.1 x.2.1).2.2.1 ∈ lw_all ∨ (own = "TableWays" ∧ x.1 = 3 ∧ ((i = 232 ∧ x.2.1 = 6) ∨ (i = 235 ∧ x.2.1 = 7)))) := hw
    obtain ⟨rfl, hc⟩ := hc
    obtain ⟨q, r, rfl, hq, h⟩ := am_1r_s h
    rcases hc with ⟨c1, c2⟩ | ⟨c1, c2⟩ | ⟨c1, c77, c2, c3, c4⟩
    · rw [c1] at h
      exact am_getk F (hq.trans c2) (hw.1 c1) hd (hn _ _ _ h)
    · have hw2 := hw.2.1 c1
      rcases c2 with c2 | ⟨c2, c3⟩
      · rw [c2] at h hw2
        exact am_getC F (hq.trans c1) hw2 hd (hn _ _ _ h)
      · rw [c2] at h hw2
        rw [c3, Nat.zero_add] at h
        exact am_getS F (hq.trans c1) hw2 hd (hn _ _ _ h)
    · rcases c4 with ⟨c5, c6⟩ | ⟨c5, c6, c7⟩
      · rw [c5] at h
        exact am_getf F hq c2 c3 (hw.2.2 c1 (by omega)) (v := .inl (σ.1 x.1 q.2 x.2.1)) (by unfold am_fv; rw [c6]; rfl) (fun _ => trivial) hd (hn _ _ _ h)
      · have h2 : next σ ls (.inr (.inr (x.2.2.1, x.2.2.2.1 + q.2)) :: r) := by
          split at h
          · exact absurd ‹_› c5
          · exact absurd ‹_› c1
          · exact absurd ‹_› c77
          · exact h
        refine am_getf F hq c2 c3 (hw.2.2 c1 (by omega)) (v := .inr (.inr (x.2.2.1, x.2.2.2.1 + q.2))) (by unfold am_fv; rw [c6]; rfl) (fun hv => ?_) hd (hn _ _ _ h2)
        have hv2 := am_vq_ob hv (by rw [hq]; exact c2)
        rw [hq] at hv2
        exact Or.inl (show x.2.2.2.1 + q.2 < am_np x.2.2.1 by omega)
  case putfield i =>
    have hc : n = 3 ∧ x.1 < 6 ∧ x.2.1 < am_nf x.1 ∧ (am_fr x.1 x.2.1).1 = 0 ∧ (am_TT x.1 x.2.1).2.2.2 = false ∧ am_ty x.1 x.2.1 = (if x.2.2.1 = 1 then .boolean else .int) := of_decide_eq_true hck
    have hw : Cond.fieldLink own i (am_TT x.1 x.2.1).1 (am_TT x.1 x.2.1).2.1 (am_TT x.1 x.2.1).2.2.1 ∈ lw_all := hw
    obtain ⟨rfl, c2, c3, c4, c5, c6⟩ := hc
    simp only [am_step] at h
    split at h
    · exact am_putf F h.1 c2 c3 c4 c5 c6 h.2.1 hw hd (hn _ _ _ h.2.2)
    · exact h.elim
  case getstatic i =>
    have hc : n = 3 ∧ ((x.2.2.1 = 0 ∧ x.1 = 6 ∧ 1 ≤ x.2.1 ∧ x.2.1 ≤ 14) ∨ (x.2.2.1 = 0 ∧ x.1 = 8 ∧ x.2.1 = 0) ∨ (x.2.2.1 = 1 ∧ x.1 = 78)) := of_decide_eq_true hck
    have hw : (x.1 = 6 → Cond.fieldLink own i "TableWays$Kind" (am_kn x.2.1) "LTableWays$Kind;" ∈ lw_all) ∧ (x.1 = 8 → Cond.fieldLink own i "TableWaysModel" "LISTED" "[J" ∈ lw_all) ∧ (x.1 = 78 → Cond.fieldLink own i "java/lang/String" "COMPACT_STRINGS" "Z" ∈ lw_all) := hw
    obtain ⟨rfl, hc⟩ := hc
    obtain ⟨a, b, c1, d1, z1⟩ := x
    rcases hc with ⟨c0, c2, c3, c4⟩ | ⟨c0, c2, c3⟩ | ⟨c0, c2⟩
    · have c2 : a = 6 := c2
      have c0 : c1 = 0 := c0
      subst c2
      subst c0
      exact am_s_getstK F c3 c4 (hw.1 rfl) hd h hn
    · have c2 : a = 8 := c2
      have c3 : b = 0 := c3
      have c0 : c1 = 0 := c0
      subst c2
      subst c3
      subst c0
      exact am_s_getstL F (hw.2.1 rfl) hd h hn
    · have c2 : a = 78 := c2
      have c0 : c1 = 1 := c0
      subst c2
      subst c0
      exact am_s_getstC F (hw.2.2 rfl) hd h hn
  case invokestatic i =>
    have hc : n = 3 := of_decide_eq_true hck
    have hw : (x.2.2.1 = 0 → am_CO l own (.invokestatic i) d x.2.1 x.2.2.2.1 (fun _ => True) (cs.getD x.1 am_F)) ∧ (¬ x.2.2.1 = 0 → 1 ≤ d ∧ Cond.methodLink own i arraycopyName ∈ lw_all) := hw
    obtain rfl := hc
    obtain ⟨a, b, c1, d1, z1⟩ := x
    cases c1 with
    | zero => exact am_s_call F hth (hw.1 rfl) hd h.1 h.2.1 h.2.2.1 trivial h.2.2.2 hn
    | succ c1 => exact am_s_copy F (hw.2 (Nat.succ_ne_zero _)).1 (hw.2 (Nat.succ_ne_zero _)).2 hd h hn
  case invokevirtual i =>
    have hc : n = 3 := of_decide_eq_true hck
    have hw : am_CO l own (.invokevirtual i) d x.2.1 x.2.2.2.1 (am_rt x.2.2.1) (cs.getD x.1 am_F) := hw
    obtain rfl := hc
    exact am_s_call F hth hw hd h.1 h.2.1 h.2.2.1 h.2.2.2.1 h.2.2.2.2 hn
  case athrow =>
    have hc : n = 1 := of_decide_eq_true hck
    obtain rfl := hc
    exact am_s_athrow F hth hd h
  case return_ =>
    have hc : n = 1 ∧ ret = none := of_decide_eq_true hck
    obtain ⟨rfl, hr⟩ := hc
    simp only [am_step] at h
    split at h
    · exact am_s_vret F hr hd h
    · exact h.elim
  case ireturn =>
    have hc : n = 1 ∧ ((x.2.2.1 = 1 ∧ ret = some .boolean) ∨ (x.2.2.1 = 2 ∧ ret = some .byte) ∨ (x.2.2.1 = 3 ∧ ret = some .char) ∨ (x.2.2.1 = 0 ∧ ret = some .int)) := of_decide_eq_true hck
    obtain ⟨rfl, hr⟩ := hc
    simp only [am_step] at h
    split at h
    · rcases hr with ⟨c1, hr⟩ | ⟨c1, hr⟩ | ⟨c1, hr⟩ | ⟨c1, hr⟩
      · rw [c1] at h
        exact am_s_zret F hr h.1 hd h.2
      · rw [c1] at h
        exact am_s_nret F hr (am_fit_byte h.1) hd h.2
      · rw [c1] at h
        exact am_s_nret F hr (am_fit_char h.1) hd h.2
      · exact am_s_iret F hr hd h.2
    · exact h.elim
  case lreturn =>
    have hc : n = 1 ∧ ret = some .long := of_decide_eq_true hck
    obtain ⟨rfl, hr⟩ := hc
    simp only [am_step] at h
    split at h
    · exact am_s_lret F hr hd h
    · exact h.elim
  case areturn =>
    have hc : n = 1 ∧ (ret = some (.object "TableWays$Kind") ∨ ret = some (.object "TableWays$Wrong") ∨ ret = some (.object "TableWaysModel$Stop")) := of_decide_eq_true hck
    obtain ⟨rfl, hr⟩ := hc
    have hr : ∃ n, ret = some (.object n) := by rcases hr with g | g | g <;> exact ⟨_, g⟩
    simp only [am_step] at h
    split at h
    · exact am_s_aret F hr hd h
    · exact h.elim
  all_goals exact False.elim h
def am_blk (cc : ByteArray) (own : String) (ret : Option FieldType) (nL : Nat) : List am_I → Nat → Bool
  | [], _ => true
  | (i, n, x) :: r, pc => (match decode cc pc with
      | .ok (i', n') => decide (i' = i) && decide (n' = n)
      | _ => false) && am_ck own ret nL pc i n x && am_blk cc own ret nL r (pc + n)
theorem am_run_ok (F : am_Fx p R s m args meth c cc nL own ret G d) (hth : am_TH p l e R s m args below meth c G nL k hs) : ∀ (b : List am_I) (pc : Nat) (σ : am_S) (ls : am_L) (st : List am_V), am_blk cc own ret nL b pc = true → (∀ y ∈ b, am_wd l own d cs y.1 y.2.2) → am_run cs hs k (am_K p l e R s m args below meth c G nL k) b pc σ ls st → am_K p l e R s m args below meth c G nL k pc σ ls st := by
  intro b
  induction b with
  | nil =>
    intro pc σ ls st _ _ h
    exact h
  | cons y r ih =>
    obtain ⟨i, n, x⟩ := y
    intro pc σ ls st hb hw h
    simp only [am_blk, Bool.and_eq_true] at hb
    obtain ⟨⟨h1, h2⟩, h3⟩ := hb
    have hd : decode cc pc = .ok (i, n) := by
      split at h1
      · rename_i i' n' he
        simp only [Bool.and_eq_true, decide_eq_true_eq] at h1
        rw [he, h1.1, h1.2]
      · cases h1
    exact am_one F hth h2 (hw _ List.mem_cons_self) hd h (fun σ ls st h' => ih (pc + n) σ ls st h3 (fun y hy => hw y (List.mem_cons_of_mem _ hy)) h')
end AMJ
theorem am_ent_len {nL : Nat} {a : List am_V} (h : (am_args a).length ≤ nL) : (am_ent nL a).length = nL := by
  simp [am_ent]
  omega
theorem am_args_ok : ∀ {a : List am_V}, (∀ x ∈ a, am_ok x) → am_vl (am_args a)
  | [], _ => fun v h => by cases h
  | .inl x :: r, h => fun v hv => by
    rcases List.mem_cons.mp hv with g | g
    · cases g; trivial
    · exact am_args_ok (fun y hy => h y (List.mem_cons_of_mem _ hy)) v g
  | .inr (.inl x) :: r, h => fun v hv => by
    rcases List.mem_cons.mp hv with g | g
    · cases g; trivial
    · rcases List.mem_cons.mp g with g | g
      · cases g
      · exact am_args_ok (fun y hy => h y (List.mem_cons_of_mem _ hy)) v g
  | .inr (.inr q) :: r, h => fun v hv => by
    rcases List.mem_cons.mp hv with g | g
    · cases g; exact h _ List.mem_cons_self
    · exact am_args_ok (fun y hy => h y (List.mem_cons_of_mem _ hy)) v g
theorem am_ent_ok {nL : Nat} {a : List am_V} (h : ∀ x ∈ a, am_ok x) : am_vl (am_ent nL a) := by
  intro v hv
  rcases List.mem_append.mp hv with g | g
  · exact am_args_ok h v g
  · exact absurd (List.eq_of_mem_replicate g) (by simp)
theorem am_args_sl (G : am_G) : ∀ (a : List am_V), (lg_sl (a.map (am_ev G))).length = (am_args a).length
  | [] => rfl
  | .inl x :: r => by
    have := am_args_sl G r
    simp only [lg_sl, List.map_cons, List.flatMap_cons, am_ev, Value.category, am_args, List.length_append, List.length_cons] at this ⊢
    simp at this ⊢
    omega
  | .inr (.inl x) :: r => by
    have := am_args_sl G r
    simp only [lg_sl, List.map_cons, List.flatMap_cons, am_ev, Value.category, am_args, List.length_append, List.length_cons] at this ⊢
    simp at this ⊢
    omega
  | .inr (.inr x) :: r => by
    have := am_args_sl G r
    simp only [lg_sl, List.map_cons, List.flatMap_cons, am_ev, Value.category, am_args, List.length_append, List.length_cons] at this ⊢
    simp at this ⊢
    omega
theorem am_args_lv (G : am_G) : ∀ (a : List am_V) (i0 i : Nat) (v : am_V), (am_args a)[i]? = some (some v) → (i0 + i, am_ev G v) ∈ lv_args i0 (a.map (am_ev G))
  | [], _, i, v, h => by simp [am_args] at h
  | .inl x :: r, i0, i, v, h => by
    cases i with
    | zero =>
      simp only [am_args, List.getElem?_cons_zero, Option.some.injEq] at h
      subst h
      exact List.mem_cons_self
    | succ i =>
      have := am_args_lv G r (i0 + 1) i v (by simpa [am_args] using h)
      refine List.mem_cons_of_mem _ ?_
      have e1 : i0 + (i + 1) = i0 + 1 + i := by omega
      rw [e1]
      exact this
  | .inr (.inl x) :: r, i0, i, v, h => by
    cases i with
    | zero =>
      simp only [am_args, List.getElem?_cons_zero, Option.some.injEq] at h
      subst h
      exact List.mem_cons_self
    | succ i =>
      cases i with
      | zero => simp [am_args] at h
      | succ i =>
        have := am_args_lv G r (i0 + 2) i v (by simpa [am_args] using h)
        refine List.mem_cons_of_mem _ ?_
        have e1 : i0 + (i + 1 + 1) = i0 + 2 + i := by omega
        rw [e1]
        exact this
  | .inr (.inr x) :: r, i0, i, v, h => by
    cases i with
    | zero =>
      simp only [am_args, List.getElem?_cons_zero, Option.some.injEq] at h
      subst h
      exact List.mem_cons_self
    | succ i =>
      have := am_args_lv G r (i0 + 1) i v (by simpa [am_args] using h)
      refine List.mem_cons_of_mem _ ?_
      have e1 : i0 + (i + 1) = i0 + 1 + i := by omega
      rw [e1]
      exact this
theorem am_entry (G : am_G) {nL : Nat} {a : List am_V} (h : (am_args a).length ≤ nL) : lv_has ((lg_sl (a.map (am_ev G)) ++ List.replicate (nL - (lg_sl (a.map (am_ev G))).length) Slot.unset).toArray) nL (am_pr G (am_ent nL a)) := by
  have hl := lv_entry (a.map (am_ev G)) (n := nL) (by rw [am_args_sl]; exact h)
  refine ⟨hl.1, hl.2.1, fun q hq => hl.2.2 q ?_⟩
  obtain ⟨i, w⟩ := q
  obtain ⟨v, h1, rfl⟩ := am_pr_mem.mp hq
  unfold am_ent at h1
  rw [List.getElem?_append] at h1
  split at h1
  · have := am_args_lv G a 0 i v h1
    rwa [Nat.zero_add] at this
  · rw [List.getElem?_replicate] at h1
    split at h1 <;> cases h1
/-- a contract out of the walk of the body; nothing is asked of the class's initialisation -/
theorem am_body {l : Launch} {x : MethodName} {S : Spec} {P : Array Value → State → Prop} {Q : Array Value → State → Outcome → State → Prop} {code : ByteArray} {maxLocals : Nat} {ret : Option FieldType}
    (hx : plainFor x = true)
    (his : ∀ args (s : State) m, S.pre.before args s = true → s.methodNamed? x = some m → ∃ meth c, s.vm.method? m = some meth ∧ meth.code = some c ∧ c.code = code ∧ c.maxLocals = maxLocals ∧ meth.sig.returnType = ret ∧ meth.locks = false)
    (body : ∀ (p : Program) (e : Env) (s : State) (m : MethodId) (args : Array Value) (below : List Frame) (meth : Method) (c : Code) (s₁ : State), Stand p l e S.room s m args below meth c s₁ [] 0 0 → p.tables.exec = Jvm.exec → c.code = code → meth.sig.returnType = ret → meth.locks = false → s₁ = s.setFrames (.java (entryFrame m args maxLocals) :: below) → s.methodNamed? x = some m → S.pre.before args s = true → c.maxLocals = maxLocals → P args s →
      ∃ s₂ o, Steps p.tables e below (s₁.setTop (entryFrame m args maxLocals)) s₂ ∧ s₂.status = .running ∧ Ended s₂ below o ∧ Q args s o s₂) :
    am_MF l x S P Q := by
  intro p e ha hc hk s m args below hf ⟨hrun, hable, halone, hname, hhears, hroom, hpre⟩ hP
  obtain ⟨meth, c, hmeth, hcode, hbytes, hlocals, hret, hlocks⟩ := his args s m hpre hname
  have hcur := State.cur_lt_of_frames hf
  have hf1 : (s.setFrames (.java (entryFrame m args maxLocals) :: below)).frames = .java (entryFrame m args maxLocals) :: below :=
    State.frames_setFrames _ hcur
  have ht1 := State.topJava?_of_frames hf1
  have hplain : (s.setFrames (.java (entryFrame m args maxLocals) :: below)).plainMethod m := State.plainMethod.of_named (s := s) hx hname hmeth
  have hAt : At (s.setFrames (.java (entryFrame m args maxLocals) :: below)) m c below :=
    ⟨by rw [ht1]; rfl, ⟨[], by rw [hf1]; rfl⟩, hrun, by simpa using hable, by simpa using halone,
      by rw [State.code?_eq]; simp [State.setFrames, hmeth, hcode], hplain⟩
  have hstep : (stepThread p.tables e s).1 = (s.setFrames (.java (entryFrame m args maxLocals) :: below)).setTop (entryFrame m args maxLocals) := by
    have hfull : e.platform.stackFull (s.setFrames below).me (s.setFrames below).frames c.maxLocals = false := by
      obtain ⟨-, h1, -, h2⟩ := State.hasRoom_stack hroom
      rw [hf, List.length_cons] at h1
      rw [State.localsInUse_invoking hf hmeth hcode] at h2
      have hw := stackUse_le_stackWeight below
      rw [State.frames_setFrames _ hcur]
      exact Platform.stackFull_eq_false (by rw [State.stackLimits_setFrames]; omega) (by rw [State.stackLimits_setFrames]; omega)
    rw [stepThread_invoking hf, (doInvoke_java (s := s.setFrames below) (e := e) (meth := meth) (code := c) hmeth hcode hlocks hfull).1, State.setTop_self ht1]
    simp only [State.pushFrame, State.frames_setFrames _ hcur, State.setFrames_setFrames, hlocals, entryFrame]
  obtain ⟨t, ht, -⟩ := State.frames_cons hf
  have X : Stand p l e S.room s m args below meth c (s.setFrames (.java (entryFrame m args maxLocals) :: below)) [] 0 0 :=
    ⟨ha, hc, hk, hf, hroom, hhears, hmeth, hcode, hAt, by rw [hf1]; rfl, State.WarmedH.refl s, by rw [State.stackLimits_setFrames], by rw [State.stackBytes_setFrames], (State.sameButNew.refl s ht).setFrames (.java (entryFrame m args maxLocals) :: below) hcur⟩
  obtain ⟨s₂, o, hs, hr, he, hp⟩ := body p e s m args below meth c _ X (by cases p <;> rfl) hbytes hret hlocks rfl hname hpre hlocals hP
  obtain ⟨n, hn, hw⟩ := Steps.head (tb := p.tables) (e := e) ⟨hrun, hable, halone⟩ ⟨[.invoking m args], hf, by simp, by simp⟩ (hstep ▸ hs)
  exact ⟨n, o, hw, hn ▸ hr, hn ▸ he, hn ▸ hp⟩
/-- A METHOD's CONTRACT: its blocks meet sp, they are its code, the words are there -/
theorem am_sound {l : Launch} {y : MethodName} {cc : ByteArray} {maxL d : Nat} {ret : Option FieldType} {cs : List am_T} {bl : List (Nat × List am_I)} {sp : am_T} (hy : plainFor y = true) (hok : am_Ok cs [] bl maxL sp) (hb : (bl.all fun q => am_blk cc y.cls ret maxL q.2 q.1) = true) (hw : ∀ q ∈ bl, ∀ z ∈ q.2, am_wd l y.cls d cs z.1 z.2.2) : am_Met l y (.code y cc maxL ret) d maxL sp := by
  intro G a σ k hsp hal
  refine am_body (code := cc) (maxLocals := maxL) (ret := ret) hy ?_ ?_
  · intro args s m h hn
    obtain ⟨meth, c, h1, h2, h3, h4, h5, h6, h7, -⟩ := Cond.code_spec hn (atoms_spec (ws := Cond.code y cc maxL ret :: lw_all) h _ List.mem_cons_self)
    exact ⟨meth, c, h1, h2, h3, h4, h5, h6⟩
  · intro p e s m args below meth c s₁ X hexec hbytes hret hlocks hstate hnamed hpre hml hP
    obtain ⟨rfl, hav, hU⟩ := hP
    have hh0 : s₁.heap = s.heap := by rw [hstate]; rfl
    have hts0 := atoms_spec (ws := Cond.code y cc maxL ret :: lw_all) hpre
    have hcode := hts0 _ List.mem_cons_self
    have hts : ∀ w ∈ lw_all, w.before _ s = true := fun w h => hts0 w (List.mem_cons_of_mem _ h)
    have F : am_Fx p (am_room d) s m (a.map (am_ev G)).toArray meth c cc maxL y.cls ret G d := ⟨hexec, hbytes, hml, findClass_of_methodNamed hnamed, hts, hlocks, hret, rfl, hU.2.1, ⟨σ, hU.2.2.1⟩, hU.2.2.2.1, hU.2.2.2.2⟩
    have hnh : c.exceptionTable.isEmpty = true := by
      obtain ⟨meth', c', h1, h2, -, -, -, -, h7, -⟩ := Cond.code_spec hnamed hcode
      cases X.method.symm.trans h1
      cases X.code.symm.trans h2
      exact h7
    have hth : am_TH p l e (am_room d) s m (a.map (am_ev G)).toArray below meth c G maxL k [] := am_TH_none F hnh
    have hK := hok a σ k hsp (am_K p l e (am_room d) s m (a.map (am_ev G)).toArray below meth c G maxL k) (fun q hq σ ls st h => am_run_ok F hth q.2 q.1 σ ls st (List.all_eq_true.mp hb q hq) (hw q hq) h)
    have hWW := hK (fun v h => by cases h) (am_ent_ok hav) (am_ent_len hal) s.heap [] _ hU.1 va_S.rf (am_entry G hal)
    rw [← hh0] at hWW
    have hWW2 : W p l e (am_room d) s m (a.map (am_ev G)).toArray below meth c s₁.heap [] 0 0 (am_Z below G k (a.map (am_ev G)).toArray s) (entryFrame m (a.map (am_ev G)).toArray maxL) := by
      rw [lg_entry_eq]
      exact hWW
    obtain ⟨t, a1, o, b1, b2, b3⟩ := hWW2 s₁ rfl X
    exact ⟨t, o, a1, b1, b2, b3⟩
def am_pln (i : Instr) : Bool := match i with
  | .getfield _ => false
  | .putfield _ => false
  | .getstatic _ => false
  | .invokestatic _ => false
  | .invokevirtual _ => false
  | .ldc _ => false
  | .ldc_w _ => false
  | .ldc2_w _ => false
  | _ => true
theorem am_wd_pln {l : Launch} {own : String} {d : Nat} {cs : List am_T} {i : Instr} {x : am_X} (h : am_pln i = true) : am_wd l own d cs i x := by
  cases i <;> first | exact trivial | exact absurd (show false = true from h) Bool.false_ne_true
theorem am_words {l : Launch} {own : String} {d : Nat} {cs : List am_T} {bl : List (Nat × List am_I)} (wl : List (Instr × am_X)) (hb : (bl.all fun q => q.2.all fun z => am_pln z.1 || wl.any (fun w => decide (w.1 = z.1 ∧ w.2 = z.2.2))) = true) (hw : ∀ z ∈ wl, am_wd l own d cs z.1 z.2) : ∀ q ∈ bl, ∀ z ∈ q.2, am_wd l own d cs z.1 z.2.2 := by
  intro q hq z hz
  have h1 := List.all_eq_true.mp (List.all_eq_true.mp hb q hq) z hz
  rcases Bool.or_eq_true_iff.mp h1 with h | h
  · exact am_wd_pln h
  · obtain ⟨w, h2, h3⟩ := List.any_eq_true.mp h
    have h4 := of_decide_eq_true h3
    rw [← h4.1, ← h4.2]
    exact hw w h2
theorem am_w0 {l : Launch} {own : String} {d : Nat} {cs : List am_T} : ∀ z ∈ ([] : List (Instr × am_X)), am_wd l own d cs z.1 z.2 := fun z h => by cases h
theorem am_w1 {l : Launch} {own : String} {d : Nat} {cs : List am_T} {i : Instr} {x : am_X} {r : List (Instr × am_X)} (h : am_wd l own d cs i x) (hr : ∀ z ∈ r, am_wd l own d cs z.1 z.2) : ∀ z ∈ (i, x) :: r, am_wd l own d cs z.1 z.2 := List.forall_mem_cons.mpr ⟨h, hr⟩
theorem am_wl2 {l : Launch} {own : String} {d : Nat} {cs : List am_T} {i : Nat} {x : am_X} (v : Int64) (h : am_l x.2.2.2.2 = v) (q : Cond.constantLong own i v ∈ lw_all) : am_wd l own d cs (.ldc2_w i) x := by
  show Cond.constantLong own i (am_l x.2.2.2.2) ∈ lw_all
  rw [h]
  exact q
theorem am_wli {l : Launch} {own : String} {d : Nat} {cs : List am_T} {i : Nat} {x : am_X} (v : Int32) (h : am_i x.2.2.2.2 = v) (q : Cond.constant own i v ∈ lw_all) : am_wd l own d cs (.ldc i) x := by
  intro _
  rw [h]
  exact q
theorem am_wlw {l : Launch} {own : String} {d : Nat} {cs : List am_T} {i : Nat} {x : am_X} (v : Int32) (h : am_i x.2.2.2.2 = v) (q : Cond.constant own i v ∈ lw_all) : am_wd l own d cs (.ldc_w i) x := by
  intro _
  rw [h]
  exact q
