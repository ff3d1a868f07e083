/-! THE SMALL MACHINE 'am': the bytecode over a store of numbers. A place is (tag, index): a tag for each class and each array field. The store holds the ints (int, byte, boolean) and the longs by place and field or element; references that are fields are fixed. -/
abbrev am_P : Type := Nat × Nat
abbrev am_V : Type := Int32 ⊕ (Int64 ⊕ am_P)
abbrev am_S : Type := (Nat → Nat → Nat → Int32) × (Nat → Nat → Nat → Int64)
abbrev am_L : Type := List (Option am_V)
abbrev am_O : Type := Option am_V ⊕ am_P
abbrev am_X : Type := Nat × Nat × Nat × Nat × Int
abbrev am_I : Type := Instr × Nat × am_X
abbrev am_T : Type := List am_V → am_S → (am_O → am_S → Prop) → Prop
def am_ri (σ : am_S) (t i : Nat) (f : Nat → Int32) : am_S := (fun t' i' => if t' = t ∧ i' = i then f else σ.1 t' i', σ.2)
def am_rl (σ : am_S) (t i : Nat) (f : Nat → Int64) : am_S := (σ.1, fun t' i' => if t' = t ∧ i' = i then f else σ.2 t' i')
def am_i : Int → Int32
  | .ofNat n => nI n
  | .negSucc n => -nI (n + 1)
def am_l : Int → Int64
  | .ofNat n => lN n
  | .negSucc n => -lN (n + 1)
/-- how long the array of a tag is -/
def am_al : Nat → Nat
  | 10 => 72 | 11 => 12 | 12 => 12 | 13 => 12 | 14 => 12 | 15 => 8 | 16 => 1000 | 17 => 8 | 18 => 216000 | 19 => 3000 | 20 => 3000 | 21 => 1500 | 22 => 1500 | 23 => 1501 | 24 => 4096 | 25 => 1500 | 26 => 180000 | 27 => 180000 | 28 => 1500
  | 30 => 12 | 31 => 12 | 32 => 864 | 33 => 12 | 34 => 12 | 35 => 12 | 36 => 9 | 37 => 108 | 38 => 108 | 39 => 108 | 40 => 1000 | 41 => 216000 | 42 => 1500 | 43 => 1500 | 44 => 4096 | 45 => 1500 | 46 => 6 | 47 => 1500 | 48 => 4 | 49 => 4 | 50 => 4 | 51 => 240 | 52 => 240 | 53 => 240
  | 8 => 6 | _ => 0
/-- of what kind: 1 int, 2 byte, 3 boolean, 4 long, 5 Table, 6 Way; 7: the reference's constant LISTED -/
def am_ak : Nat → Nat
  | 10 => 4 | 11 => 1 | 12 => 1 | 13 => 1 | 14 => 1 | 15 => 5 | 16 => 2 | 17 => 6 | 18 => 4 | 19 => 1 | 20 => 1 | 21 => 1 | 22 => 1 | 23 => 1 | 24 => 1 | 25 => 3 | 26 => 1 | 27 => 1 | 28 => 4
  | 30 => 1 | 31 => 1 | 32 => 4 | 33 => 1 | 34 => 1 | 35 => 1 | 36 => 1 | 37 => 1 | 38 => 1 | 39 => 1 | 40 => 2 | 41 => 4 | 42 => 1 | 43 => 1 | 44 => 1 | 45 => 1 | 46 => 1 | 47 => 3 | 48 => 1 | 49 => 1 | 50 => 1 | 51 => 1 | 52 => 1 | 53 => 1
  | 8 => 7 | _ => 0
/-- how many places a tag has -/
def am_np : Nat → Nat
  | 0 => 1 | 1 => 14 | 2 => 9 | 3 => 1 | 4 => 1 | 5 => 1 | 10 => 14 | 11 => 14 | 12 => 9 | 13 => 9 | 14 => 9 | 15 => 1 | 16 => 1 | 17 => 1 | 18 => 1 | 19 => 1 | 20 => 1 | 21 => 1 | 22 => 1 | 23 => 1 | 24 => 1 | 25 => 1 | 26 => 1 | 27 => 1 | 28 => 1
  | 30 => 1 | 31 => 1 | 32 => 1 | 33 => 1 | 34 => 1 | 35 => 1 | 36 => 1 | 37 => 1 | 38 => 1 | 39 => 1 | 40 => 1 | 41 => 1 | 42 => 1 | 43 => 1 | 44 => 1 | 45 => 1 | 46 => 1 | 47 => 1 | 48 => 1 | 49 => 1 | 50 => 1 | 51 => 1 | 52 => 1 | 53 => 1
  | _ => 0
/-- the fields of the steps' kinds: 0 first, 1 second -/
def am_kf (k b : Nat) : Int32 := nI (match b with
  | 0 => ([0, 0, 1, 1, 1, 1, 1, 0, 1, 0, 1, 1, 1, 0, 1].getD k 0)
  | _ => ([0, 0, 0, 4, 0, 4, 0, 0, 0, 0, 0, 1, 0, 0, 0].getD k 0))
/-- LISTED -/
def am_ls (j : Nat) : Int64 := lN ([0, 97, 98, 6368610, 49, 50].getD j 0)
/-- the String constants: the class and the entry that load each, its text -/
def am_str : List (String × Nat × String) := [("TableWays", 216, "-:/."), ("TableWays", 319, "repeat"), ("TableWays", 288, "turn"), ("TableWays", 294, "drop"), ("TableWays", 296, "split"), ("TableWays", 298, "fill"), ("TableWays", 300, "join"), ("TableWays", 302, "fold"), ("TableWays", 304, "unfold"), ("TableWays", 306, "sort"), ("TableWays", 307, "single"), ("TableWays", 309, "count"), ("TableWays", 311, "sum"), ("TableWays", 313, "keep"), ("TableWays", 315, "head"), ("TableWays", 317, "swap"), ("TableWays$Kind$3", 22, "-:/."), ("TableWays$Kind$5", 34, "-:/."), ("TableWays", 460, ",a,b,a-b,1,2"), ("TableWaysModel", 264, " turn drop split fill join fold unfold sort single count sum keep head swap repeat ")]
def am_sx (n : Nat) : String × Nat × String := am_str.getD n ("", 0, "")
def am_sb (n : Nat) : List Nat := (am_sx n).2.2.toList.map (fun c => c.toNat)
def am_kill (ls : am_L) : Nat → am_L
  | 0 => ls
  | j + 1 => match ls[j]? with
    | some (some (.inr (.inl _))) => ls.set j none
    | _ => ls
def am_put1 (ls : am_L) (i : Nat) (v : am_V) : am_L := am_kill (ls.set i (some v)) i
def am_put2 (ls : am_L) (i : Nat) (v : am_V) : am_L := am_kill ((ls.set i (some v)).set (i + 1) none) i
def am_gi (ls : am_L) (i : Nat) (k : Int32 → Prop) : Prop := match ls[i]? with
  | some (some (.inl v)) => k v
  | _ => False
def am_gl (ls : am_L) (i : Nat) (k : Int64 → Prop) : Prop := match ls[i]? with
  | some (some (.inr (.inl v))) => k v
  | _ => False
def am_gr (ls : am_L) (i : Nat) (k : am_P → Prop) : Prop := match ls[i]? with
  | some (some (.inr (.inr v))) => k v
  | _ => False
def am_1i (st : List am_V) (k : Int32 → List am_V → Prop) : Prop := match st with
  | .inl x :: r => k x r
  | _ => False
def am_1l (st : List am_V) (k : Int64 → List am_V → Prop) : Prop := match st with
  | .inr (.inl x) :: r => k x r
  | _ => False
def am_1r (st : List am_V) (k : am_P → List am_V → Prop) : Prop := match st with
  | .inr (.inr x) :: r => k x r
  | _ => False
/-- the two uppermost ints, the lower one first -/
def am_2i (st : List am_V) (k : Int32 → Int32 → List am_V → Prop) : Prop := match st with
  | .inl y :: .inl x :: r => k x y r
  | _ => False
def am_2l (st : List am_V) (k : Int64 → Int64 → List am_V → Prop) : Prop := match st with
  | .inr (.inl y) :: .inr (.inl x) :: r => k x y r
  | _ => False
def am_li (st : List am_V) (k : Int64 → Int32 → List am_V → Prop) : Prop := match st with
  | .inl y :: .inr (.inl x) :: r => k x y r
  | _ => False
def am_br (c : Jvm.ClassFile.Cond) (v w : Int32) (J N : Prop) : Prop := match c with
  | .eq => (v = w → J) ∧ (¬ v = w → N)
  | .ne => (¬ v = w → J) ∧ (v = w → N)
  | .lt => (v < w → J) ∧ (w ≤ v → N)
  | .ge => (w ≤ v → J) ∧ (v < w → N)
  | .gt => (w < v → J) ∧ (v ≤ w → N)
  | .le => (v ≤ w → J) ∧ (w < v → N)
def am_irem (x y : Int32) : Int32 := x - x / y * y
def am_lrem (x y : Int64) : Int64 := x - x / y * y
def am_lshl (x : Int64) (y : Int32) : Int64 := x <<< (y.toInt64 &&& 63)
def am_lshr (x : Int64) (y : Int32) : Int64 := x >>> (y.toInt64 &&& 63)
def am_lushr (x : Int64) (y : Int32) : Int64 := (x.toUInt64 >>> (y.toInt64.toUInt64 &&& Int64.toUInt64 63)).toInt64
def am_ishr (x y : Int32) : Int32 := x >>> (y &&& 31)
def am_i2c (v : Int32) : Int32 := (v.toUInt32 % 65536).toInt32
def am_bit (c : Nat) (v : Int32) : Prop := match c with
  | 1 => v = nI 0 ∨ v = nI 1
  | 2 => v = nI 0
  | 3 => ∃ j : Nat, j < 65536 ∧ v = nI j
  | _ => True
/-- a handler (from, to, 1000 * tag + its place): it takes the one exception of its tag -/
def am_thr (hs : List (Nat × Nat × Nat)) (Post : am_O → am_S → Prop) (jump : Nat → am_S → am_L → List am_V → Prop) (pc : Nat) (q : am_P) (σ : am_S) (ls : am_L) : Prop := match hs.find? (fun h => decide (h.1 ≤ pc) && decide (pc < h.2.1)) with
  | some h => q = (h.2.2 / 1000, 0) ∧ jump (h.2.2 % 1000) σ ls [.inr (.inr q)]
  | none => Post (.inr q) σ
def am_tg (pc : Nat) (off : Int) : Nat := ((pc : Int) + off).toNat
def am_F : am_T := fun _ _ _ => False
/-- System.arraycopy of ints or longs -/
def am_cp (σ : am_S) (st : List am_V) (k : am_S → List am_V → Prop) : Prop := match st with
  | .inl n :: .inl dp :: .inr (.inr b) :: .inl sp :: .inr (.inr a) :: r => (¬ sp < 0 ∧ ¬ dp < 0 ∧ ¬ n < 0 ∧ sp.toNatClampNeg + n.toNatClampNeg ≤ am_al a.1 ∧ dp.toNatClampNeg + n.toNatClampNeg ≤ am_al b.1) ∧
      ((am_ak a.1 = 1 ∧ am_ak b.1 = 1 ∧ k (am_ri σ b.1 b.2 (va_cpy (σ.1 a.1 a.2) (σ.1 b.1 b.2) sp.toNatClampNeg dp.toNatClampNeg n.toNatClampNeg)) r) ∨
       (am_ak a.1 = 4 ∧ am_ak b.1 = 4 ∧ k (am_rl σ b.1 b.2 (va_cpy (σ.2 a.1 a.2) (σ.2 b.1 b.2) sp.toNatClampNeg dp.toNatClampNeg n.toNatClampNeg)) r))
  | _ => False
/-- the locals at a method's entry -/
def am_args : List am_V → am_L
  | [] => []
  | .inr (.inl v) :: r => some (.inr (.inl v)) :: none :: am_args r
  | v :: r => some v :: am_args r
/-- the receiver's tag -/
def am_rt (t : Nat) (a : List am_V) : Prop := match a with
  | .inr (.inr q) :: _ => q.1 = t
  | _ => False
def am_cat : List am_V → Nat
  | [] => 0
  | .inr (.inl _) :: r => am_cat r + 2
  | _ :: r => am_cat r + 1
def am_step (cs : List am_T) (hs : List (Nat × Nat × Nat)) (Post : am_O → am_S → Prop) (next : am_S → am_L → List am_V → Prop) (jump : Nat → am_S → am_L → List am_V → Prop) (pc : Nat) (i : Instr) (x : am_X) (σ : am_S) (ls : am_L) (st : List am_V) : Prop :=
  match i with
  | .iconst _ => next σ ls (.inl (am_i x.2.2.2.2) :: st)
  | .bipush _ => next σ ls (.inl (am_i x.2.2.2.2) :: st)
  | .sipush _ => next σ ls (.inl (am_i x.2.2.2.2) :: st)
  | .lconst _ => next σ ls (.inr (.inl (am_l x.2.2.2.2)) :: st)
  | .ldc2_w _ => next σ ls (.inr (.inl (am_l x.2.2.2.2)) :: st)
  | .ldc _ => match x.1 with
    | 0 => next σ ls (.inl (am_i x.2.2.2.2) :: st)
    | _ => next σ ls (.inr (.inr (7, x.2.1)) :: st)
  | .ldc_w _ => match x.1 with
    | 0 => next σ ls (.inl (am_i x.2.2.2.2) :: st)
    | _ => next σ ls (.inr (.inr (7, x.2.1)) :: st)
  | .iload _ => am_gi ls x.1 fun v => next σ ls (.inl v :: st)
  | .iload_n _ => am_gi ls x.1 fun v => next σ ls (.inl v :: st)
  | .lload _ => am_gl ls x.1 fun v => next σ ls (.inr (.inl v) :: st)
  | .lload_n _ => am_gl ls x.1 fun v => next σ ls (.inr (.inl v) :: st)
  | .aload _ => am_gr ls x.1 fun v => next σ ls (.inr (.inr v) :: st)
  | .aload_n _ => am_gr ls x.1 fun v => next σ ls (.inr (.inr v) :: st)
  | .istore _ => am_1i st fun v r => next σ (am_put1 ls x.1 (.inl v)) r
  | .istore_n _ => am_1i st fun v r => next σ (am_put1 ls x.1 (.inl v)) r
  | .lstore _ => am_1l st fun v r => next σ (am_put2 ls x.1 (.inr (.inl v))) r
  | .lstore_n _ => am_1l st fun v r => next σ (am_put2 ls x.1 (.inr (.inl v))) r
  | .astore _ => am_1r st fun v r => next σ (am_put1 ls x.1 (.inr (.inr v))) r
  | .astore_n _ => am_1r st fun v r => next σ (am_put1 ls x.1 (.inr (.inr v))) r
  | .iinc _ _ => am_gi ls x.1 fun v => next σ (am_put1 ls x.1 (.inl (v + am_i x.2.2.2.2))) st
  | .iadd => am_2i st fun v w r => next σ ls (.inl (v + w) :: r)
  | .isub => am_2i st fun v w r => next σ ls (.inl (v - w) :: r)
  | .imul => am_2i st fun v w r => next σ ls (.inl (v * w) :: r)
  | .idiv => am_2i st fun v w r => ¬ w = 0 ∧ next σ ls (.inl (v / w) :: r)
  | .irem => am_2i st fun v w r => ¬ w = 0 ∧ next σ ls (.inl (am_irem v w) :: r)
  | .iand => am_2i st fun v w r => next σ ls (.inl (v &&& w) :: r)
  | .ishr => am_2i st fun v w r => next σ ls (.inl (am_ishr v w) :: r)
  | .i2l => am_1i st fun v r => next σ ls (.inr (.inl v.toInt64) :: r)
  | .i2b => am_1i st fun v r => next σ ls (.inl v.toInt8.toInt32 :: r)
  | .i2c => am_1i st fun v r => next σ ls (.inl (am_i2c v) :: r)
  | .l2i => am_1l st fun v r => next σ ls (.inl v.toInt32 :: r)
  | .ladd => am_2l st fun v w r => next σ ls (.inr (.inl (v + w)) :: r)
  | .lsub => am_2l st fun v w r => next σ ls (.inr (.inl (v - w)) :: r)
  | .lmul => am_2l st fun v w r => next σ ls (.inr (.inl (v * w)) :: r)
  | .lrem => am_2l st fun v w r => ¬ w = 0 ∧ next σ ls (.inr (.inl (am_lrem v w)) :: r)
  | .land => am_2l st fun v w r => next σ ls (.inr (.inl (v &&& w)) :: r)
  | .lor => am_2l st fun v w r => next σ ls (.inr (.inl (v ||| w)) :: r)
  | .lxor => am_2l st fun v w r => next σ ls (.inr (.inl (v ^^^ w)) :: r)
  | .lshl => am_li st fun v w r => next σ ls (.inr (.inl (am_lshl v w)) :: r)
  | .lshr => am_li st fun v w r => next σ ls (.inr (.inl (am_lshr v w)) :: r)
  | .lushr => am_li st fun v w r => next σ ls (.inr (.inl (am_lushr v w)) :: r)
  | .lcmp => am_2l st fun v w r => next σ ls (.inl (lg_cmp v w) :: r)
  | .dup => match st with
    | .inl v :: r => next σ ls (.inl v :: .inl v :: r)
    | .inr (.inr v) :: r => next σ ls (.inr (.inr v) :: .inr (.inr v) :: r)
    | _ => False
  | .dup2 => match st with
    | .inl v :: .inl w :: r => next σ ls (.inl v :: .inl w :: .inl v :: .inl w :: r)
    | .inl v :: .inr (.inr w) :: r => next σ ls (.inl v :: .inr (.inr w) :: .inl v :: .inr (.inr w) :: r)
    | _ => False
  | .pop => match st with
    | .inl _ :: r => next σ ls r
    | _ => False
  | .ifCond c _ => am_1i st fun v r => am_br c v 0 (jump x.1 σ ls r) (next σ ls r)
  | .if_icmp c _ => am_2i st fun v w r => am_br c v w (jump x.1 σ ls r) (next σ ls r)
  | .goto _ => jump x.1 σ ls st
  | .tableswitch d lo hi offs => am_1i st fun v r => ((v.toInt < lo ∨ hi < v.toInt) → jump (am_tg pc d) σ ls r) ∧ ∀ (j : Nat) (off : Int), offs[j]? = some off → v.toInt = lo + (j : Int) → v.toInt ≤ hi → jump (am_tg pc off) σ ls r
  | .getfield _ => am_1r st fun q r => q.1 = x.1 ∧ next σ ls ((match x.2.2.1 with
      | 0 => .inl (σ.1 x.1 q.2 x.2.1)
      | 6 => .inl (am_kf q.2 x.2.1)
      | 77 => .inl (nI 0)
      | _ => .inr (.inr (x.2.2.1, x.2.2.2.1 + q.2))) :: r)
  | .putfield _ => match st with
    | .inl v :: .inr (.inr q) :: r => q.1 = x.1 ∧ am_bit x.2.2.1 v ∧ next (am_ri σ x.1 q.2 (upd (σ.1 x.1 q.2) x.2.1 v)) ls r
    | _ => False
  | .getstatic _ => match x.2.2.1 with
    | 0 => next σ ls (.inr (.inr (x.1, x.2.1)) :: st)
    | _ => next σ ls (.inl (nI 1) :: st)
  | .iaload => am_1i st fun j r => am_1r r fun q r => am_ak q.1 = 1 ∧ vp_in j (am_al q.1) ∧ next σ ls (.inl (σ.1 q.1 q.2 j.toNatClampNeg) :: r)
  | .baload => am_1i st fun j r => am_1r r fun q r => ((am_ak q.1 = 2 ∨ am_ak q.1 = 3) ∧ vp_in j (am_al q.1) ∧ next σ ls (.inl (σ.1 q.1 q.2 j.toNatClampNeg) :: r)) ∨ (q.1 = 9 ∧ vp_in j (am_sb q.2).length ∧ next σ ls (.inl (nI ((am_sb q.2).getD j.toNatClampNeg 0)) :: r))
  | .laload => am_1i st fun j r => am_1r r fun q r => vp_in j (am_al q.1) ∧ ((am_ak q.1 = 4 ∧ next σ ls (.inr (.inl (σ.2 q.1 q.2 j.toNatClampNeg)) :: r)) ∨ (am_ak q.1 = 7 ∧ next σ ls (.inr (.inl (am_ls j.toNatClampNeg)) :: r)))
  | .aaload => am_1i st fun j r => am_1r r fun q r => (am_ak q.1 = 5 ∨ am_ak q.1 = 6) ∧ vp_in j (am_al q.1) ∧ next σ ls (.inr (.inr (am_ak q.1 - 4, j.toNatClampNeg)) :: r)
  | .iastore => am_2i st fun j v r => am_1r r fun q r => am_ak q.1 = 1 ∧ vp_in j (am_al q.1) ∧ next (am_ri σ q.1 q.2 (upd (σ.1 q.1 q.2) j.toNatClampNeg v)) ls r
  | .bastore => am_2i st fun j v r => am_1r r fun q r => vp_in j (am_al q.1) ∧ ((am_ak q.1 = 2 ∧ next (am_ri σ q.1 q.2 (upd (σ.1 q.1 q.2) j.toNatClampNeg v.toInt8.toInt32)) ls r) ∨ (am_ak q.1 = 3 ∧ (v = nI 0 ∨ v = nI 1) ∧ next (am_ri σ q.1 q.2 (upd (σ.1 q.1 q.2) j.toNatClampNeg v)) ls r))
  | .lastore => am_1l st fun v r => am_1i r fun j r => am_1r r fun q r => am_ak q.1 = 4 ∧ vp_in j (am_al q.1) ∧ next (am_rl σ q.1 q.2 (vp_updL (σ.2 q.1 q.2) j.toNatClampNeg v)) ls r
  | .arraylength => am_1r st fun q r => (am_ak q.1 = 1 ∧ next σ ls (.inl (nI (am_al q.1)) :: r)) ∨ (q.1 = 9 ∧ next σ ls (.inl (nI (am_sb q.2).length) :: r))
  | .invokestatic _ => match x.2.2.1 with
    | 0 => x.2.1 ≤ st.length ∧ ((st.drop x.2.1).length ≤ 4 ∨ am_cat (st.drop x.2.1) ≤ 8) ∧ (am_args (st.take x.2.1).reverse).length ≤ x.2.2.2.1 ∧ cs.getD x.1 am_F (st.take x.2.1).reverse σ (fun o σ' => match o with
        | .inl none => next σ' ls (st.drop x.2.1)
        | .inl (some v) => next σ' ls (v :: st.drop x.2.1)
        | .inr q => am_thr hs Post jump pc q σ' ls)
    | _ => am_cp σ st fun σ' r => r.length ≤ 4 ∧ next σ' ls r
  | .invokevirtual _ => x.2.1 ≤ st.length ∧ ((st.drop x.2.1).length ≤ 4 ∨ am_cat (st.drop x.2.1) ≤ 8) ∧ (am_args (st.take x.2.1).reverse).length ≤ x.2.2.2.1 ∧ am_rt x.2.2.1 (st.take x.2.1).reverse ∧ cs.getD x.1 am_F (st.take x.2.1).reverse σ (fun o σ' => match o with
        | .inl none => next σ' ls (st.drop x.2.1)
        | .inl (some v) => next σ' ls (v :: st.drop x.2.1)
        | .inr q => am_thr hs Post jump pc q σ' ls)
  | .athrow => am_1r st fun q _ => am_thr hs Post jump pc q σ ls
  | .return_ => match st with
    | [] => Post (.inl none) σ
    | _ => False
  | .ireturn => match st with
    | [.inl v] => am_bit x.2.2.1 v ∧ Post (.inl (some (.inl v))) σ
    | _ => False
  | .lreturn => match st with
    | [.inr (.inl v)] => Post (.inl (some (.inr (.inl v)))) σ
    | _ => False
  | .areturn => match st with
    | [.inr (.inr v)] => Post (.inl (some (.inr (.inr v)))) σ
    | _ => False
  | _ => False
def am_run (cs : List am_T) (hs : List (Nat × Nat × Nat)) (Post : am_O → am_S → Prop) (K : Nat → am_S → am_L → List am_V → Prop) : List am_I → Nat → am_S → am_L → List am_V → Prop
  | [], pc, σ, ls, st => K pc σ ls st
  | (i, n, x) :: r, pc, σ, ls, st => am_step cs hs Post (fun σ ls st => am_run cs hs Post K r (pc + n) σ ls st) K pc i x σ ls st
/-- K is closed under the method's blocks -/
def am_Cl (cs : List am_T) (hs : List (Nat × Nat × Nat)) (Post : am_O → am_S → Prop) (bl : List (Nat × List am_I)) (K : Nat → am_S → am_L → List am_V → Prop) : Prop := ∀ q ∈ bl, ∀ σ ls st, am_run cs hs Post K q.2 q.1 σ ls st → K q.1 σ ls st
def am_ent (nL : Nat) (a : List am_V) : am_L := am_args a ++ List.replicate (nL - (am_args a).length) none
/-- the method's blocks meet the contract sp, over the callees' contracts cs -/
def am_Ok (cs : List am_T) (hs : List (Nat × Nat × Nat)) (bl : List (Nat × List am_I)) (nL : Nat) (sp : am_T) : Prop := ∀ a σ k, sp a σ k → ∀ K, am_Cl cs hs k bl K → K 0 σ (am_ent nL a) []
theorem am_Cl.at {cs : List am_T} {hs : List (Nat × Nat × Nat)} {Post : am_O → am_S → Prop} {bl : List (Nat × List am_I)} {K : Nat → am_S → am_L → List am_V → Prop} (h : am_Cl cs hs Post bl K) (n : Nat) {pc : Nat} {b : List am_I} (hb : bl[n]? = some (pc, b)) {σ : am_S} {ls : am_L} {st : List am_V} (hr : am_run cs hs Post K b pc σ ls st) : K pc σ ls st := h (pc, b) (List.mem_of_getElem? hb) σ ls st hr
