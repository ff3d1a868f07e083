/-! READING A TABLE as a plain thing -/
abbrev rd_ch (x : Nat) : Prop := (97 ≤ x ∧ x ≤ 122) ∨ (48 ≤ x ∧ x ≤ 57) ∨ (x = 45 ∨ x = 58 ∨ x = 47 ∨ x = 46)
/-- a cell of n bytes with one byte more, or the fault -/
def rd_l (v : Int64) (n x : Nat) : Int64 ⊕ Nat := if x = 63 ∧ n = 0 then .inl (-1) else if v = -1 ∨ ¬ rd_ch x then .inr 1 else if n = 7 then .inr 2 else .inl (lN (tb_n v * 256 + x))
def rd_v (v : Int64) (n : Nat) : Prop := (v = -1 ∧ n = 1) ∨ (tb_tc v ∧ n = mx_nb (tb_n v))
theorem rd_m1 {m : Nat} (h : m < 2 ^ 56) : lN m ≠ -1 := by
  intro e
  have e1 := pk_lT (show m < 2 ^ 63 by omega)
  rw [e] at e1
  have h2 : (-1 : Int64).toInt = -1 := by decide +kernel
  omega
theorem rd_v.l {v : Int64} {n x : Nat} (h : rd_v v n) (hx : x < 256) {w : Int64} (e : rd_l v n x = .inl w) : rd_v w (n + 1) := by
  unfold rd_l at e
  by_cases h1 : x = 63 ∧ n = 0
  · rw [if_pos h1] at e
    cases e
    exact Or.inl ⟨rfl, by omega⟩
  · rw [if_neg h1] at e
    by_cases h2 : v = -1 ∨ ¬ rd_ch x
    · rw [if_pos h2] at e; cases e
    · rw [if_neg h2] at e
      by_cases h3 : n = 7
      · rw [if_pos h3] at e; cases e
      · rw [if_neg h3] at e
        cases e
        rcases h with ⟨h4, -⟩ | ⟨h4, h5⟩
        · exact absurd (Or.inl h4) h2
        · obtain ⟨e1, e2, e3⟩ := h4.n
          have h7 := mx_nb_7 e2
          have hl : tb_n v < 256 ^ 6 := Nat.lt_of_lt_of_le (mx_nb_lt (by omega)) (Nat.pow_le_pow_right (by decide) (by omega))
          have hx0 : x ≠ 0 := fun e0 => h2 (Or.inr (by rw [e0]; decide))
          refine Or.inr ⟨⟨_, rfl, by omega, tb_nz_c (by omega) e3 hx hx0⟩, ?_⟩
          rw [tb_n_l (by omega), mx_nb_c hx (by omega) (by omega)]
          omega
theorem rd_v.cl {v : Int64} {n : Nat} (h : rd_v v n) : tb_cl v := h.elim (fun e => Or.inl e.1) (fun e => Or.inr e.1)
abbrev rd_S : Type := Nat × Nat × Nat × Nat × Int64 × tb_F
def rd_S.r (s : rd_S) : Nat := s.1
def rd_S.c (s : rd_S) : Nat := s.2.1
def rd_S.w (s : rd_S) : Nat := s.2.2.1
def rd_S.n (s : rd_S) : Nat := s.2.2.2.1
def rd_S.v (s : rd_S) : Int64 := s.2.2.2.2.1
def rd_S.f (s : rd_S) : tb_F := s.2.2.2.2.2
def rd1 (x k : Nat) (s : rd_S) : rd_S ⊕ (Nat × Nat) :=
  if x = 44 then (if 0 < s.r ∧ s.c + 1 = s.w then .inr (3, k) else if s.c + 1 = 6 then .inr (4, k) else .inl ⟨s.r, s.c + 1, s.w, 0, 0, s.f⟩)
  else if x = 59 then (if 0 < s.r ∧ s.c + 1 < s.w then .inr (3, k) else if s.r + 1 = 12 then .inr (4, k) else .inl ⟨s.r + 1, 0, if s.r = 0 then s.c + 1 else s.w, 0, 0, s.f⟩)
  else match rd_l s.v s.n x with
    | .inl v => .inl ⟨s.r, s.c, s.w, s.n + 1, v, tb_u s.f s.r s.c v⟩
    | .inr e => .inr (e, k)
def rdk (b : Nat → Nat) : Nat → rd_S ⊕ (Nat × Nat)
  | 0 => .inl ⟨0, 0, 0, 0, 0, fun _ _ => 0⟩
  | k + 1 => match rdk b k with
    | .inl s => rd1 (b k) k s
    | .inr e => .inr e
def rdT (b : Nat → Nat) (n : Nat) : tb_T ⊕ (Nat × Nat) := match rdk b n with
  | .inr e => .inr e
  | .inl s => if 0 < s.r ∧ s.c + 1 < s.w then .inr (3, n) else .inl (s.r + 1, if s.r = 0 then s.c + 1 else s.w, s.f)
theorem rdk_s {b : Nat → Nat} {k : Nat} {s : rd_S} (h : rdk b k = .inl s) : rdk b (k + 1) = rd1 (b k) k s := by
  show (match rdk b k with | .inl s => rd1 (b k) k s | .inr e => .inr e) = _
  rw [h]
theorem rdk_e {b : Nat → Nat} {k : Nat} {e : Nat × Nat} (h : rdk b k = .inr e) : ∀ n, k ≤ n → rdk b n = .inr e := by
  intro n
  induction n with
  | zero => intro hn; rw [show 0 = k by omega]; exact h
  | succ n ih =>
    intro hn
    by_cases e1 : k = n + 1
    · rw [← e1]; exact h
    · show (match rdk b n with | .inl s => rd1 (b n) n s | .inr e => .inr e) = _
      rw [ih (by omega)]
theorem rdT_e {b : Nat → Nat} {k n : Nat} {e : Nat × Nat} (h : rdk b k = .inr e) (hn : k ≤ n) : rdT b n = .inr e := by
  unfold rdT
  rw [rdk_e h n hn]
/-- how many commas -/
def cm (b : Nat → Nat) : Nat → Nat
  | 0 => 0
  | k + 1 => cm b k + if b k = 44 then 1 else 0
theorem cm_le {b : Nat → Nat} {i j : Nat} (h : i ≤ j) : cm b i ≤ cm b j := by
  induction j with
  | zero => rw [show i = 0 by omega]; exact Nat.le_refl _
  | succ j ih =>
    by_cases e : i = j + 1
    · rw [e]; exact Nat.le_refl _
    · exact Nat.le_trans (ih (by omega)) (Nat.le_add_right _ _)
def rd_ok (b : Nat → Nat) (k : Nat) (s : rd_S) : Prop := s.r < 12 ∧ s.c < 6 ∧ (s.r = 0 → s.c = cm b k ∧ ∀ i, i < k → b i ≠ 59) ∧ (0 < s.r → s.w ≤ 6 ∧ s.c < s.w) ∧ rd_v s.v s.n ∧ s.f s.r s.c = s.v ∧ (∀ r c, tb_cl (s.f r c)) ∧ (∀ r c, (s.r < r ∨ (s.r = r ∧ s.c < c)) → s.f r c = 0) ∧ (0 < s.r → ∀ r c, s.w ≤ c → s.f r c = 0) ∧ s.w ≤ 6
theorem rd_v0 : rd_v 0 0 := Or.inr ⟨tb_tc_0, rfl⟩
theorem rd_ok0 (b : Nat → Nat) : rd_ok b 0 ⟨0, 0, 0, 0, 0, fun _ _ => 0⟩ := ⟨by decide, by decide, fun _ => ⟨rfl, fun i hi => by omega⟩, fun h => absurd h (by decide), rd_v0, rfl, fun _ _ => Or.inr tb_tc_0, fun _ _ _ => rfl, fun _ _ _ _ => rfl, (show 0 ≤ 6 by decide)⟩
theorem rd_ok1 {b : Nat → Nat} {k : Nat} {s s' : rd_S} (hb : b k < 256) (h : rd_ok b k s) (e : rd1 (b k) k s = .inl s') : rd_ok b (k + 1) s' := by
  obtain ⟨h1, h2, h3, h4, h5, h6, h7, h8, h9, h10⟩ := h
  unfold rd1 at e
  by_cases x1 : b k = 44
  · rw [if_pos x1] at e
    by_cases y1 : 0 < s.r ∧ s.c + 1 = s.w
    · rw [if_pos y1] at e; cases e
    · rw [if_neg y1] at e
      by_cases y2 : s.c + 1 = 6
      · rw [if_pos y2] at e; cases e
      · rw [if_neg y2] at e
        cases e
        refine ⟨h1, by show s.c + 1 < 6; omega, fun e0 => ⟨?_, fun i hi => ?_⟩, fun e0 => ⟨(h4 e0).1, ?_⟩, rd_v0, h8 _ _ (Or.inr ⟨rfl, Nat.lt_succ_self _⟩), h7, fun r c hc => h8 r c ?_, h9, h10⟩
        · show s.c + 1 = cm b k + if b k = 44 then 1 else 0
          rw [if_pos x1, (h3 e0).1]
        · by_cases ei : i = k
          · rw [ei, x1]; decide
          · exact (h3 e0).2 i (by omega)
        · show s.c + 1 < s.w
          have h0 : 0 < s.r := e0
          have := (h4 h0).2
          omega
        · have hc : s.r < r ∨ (s.r = r ∧ s.c + 1 < c) := hc
          omega
  · rw [if_neg x1] at e
    by_cases x2 : b k = 59
    · rw [if_pos x2] at e
      by_cases y1 : 0 < s.r ∧ s.c + 1 < s.w
      · rw [if_pos y1] at e; cases e
      · rw [if_neg y1] at e
        by_cases y2 : s.r + 1 = 12
        · rw [if_pos y2] at e; cases e
        · rw [if_neg y2] at e
          cases e
          refine ⟨by show s.r + 1 < 12; omega, (show 0 < 6 by decide), fun e0 => absurd e0 (Nat.succ_ne_zero _), fun _ => ?_, rd_v0, h8 _ _ (Or.inl (Nat.lt_succ_self _)), h7, fun r c hc => h8 r c ?_, fun _ r c hc => ?_, ?_⟩
          · show (if s.r = 0 then s.c + 1 else s.w) ≤ 6 ∧ 0 < (if s.r = 0 then s.c + 1 else s.w)
            by_cases e0 : s.r = 0
            · rw [if_pos e0]; omega
            · rw [if_neg e0]
              have := h4 (by omega)
              omega
          · have hc : s.r + 1 < r ∨ (s.r + 1 = r ∧ 0 < c) := hc
            omega
          · have hc : (if s.r = 0 then s.c + 1 else s.w) ≤ c := hc
            by_cases e0 : s.r = 0
            · rw [if_pos e0] at hc
              exact h8 r c (by omega)
            · rw [if_neg e0] at hc
              exact h9 (by omega) r c hc
          · show (if s.r = 0 then s.c + 1 else s.w) ≤ 6
            split <;> omega
    · rw [if_neg x2] at e
      cases hl : rd_l s.v s.n (b k) with
      | inr z => rw [hl] at e; cases e
      | inl v =>
        rw [hl] at e
        cases e
        have hv := h5.l hb hl
        refine ⟨h1, h2, fun e0 => ⟨?_, fun i hi => ?_⟩, h4, hv, tb_us, fun r c => ?_, fun r c hc => ?_, fun e0 r c hc => ?_, h10⟩
        · show s.c = cm b k + if b k = 44 then 1 else 0
          rw [if_neg x1, (h3 e0).1, Nat.add_zero]
        · by_cases ei : i = k
          · rw [ei]; exact x2
          · exact (h3 e0).2 i (by omega)
        · show tb_cl (tb_u s.f s.r s.c v r c)
          unfold tb_u
          split
          · exact hv.cl
          · exact h7 r c
        · have hc : s.r < r ∨ (s.r = r ∧ s.c < c) := hc
          show tb_u s.f s.r s.c v r c = 0
          rw [tb_un (by omega)]
          exact h8 r c hc
        · have h0 : 0 < s.r := e0
          have hc : s.w ≤ c := hc
          show tb_u s.f s.r s.c v r c = 0
          rw [tb_un (by have := (h4 h0).2; omega)]
          exact h9 h0 r c hc
theorem rdk_ok {b : Nat → Nat} (hb : ∀ k, b k < 256) : ∀ {k : Nat} {s : rd_S}, rdk b k = .inl s → rd_ok b k s := by
  intro k
  induction k with
  | zero => intro s e; cases e; exact rd_ok0 b
  | succ k ih =>
    intro s e
    cases h : rdk b k with
    | inr z =>
      have : rdk b (k + 1) = .inr z := rdk_e h _ (by omega)
      rw [this] at e; cases e
    | inl s0 =>
      rw [rdk_s h] at e
      exact rd_ok1 (hb k) (ih h) e
theorem rdT_ok {b : Nat → Nat} (hb : ∀ k, b k < 256) {n : Nat} {T : tb_T} (e : rdT b n = .inl T) : tb_ok T.1 T.2.1 T.2.2 := by
  unfold rdT at e
  cases h : rdk b n with
  | inr z => rw [h] at e; cases e
  | inl s =>
    rw [h] at e
    obtain ⟨h1, h2, h3, h4, h5, h6, h7, h8, h9, h10⟩ := rdk_ok hb h
    have e : (if 0 < s.r ∧ s.c + 1 < s.w then Sum.inr (3, n) else Sum.inl (s.r + 1, if s.r = 0 then s.c + 1 else s.w, s.f)) = (Sum.inl T : tb_T ⊕ (Nat × Nat)) := e
    by_cases y : 0 < s.r ∧ s.c + 1 < s.w
    · rw [if_pos y] at e; cases e
    · rw [if_neg y] at e
      cases e
      refine ⟨⟨Nat.succ_le_succ (Nat.zero_le _), h1, ?_⟩, fun r c _ _ => h7 r c⟩
      show 1 ≤ (if s.r = 0 then s.c + 1 else s.w) ∧ (if s.r = 0 then s.c + 1 else s.w) ≤ 6
      by_cases e0 : s.r = 0
      · rw [if_pos e0]; omega
      · rw [if_neg e0]
        have := h4 (by omega)
        omega
/-- the component's columns, counted ahead -/
def rd_cc (b : Nat → Nat) (n CC : Nat) : Prop := ∃ j, j ≤ n ∧ CC = 1 + cm b j ∧ CC ≤ 6 ∧ (∀ i, i < j → b i ≠ 59) ∧ (j = n ∨ b j = 59 ∨ CC = 6)
theorem rd_cc.at {b : Nat → Nat} {n CC k : Nat} (h : rd_cc b n CC) (hk : k ≤ n) {c : Nat} (hc : c < 6) (h3 : c = cm b k ∧ ∀ i, i < k → b i ≠ 59) : c < CC ∧ (k < n → b k = 44 → (c + 1 = CC ↔ c + 1 = 6)) ∧ (k = n ∨ b k = 59 → c + 1 = CC) := by
  obtain ⟨j, j1, j2, j3, j4, j5⟩ := h
  obtain ⟨h1, h2⟩ := h3
  by_cases e : j < k
  · have e6 : CC = 6 := by
      rcases j5 with e1 | e1 | e1
      · omega
      · exact absurd e1 (h2 j e)
      · exact e1
    have := cm_le (b := b) (Nat.le_of_lt e)
    refine ⟨by omega, fun _ _ => by omega, fun _ => by omega⟩
  · by_cases e1 : j = k
    · subst e1
      refine ⟨by omega, fun hn hx => ?_, fun _ => by omega⟩
      rcases j5 with e2 | e2 | e2
      · omega
      · omega
      · omega
    · have h6 := cm_le (b := b) (show k + 1 ≤ j by omega)
      have h7 : cm b (k + 1) = cm b k + if b k = 44 then 1 else 0 := rfl
      refine ⟨by have := cm_le (b := b) (show k ≤ j by omega); omega, fun hn hx => ?_, fun hx => ?_⟩
      · rw [if_pos hx] at h7
        omega
      · rcases hx with e2 | e2
        · omega
        · exact absurd e2 (j4 k (by omega))
def bkX0_longer : List (Nat × List am_I) := [
  (0, [(.iload_n 3, 1, (3, 0, 0, 0, 0)), (.bipush 63, 2, (0, 0, 0, 0, 63)), (.if_icmp .ne 13, 3, (16, 0, 0, 0, 0)), (.lload_n 1, 1, (1, 0, 0, 0, 0)), (.lconst 0, 1, (0, 0, 0, 0, 0)), (.lcmp, 1, (0, 0, 0, 0, 0)), (.ifCond .ne 7, 3, (16, 0, 0, 0, 0)), (.ldc2_w 11, 3, (0, 0, 0, 0, -1)), (.lreturn, 1, (0, 0, 0, 0, 0))]),
  (16, [(.lload_n 1, 1, (1, 0, 0, 0, 0)), (.ldc2_w 11, 3, (0, 0, 0, 0, -1)), (.lcmp, 1, (0, 0, 0, 0, 0)), (.ifCond .eq 24, 3, (45, 0, 0, 0, 0)), (.iload_n 3, 1, (3, 0, 0, 0, 0)), (.invokestatic 250, 3, (0, 1, 0, 1, 0)), (.ifCond .ne 28, 3, (56, 0, 0, 0, 0)), (.iload_n 3, 1, (3, 0, 0, 0, 0)), (.invokestatic 254, 3, (1, 1, 0, 1, 0)), (.ifCond .ne 21, 3, (56, 0, 0, 0, 0)), (.iload_n 3, 1, (3, 0, 0, 0, 0)), (.invokestatic 257, 3, (2, 1, 0, 1, 0)), (.ifCond .ne 14, 3, (56, 0, 0, 0, 0))]),
  (45, [(.aload_n 0, 1, (0, 0, 0, 0, 0)), (.getfield 141, 3, (0, 5, 3, 0, 0)), (.iconst 1, 1, (0, 0, 0, 0, 1)), (.iload 4, 2, (4, 0, 0, 0, 0)), (.invokevirtual 242, 3, (3, 3, 3, 3, 0)), (.athrow, 1, (0, 0, 0, 0, 0))]),
  (56, [(.lload_n 1, 1, (1, 0, 0, 0, 0)), (.invokestatic 3, 3, (4, 1, 0, 5, 0)), (.bipush 7, 2, (0, 0, 0, 0, 7)), (.if_icmp .ne 14, 3, (76, 0, 0, 0, 0)), (.aload_n 0, 1, (0, 0, 0, 0, 0)), (.getfield 141, 3, (0, 5, 3, 0, 0)), (.iconst 2, 1, (0, 0, 0, 0, 2)), (.iload 4, 2, (4, 0, 0, 0, 0)), (.invokevirtual 242, 3, (3, 3, 3, 3, 0)), (.athrow, 1, (0, 0, 0, 0, 0))]),
  (76, [(.lload_n 1, 1, (1, 0, 0, 0, 0)), (.bipush 8, 2, (0, 0, 0, 0, 8)), (.lshl, 1, (0, 0, 0, 0, 0)), (.iload_n 3, 1, (3, 0, 0, 0, 0)), (.i2l, 1, (0, 0, 0, 0, 0)), (.lor, 1, (0, 0, 0, 0, 0)), (.lreturn, 1, (0, 0, 0, 0, 0))])]
-- callees: X0_isSmall, X0_isDigit, X0_isMark, X1_by, X0_bytesOf
abbrev spX0_longer : am_T := fun a σ k => ∃ (v : Int64) (n x : Nat) (p : Int32), a = [.inr (.inr (0, 0)), .inr (.inl v), .inl (nI x), .inl p] ∧ x < 256 ∧ rd_v v n ∧ (∀ w, rd_l v n x = .inl w → k (.inl (some (.inr (.inl w)))) σ) ∧ (∀ e, rd_l v n x = .inr e → k (.inr (3, 0)) (am_ri σ 3 0 (upd (upd (σ.1 3 0) 6 (nI e)) 7 p)))
theorem okX0_longer : am_Ok [spX0_isSmall, spX0_isDigit, spX0_isMark, spX1_by, spX0_bytesOf] [] bkX0_longer 5 spX0_longer := by
  intro a σ k h K hK
  obtain ⟨v, n, x, p, rfl, hx, hv, h1, h2⟩ := h
  have hv0 : v = 0 ↔ n = 0 := by
    rcases hv with ⟨e, e1⟩ | ⟨e, e1⟩
    · rw [e, e1]; decide
    · obtain ⟨a1, a2, a3⟩ := e.n
      rw [e1, mx_nb_z (by omega), a1, tb_n_l (by omega)]
      exact mx_l0 (by omega)
  have two : ¬ (x = 63 ∧ n = 0) → K 16 σ [some (.inr (.inr (0, 0))), some (.inr (.inl v)), none, some (.inl (nI x)), some (.inl p)] [] := fun h3 => by
    unfold rd_l at h1 h2
    rw [if_neg h3] at h1 h2
    have bad : v = -1 ∨ ¬ rd_ch x → K 45 σ [some (.inr (.inr (0, 0))), some (.inr (.inl v)), none, some (.inl (nI x)), some (.inl p)] [] := fun h4 => by
      rw [if_pos h4] at h2
      refine hK.at 2 rfl ?_
      simp only [am_r_nil, am_gv_i, am_gv_k, am_gv_c, am_gv_r, am_gi_0, am_gi_s1, am_gl_0, am_gl_s1, am_gr_0, am_gr_s1, am_r_iconst, am_r_bipush, am_r_sipush, am_r_lconst, am_r_ldc2, am_r_ldc_i, am_r_ldc_s, am_r_ldc_w_i, am_r_ldc_w_s, am_r_iload, am_r_iload_n, am_r_lload, am_r_lload_n, am_r_aload, am_r_aload_n, am_r_istore, am_r_istore_n, am_r_lstore, am_r_lstore_n, am_r_astore, am_r_astore_n, am_r_iinc, am_r_iadd, am_r_isub, am_r_imul, am_r_iand, am_r_ishr, am_r_idiv, am_r_irem, am_r_ladd, am_r_lsub, am_r_lmul, am_r_land, am_r_lor, am_r_lxor, am_r_lrem, am_r_lshl, am_r_lshr, am_r_lushr, am_r_lcmp, am_r_i2l, am_r_i2b, am_r_l2i, am_r_dupI, am_r_dupR, am_r_dup2I, am_r_dup2R, am_r_pop, am_r_if_eq, am_r_icmp_eq, am_r_if_ne, am_r_icmp_ne, am_r_if_lt, am_r_icmp_lt, am_r_if_ge, am_r_icmp_ge, am_r_if_gt, am_r_icmp_gt, am_r_if_le, am_r_icmp_le, am_r_goto, am_r_tsw, am_r_getfield, am_r_putfield, am_r_getstatic, am_r_getstatic1, am_r_i2c, am_r_iaload, am_r_baload, am_r_laload, am_r_aaload, am_r_iastore, am_r_bastore, am_r_lastore, am_r_arraylength, am_af_v, am_af_r, am_af_t, am_r_invokestatic, am_r_copy, am_r_invokevirtual, am_r_athrow, am_r_vret, am_r_iret, am_r_lret, am_r_aret, am_cp_c, am_bit_0, am_bit_1, am_bit_2, am_bit_3, am_rt_c, am_ent, am_args, am_put1, am_put2, am_kill, am_i_nn, am_i_m1, am_c2, am_c3, am_c10, am_l_nn, am_l_m1, am_ak, am_al, am_thr, List.set, List.getElem?_cons_zero, List.getElem?_cons_succ, List.length_cons, List.length_nil, List.replicate, List.cons_append, List.nil_append, List.take, List.drop, List.reverse_cons, List.reverse_nil, List.find?, am_ri_self, am_ri_t, am_ri_2, am_rl_self, am_rl_t, am_rl_1, am_ri_ri, am_rl_rl, pk_us, pk_un, Nat.reduceAdd, Nat.reduceSub, Nat.reduceMul, Nat.reduceLeDiff, Nat.reduceEqDiff, Nat.reduceBEq, Nat.reduceLT, ne_eq, not_false_eq_true, true_and, and_true, List.getD_cons_zero, List.getD_cons_succ, not_true_eq_false, false_or, or_false, true_or, or_true, am_b_bit, true_imp_iff, false_imp_iff, false_and, or_self, reduceCtorEq, decide_true, decide_false, Bool.and_true, Bool.and_false, Nat.add_zero, Nat.zero_add, Option.some.injEq, Nat.succ_ne_zero, Nat.zero_le, Nat.one_ne_zero, implies_true, Nat.le_refl]
      refine ⟨_, _, rfl, ?_⟩
      simp only [am_r_nil, am_gv_i, am_gv_k, am_gv_c, am_gv_r, am_gi_0, am_gi_s1, am_gl_0, am_gl_s1, am_gr_0, am_gr_s1, am_r_iconst, am_r_bipush, am_r_sipush, am_r_lconst, am_r_ldc2, am_r_ldc_i, am_r_ldc_s, am_r_ldc_w_i, am_r_ldc_w_s, am_r_iload, am_r_iload_n, am_r_lload, am_r_lload_n, am_r_aload, am_r_aload_n, am_r_istore, am_r_istore_n, am_r_lstore, am_r_lstore_n, am_r_astore, am_r_astore_n, am_r_iinc, am_r_iadd, am_r_isub, am_r_imul, am_r_iand, am_r_ishr, am_r_idiv, am_r_irem, am_r_ladd, am_r_lsub, am_r_lmul, am_r_land, am_r_lor, am_r_lxor, am_r_lrem, am_r_lshl, am_r_lshr, am_r_lushr, am_r_lcmp, am_r_i2l, am_r_i2b, am_r_l2i, am_r_dupI, am_r_dupR, am_r_dup2I, am_r_dup2R, am_r_pop, am_r_if_eq, am_r_icmp_eq, am_r_if_ne, am_r_icmp_ne, am_r_if_lt, am_r_icmp_lt, am_r_if_ge, am_r_icmp_ge, am_r_if_gt, am_r_icmp_gt, am_r_if_le, am_r_icmp_le, am_r_goto, am_r_tsw, am_r_getfield, am_r_putfield, am_r_getstatic, am_r_getstatic1, am_r_i2c, am_r_iaload, am_r_baload, am_r_laload, am_r_aaload, am_r_iastore, am_r_bastore, am_r_lastore, am_r_arraylength, am_af_v, am_af_r, am_af_t, am_r_invokestatic, am_r_copy, am_r_invokevirtual, am_r_athrow, am_r_vret, am_r_iret, am_r_lret, am_r_aret, am_cp_c, am_bit_0, am_bit_1, am_bit_2, am_bit_3, am_rt_c, am_ent, am_args, am_put1, am_put2, am_kill, am_i_nn, am_i_m1, am_c2, am_c3, am_c10, am_l_nn, am_l_m1, am_ak, am_al, am_thr, List.set, List.getElem?_cons_zero, List.getElem?_cons_succ, List.length_cons, List.length_nil, List.replicate, List.cons_append, List.nil_append, List.take, List.drop, List.reverse_cons, List.reverse_nil, List.find?, am_ri_self, am_ri_t, am_ri_2, am_rl_self, am_rl_t, am_rl_1, am_ri_ri, am_rl_rl, pk_us, pk_un, Nat.reduceAdd, Nat.reduceSub, Nat.reduceMul, Nat.reduceLeDiff, Nat.reduceEqDiff, Nat.reduceBEq, Nat.reduceLT, ne_eq, not_false_eq_true, true_and, and_true, List.getD_cons_zero, List.getD_cons_succ, not_true_eq_false, false_or, or_false, true_or, or_true, am_b_bit, true_imp_iff, false_imp_iff, false_and, or_self, reduceCtorEq, decide_true, decide_false, Bool.and_true, Bool.and_false, Nat.add_zero, Nat.zero_add, Option.some.injEq, Nat.succ_ne_zero, Nat.zero_le, Nat.one_ne_zero, implies_true, Nat.le_refl]
      exact h2 1 rfl
    have good : ¬ (v = -1 ∨ ¬ rd_ch x) → K 56 σ [some (.inr (.inr (0, 0))), some (.inr (.inl v)), none, some (.inl (nI x)), some (.inl p)] [] := fun h4 => by
      rw [if_neg h4] at h1 h2
      rcases hv with ⟨e, e1⟩ | ⟨e, e1⟩
      · exact absurd (Or.inl e) h4
      obtain ⟨a1, a2, a3⟩ := e.n
      have h7 := mx_nb_7 a2
      refine hK.at 3 rfl ?_
      simp only [am_r_nil, am_gv_i, am_gv_k, am_gv_c, am_gv_r, am_gi_0, am_gi_s1, am_gl_0, am_gl_s1, am_gr_0, am_gr_s1, am_r_iconst, am_r_bipush, am_r_sipush, am_r_lconst, am_r_ldc2, am_r_ldc_i, am_r_ldc_s, am_r_ldc_w_i, am_r_ldc_w_s, am_r_iload, am_r_iload_n, am_r_lload, am_r_lload_n, am_r_aload, am_r_aload_n, am_r_istore, am_r_istore_n, am_r_lstore, am_r_lstore_n, am_r_astore, am_r_astore_n, am_r_iinc, am_r_iadd, am_r_isub, am_r_imul, am_r_iand, am_r_ishr, am_r_idiv, am_r_irem, am_r_ladd, am_r_lsub, am_r_lmul, am_r_land, am_r_lor, am_r_lxor, am_r_lrem, am_r_lshl, am_r_lshr, am_r_lushr, am_r_lcmp, am_r_i2l, am_r_i2b, am_r_l2i, am_r_dupI, am_r_dupR, am_r_dup2I, am_r_dup2R, am_r_pop, am_r_if_eq, am_r_icmp_eq, am_r_if_ne, am_r_icmp_ne, am_r_if_lt, am_r_icmp_lt, am_r_if_ge, am_r_icmp_ge, am_r_if_gt, am_r_icmp_gt, am_r_if_le, am_r_icmp_le, am_r_goto, am_r_tsw, am_r_getfield, am_r_putfield, am_r_getstatic, am_r_getstatic1, am_r_i2c, am_r_iaload, am_r_baload, am_r_laload, am_r_aaload, am_r_iastore, am_r_bastore, am_r_lastore, am_r_arraylength, am_af_v, am_af_r, am_af_t, am_r_invokestatic, am_r_copy, am_r_invokevirtual, am_r_athrow, am_r_vret, am_r_iret, am_r_lret, am_r_aret, am_cp_c, am_bit_0, am_bit_1, am_bit_2, am_bit_3, am_rt_c, am_ent, am_args, am_put1, am_put2, am_kill, am_i_nn, am_i_m1, am_c2, am_c3, am_c10, am_l_nn, am_l_m1, am_ak, am_al, am_thr, List.set, List.getElem?_cons_zero, List.getElem?_cons_succ, List.length_cons, List.length_nil, List.replicate, List.cons_append, List.nil_append, List.take, List.drop, List.reverse_cons, List.reverse_nil, List.find?, am_ri_self, am_ri_t, am_ri_2, am_rl_self, am_rl_t, am_rl_1, am_ri_ri, am_rl_rl, pk_us, pk_un, Nat.reduceAdd, Nat.reduceSub, Nat.reduceMul, Nat.reduceLeDiff, Nat.reduceEqDiff, Nat.reduceBEq, Nat.reduceLT, ne_eq, not_false_eq_true, true_and, and_true, List.getD_cons_zero, List.getD_cons_succ, not_true_eq_false, false_or, or_false, true_or, or_true, am_b_bit, true_imp_iff, false_imp_iff, false_and, or_self, reduceCtorEq, decide_true, decide_false, Bool.and_true, Bool.and_false, Nat.add_zero, Nat.zero_add, Option.some.injEq, Nat.succ_ne_zero, Nat.zero_le, Nat.one_ne_zero, implies_true, Nat.le_refl]
      refine ⟨tb_n v, by rw [← a1], a2, ?_⟩
      simp (disch := omega) only [am_r_nil, am_gv_i, am_gv_k, am_gv_c, am_gv_r, am_gi_0, am_gi_s1, am_gl_0, am_gl_s1, am_gr_0, am_gr_s1, am_r_iconst, am_r_bipush, am_r_sipush, am_r_lconst, am_r_ldc2, am_r_ldc_i, am_r_ldc_s, am_r_ldc_w_i, am_r_ldc_w_s, am_r_iload, am_r_iload_n, am_r_lload, am_r_lload_n, am_r_aload, am_r_aload_n, am_r_istore, am_r_istore_n, am_r_lstore, am_r_lstore_n, am_r_astore, am_r_astore_n, am_r_iinc, am_r_iadd, am_r_isub, am_r_imul, am_r_iand, am_r_ishr, am_r_idiv, am_r_irem, am_r_ladd, am_r_lsub, am_r_lmul, am_r_land, am_r_lor, am_r_lxor, am_r_lrem, am_r_lshl, am_r_lshr, am_r_lushr, am_r_lcmp, am_r_i2l, am_r_i2b, am_r_l2i, am_r_dupI, am_r_dupR, am_r_dup2I, am_r_dup2R, am_r_pop, am_r_if_eq, am_r_icmp_eq, am_r_if_ne, am_r_icmp_ne, am_r_if_lt, am_r_icmp_lt, am_r_if_ge, am_r_icmp_ge, am_r_if_gt, am_r_icmp_gt, am_r_if_le, am_r_icmp_le, am_r_goto, am_r_tsw, am_r_getfield, am_r_putfield, am_r_getstatic, am_r_getstatic1, am_r_i2c, am_r_iaload, am_r_baload, am_r_laload, am_r_aaload, am_r_iastore, am_r_bastore, am_r_lastore, am_r_arraylength, am_af_v, am_af_r, am_af_t, am_r_invokestatic, am_r_copy, am_r_invokevirtual, am_r_athrow, am_r_vret, am_r_iret, am_r_lret, am_r_aret, am_cp_c, am_bit_0, am_bit_1, am_bit_2, am_bit_3, am_rt_c, am_ent, am_args, am_put1, am_put2, am_kill, am_i_nn, am_i_m1, am_c2, am_c3, am_c10, am_l_nn, am_l_m1, am_ak, am_al, am_thr, List.set, List.getElem?_cons_zero, List.getElem?_cons_succ, List.length_cons, List.length_nil, List.replicate, List.cons_append, List.nil_append, List.take, List.drop, List.reverse_cons, List.reverse_nil, List.find?, am_ri_self, am_ri_t, am_ri_2, am_rl_self, am_rl_t, am_rl_1, am_ri_ri, am_rl_rl, pk_us, pk_un, Nat.reduceAdd, Nat.reduceSub, Nat.reduceMul, Nat.reduceLeDiff, Nat.reduceEqDiff, Nat.reduceBEq, Nat.reduceLT, ne_eq, not_false_eq_true, true_and, and_true, List.getD_cons_zero, List.getD_cons_succ, not_true_eq_false, false_or, or_false, true_or, or_true, am_b_bit, true_imp_iff, false_imp_iff, false_and, or_self, reduceCtorEq, decide_true, decide_false, Bool.and_true, Bool.and_false, Nat.add_zero, Nat.zero_add, Option.some.injEq, Nat.succ_ne_zero, Nat.zero_le, Nat.one_ne_zero, implies_true, Nat.le_refl, nI_add, pk_mul, nI_leI, nI_ltI, nI_eq, nI_clamp, am_in, am_eq0, am_lt0, am_ge0, am_0lt, am_le0, am_em1, am_m1e, am_b_0, lg_cmp_eq, lg_cmp_lt, lg_cmp_ge, lg_cmp_gt, lg_cmp_le, am_cl0]
      rw [← e1]
      refine ⟨fun e5 => ?_, fun e5 => ?_⟩
      · rw [if_neg e5] at h1
        refine hK.at 4 rfl ?_
        simp only [am_r_nil, am_gv_i, am_gv_k, am_gv_c, am_gv_r, am_gi_0, am_gi_s1, am_gl_0, am_gl_s1, am_gr_0, am_gr_s1, am_r_iconst, am_r_bipush, am_r_sipush, am_r_lconst, am_r_ldc2, am_r_ldc_i, am_r_ldc_s, am_r_ldc_w_i, am_r_ldc_w_s, am_r_iload, am_r_iload_n, am_r_lload, am_r_lload_n, am_r_aload, am_r_aload_n, am_r_istore, am_r_istore_n, am_r_lstore, am_r_lstore_n, am_r_astore, am_r_astore_n, am_r_iinc, am_r_iadd, am_r_isub, am_r_imul, am_r_iand, am_r_ishr, am_r_idiv, am_r_irem, am_r_ladd, am_r_lsub, am_r_lmul, am_r_land, am_r_lor, am_r_lxor, am_r_lrem, am_r_lshl, am_r_lshr, am_r_lushr, am_r_lcmp, am_r_i2l, am_r_i2b, am_r_l2i, am_r_dupI, am_r_dupR, am_r_dup2I, am_r_dup2R, am_r_pop, am_r_if_eq, am_r_icmp_eq, am_r_if_ne, am_r_icmp_ne, am_r_if_lt, am_r_icmp_lt, am_r_if_ge, am_r_icmp_ge, am_r_if_gt, am_r_icmp_gt, am_r_if_le, am_r_icmp_le, am_r_goto, am_r_tsw, am_r_getfield, am_r_putfield, am_r_getstatic, am_r_getstatic1, am_r_i2c, am_r_iaload, am_r_baload, am_r_laload, am_r_aaload, am_r_iastore, am_r_bastore, am_r_lastore, am_r_arraylength, am_af_v, am_af_r, am_af_t, am_r_invokestatic, am_r_copy, am_r_invokevirtual, am_r_athrow, am_r_vret, am_r_iret, am_r_lret, am_r_aret, am_cp_c, am_bit_0, am_bit_1, am_bit_2, am_bit_3, am_rt_c, am_ent, am_args, am_put1, am_put2, am_kill, am_i_nn, am_i_m1, am_c2, am_c3, am_c10, am_l_nn, am_l_m1, am_ak, am_al, am_thr, List.set, List.getElem?_cons_zero, List.getElem?_cons_succ, List.length_cons, List.length_nil, List.replicate, List.cons_append, List.nil_append, List.take, List.drop, List.reverse_cons, List.reverse_nil, List.find?, am_ri_self, am_ri_t, am_ri_2, am_rl_self, am_rl_t, am_rl_1, am_ri_ri, am_rl_rl, pk_us, pk_un, Nat.reduceAdd, Nat.reduceSub, Nat.reduceMul, Nat.reduceLeDiff, Nat.reduceEqDiff, Nat.reduceBEq, Nat.reduceLT, ne_eq, not_false_eq_true, true_and, and_true, List.getD_cons_zero, List.getD_cons_succ, not_true_eq_false, false_or, or_false, true_or, or_true, am_b_bit, true_imp_iff, false_imp_iff, false_and, or_self, reduceCtorEq, decide_true, decide_false, Bool.and_true, Bool.and_false, Nat.add_zero, Nat.zero_add, Option.some.injEq, Nat.succ_ne_zero, Nat.zero_le, Nat.one_ne_zero, implies_true, Nat.le_refl]
        rw [a1, nI_l (by omega), mx_lshl _ (by decide), show 2 ^ 8 = 256 from rfl, mx_or8 hx a2]
        exact h1 _ rfl
      · rw [if_pos e5] at h2
        refine ⟨_, _, rfl, ?_⟩
        simp only [am_r_nil, am_gv_i, am_gv_k, am_gv_c, am_gv_r, am_gi_0, am_gi_s1, am_gl_0, am_gl_s1, am_gr_0, am_gr_s1, am_r_iconst, am_r_bipush, am_r_sipush, am_r_lconst, am_r_ldc2, am_r_ldc_i, am_r_ldc_s, am_r_ldc_w_i, am_r_ldc_w_s, am_r_iload, am_r_iload_n, am_r_lload, am_r_lload_n, am_r_aload, am_r_aload_n, am_r_istore, am_r_istore_n, am_r_lstore, am_r_lstore_n, am_r_astore, am_r_astore_n, am_r_iinc, am_r_iadd, am_r_isub, am_r_imul, am_r_iand, am_r_ishr, am_r_idiv, am_r_irem, am_r_ladd, am_r_lsub, am_r_lmul, am_r_land, am_r_lor, am_r_lxor, am_r_lrem, am_r_lshl, am_r_lshr, am_r_lushr, am_r_lcmp, am_r_i2l, am_r_i2b, am_r_l2i, am_r_dupI, am_r_dupR, am_r_dup2I, am_r_dup2R, am_r_pop, am_r_if_eq, am_r_icmp_eq, am_r_if_ne, am_r_icmp_ne, am_r_if_lt, am_r_icmp_lt, am_r_if_ge, am_r_icmp_ge, am_r_if_gt, am_r_icmp_gt, am_r_if_le, am_r_icmp_le, am_r_goto, am_r_tsw, am_r_getfield, am_r_putfield, am_r_getstatic, am_r_getstatic1, am_r_i2c, am_r_iaload, am_r_baload, am_r_laload, am_r_aaload, am_r_iastore, am_r_bastore, am_r_lastore, am_r_arraylength, am_af_v, am_af_r, am_af_t, am_r_invokestatic, am_r_copy, am_r_invokevirtual, am_r_athrow, am_r_vret, am_r_iret, am_r_lret, am_r_aret, am_cp_c, am_bit_0, am_bit_1, am_bit_2, am_bit_3, am_rt_c, am_ent, am_args, am_put1, am_put2, am_kill, am_i_nn, am_i_m1, am_c2, am_c3, am_c10, am_l_nn, am_l_m1, am_ak, am_al, am_thr, List.set, List.getElem?_cons_zero, List.getElem?_cons_succ, List.length_cons, List.length_nil, List.replicate, List.cons_append, List.nil_append, List.take, List.drop, List.reverse_cons, List.reverse_nil, List.find?, am_ri_self, am_ri_t, am_ri_2, am_rl_self, am_rl_t, am_rl_1, am_ri_ri, am_rl_rl, pk_us, pk_un, Nat.reduceAdd, Nat.reduceSub, Nat.reduceMul, Nat.reduceLeDiff, Nat.reduceEqDiff, Nat.reduceBEq, Nat.reduceLT, ne_eq, not_false_eq_true, true_and, and_true, List.getD_cons_zero, List.getD_cons_succ, not_true_eq_false, false_or, or_false, true_or, or_true, am_b_bit, true_imp_iff, false_imp_iff, false_and, or_self, reduceCtorEq, decide_true, decide_false, Bool.and_true, Bool.and_false, Nat.add_zero, Nat.zero_add, Option.some.injEq, Nat.succ_ne_zero, Nat.zero_le, Nat.one_ne_zero, implies_true, Nat.le_refl]
        exact h2 2 rfl
    refine hK.at 1 rfl ?_
    simp (disch := omega) only [am_r_nil, am_gv_i, am_gv_k, am_gv_c, am_gv_r, am_gi_0, am_gi_s1, am_gl_0, am_gl_s1, am_gr_0, am_gr_s1, am_r_iconst, am_r_bipush, am_r_sipush, am_r_lconst, am_r_ldc2, am_r_ldc_i, am_r_ldc_s, am_r_ldc_w_i, am_r_ldc_w_s, am_r_iload, am_r_iload_n, am_r_lload, am_r_lload_n, am_r_aload, am_r_aload_n, am_r_istore, am_r_istore_n, am_r_lstore, am_r_lstore_n, am_r_astore, am_r_astore_n, am_r_iinc, am_r_iadd, am_r_isub, am_r_imul, am_r_iand, am_r_ishr, am_r_idiv, am_r_irem, am_r_ladd, am_r_lsub, am_r_lmul, am_r_land, am_r_lor, am_r_lxor, am_r_lrem, am_r_lshl, am_r_lshr, am_r_lushr, am_r_lcmp, am_r_i2l, am_r_i2b, am_r_l2i, am_r_dupI, am_r_dupR, am_r_dup2I, am_r_dup2R, am_r_pop, am_r_if_eq, am_r_icmp_eq, am_r_if_ne, am_r_icmp_ne, am_r_if_lt, am_r_icmp_lt, am_r_if_ge, am_r_icmp_ge, am_r_if_gt, am_r_icmp_gt, am_r_if_le, am_r_icmp_le, am_r_goto, am_r_tsw, am_r_getfield, am_r_putfield, am_r_getstatic, am_r_getstatic1, am_r_i2c, am_r_iaload, am_r_baload, am_r_laload, am_r_aaload, am_r_iastore, am_r_bastore, am_r_lastore, am_r_arraylength, am_af_v, am_af_r, am_af_t, am_r_invokestatic, am_r_copy, am_r_invokevirtual, am_r_athrow, am_r_vret, am_r_iret, am_r_lret, am_r_aret, am_cp_c, am_bit_0, am_bit_1, am_bit_2, am_bit_3, am_rt_c, am_ent, am_args, am_put1, am_put2, am_kill, am_i_nn, am_i_m1, am_c2, am_c3, am_c10, am_l_nn, am_l_m1, am_ak, am_al, am_thr, List.set, List.getElem?_cons_zero, List.getElem?_cons_succ, List.length_cons, List.length_nil, List.replicate, List.cons_append, List.nil_append, List.take, List.drop, List.reverse_cons, List.reverse_nil, List.find?, am_ri_self, am_ri_t, am_ri_2, am_rl_self, am_rl_t, am_rl_1, am_ri_ri, am_rl_rl, pk_us, pk_un, Nat.reduceAdd, Nat.reduceSub, Nat.reduceMul, Nat.reduceLeDiff, Nat.reduceEqDiff, Nat.reduceBEq, Nat.reduceLT, ne_eq, not_false_eq_true, true_and, and_true, List.getD_cons_zero, List.getD_cons_succ, not_true_eq_false, false_or, or_false, true_or, or_true, am_b_bit, true_imp_iff, false_imp_iff, false_and, or_self, reduceCtorEq, decide_true, decide_false, Bool.and_true, Bool.and_false, Nat.add_zero, Nat.zero_add, Option.some.injEq, Nat.succ_ne_zero, Nat.zero_le, Nat.one_ne_zero, implies_true, Nat.le_refl, nI_add, pk_mul, nI_leI, nI_ltI, nI_eq, nI_clamp, am_in, am_eq0, am_lt0, am_ge0, am_0lt, am_le0, am_em1, am_m1e, am_b_0, lg_cmp_eq, lg_cmp_lt, lg_cmp_ge, lg_cmp_gt, lg_cmp_le, am_cl0]
    refine ⟨fun e => bad (Or.inl e), fun e => ⟨_, rfl, ?_⟩⟩
    simp (disch := omega) only [am_r_nil, am_gv_i, am_gv_k, am_gv_c, am_gv_r, am_gi_0, am_gi_s1, am_gl_0, am_gl_s1, am_gr_0, am_gr_s1, am_r_iconst, am_r_bipush, am_r_sipush, am_r_lconst, am_r_ldc2, am_r_ldc_i, am_r_ldc_s, am_r_ldc_w_i, am_r_ldc_w_s, am_r_iload, am_r_iload_n, am_r_lload, am_r_lload_n, am_r_aload, am_r_aload_n, am_r_istore, am_r_istore_n, am_r_lstore, am_r_lstore_n, am_r_astore, am_r_astore_n, am_r_iinc, am_r_iadd, am_r_isub, am_r_imul, am_r_iand, am_r_ishr, am_r_idiv, am_r_irem, am_r_ladd, am_r_lsub, am_r_lmul, am_r_land, am_r_lor, am_r_lxor, am_r_lrem, am_r_lshl, am_r_lshr, am_r_lushr, am_r_lcmp, am_r_i2l, am_r_i2b, am_r_l2i, am_r_dupI, am_r_dupR, am_r_dup2I, am_r_dup2R, am_r_pop, am_r_if_eq, am_r_icmp_eq, am_r_if_ne, am_r_icmp_ne, am_r_if_lt, am_r_icmp_lt, am_r_if_ge, am_r_icmp_ge, am_r_if_gt, am_r_icmp_gt, am_r_if_le, am_r_icmp_le, am_r_goto, am_r_tsw, am_r_getfield, am_r_putfield, am_r_getstatic, am_r_getstatic1, am_r_i2c, am_r_iaload, am_r_baload, am_r_laload, am_r_aaload, am_r_iastore, am_r_bastore, am_r_lastore, am_r_arraylength, am_af_v, am_af_r, am_af_t, am_r_invokestatic, am_r_copy, am_r_invokevirtual, am_r_athrow, am_r_vret, am_r_iret, am_r_lret, am_r_aret, am_cp_c, am_bit_0, am_bit_1, am_bit_2, am_bit_3, am_rt_c, am_ent, am_args, am_put1, am_put2, am_kill, am_i_nn, am_i_m1, am_c2, am_c3, am_c10, am_l_nn, am_l_m1, am_ak, am_al, am_thr, List.set, List.getElem?_cons_zero, List.getElem?_cons_succ, List.length_cons, List.length_nil, List.replicate, List.cons_append, List.nil_append, List.take, List.drop, List.reverse_cons, List.reverse_nil, List.find?, am_ri_self, am_ri_t, am_ri_2, am_rl_self, am_rl_t, am_rl_1, am_ri_ri, am_rl_rl, pk_us, pk_un, Nat.reduceAdd, Nat.reduceSub, Nat.reduceMul, Nat.reduceLeDiff, Nat.reduceEqDiff, Nat.reduceBEq, Nat.reduceLT, ne_eq, not_false_eq_true, true_and, and_true, List.getD_cons_zero, List.getD_cons_succ, not_true_eq_false, false_or, or_false, true_or, or_true, am_b_bit, true_imp_iff, false_imp_iff, false_and, or_self, reduceCtorEq, decide_true, decide_false, Bool.and_true, Bool.and_false, Nat.add_zero, Nat.zero_add, Option.some.injEq, Nat.succ_ne_zero, Nat.zero_le, Nat.one_ne_zero, implies_true, Nat.le_refl, nI_add, pk_mul, nI_leI, nI_ltI, nI_eq, nI_clamp, am_in, am_eq0, am_lt0, am_ge0, am_0lt, am_le0, am_em1, am_m1e, am_b_0, lg_cmp_eq, lg_cmp_lt, lg_cmp_ge, lg_cmp_gt, lg_cmp_le, am_cl0]
    refine ⟨fun e2 => good ?_, fun e2 => ⟨_, rfl, ?_⟩⟩
    · have e2 := Decidable.not_not.mp e2
      exact fun h5 => h5.elim e (fun h6 => h6 (Or.inl e2))
    simp (disch := omega) only [am_r_nil, am_gv_i, am_gv_k, am_gv_c, am_gv_r, am_gi_0, am_gi_s1, am_gl_0, am_gl_s1, am_gr_0, am_gr_s1, am_r_iconst, am_r_bipush, am_r_sipush, am_r_lconst, am_r_ldc2, am_r_ldc_i, am_r_ldc_s, am_r_ldc_w_i, am_r_ldc_w_s, am_r_iload, am_r_iload_n, am_r_lload, am_r_lload_n, am_r_aload, am_r_aload_n, am_r_istore, am_r_istore_n, am_r_lstore, am_r_lstore_n, am_r_astore, am_r_astore_n, am_r_iinc, am_r_iadd, am_r_isub, am_r_imul, am_r_iand, am_r_ishr, am_r_idiv, am_r_irem, am_r_ladd, am_r_lsub, am_r_lmul, am_r_land, am_r_lor, am_r_lxor, am_r_lrem, am_r_lshl, am_r_lshr, am_r_lushr, am_r_lcmp, am_r_i2l, am_r_i2b, am_r_l2i, am_r_dupI, am_r_dupR, am_r_dup2I, am_r_dup2R, am_r_pop, am_r_if_eq, am_r_icmp_eq, am_r_if_ne, am_r_icmp_ne, am_r_if_lt, am_r_icmp_lt, am_r_if_ge, am_r_icmp_ge, am_r_if_gt, am_r_icmp_gt, am_r_if_le, am_r_icmp_le, am_r_goto, am_r_tsw, am_r_getfield, am_r_putfield, am_r_getstatic, am_r_getstatic1, am_r_i2c, am_r_iaload, am_r_baload, am_r_laload, am_r_aaload, am_r_iastore, am_r_bastore, am_r_lastore, am_r_arraylength, am_af_v, am_af_r, am_af_t, am_r_invokestatic, am_r_copy, am_r_invokevirtual, am_r_athrow, am_r_vret, am_r_iret, am_r_lret, am_r_aret, am_cp_c, am_bit_0, am_bit_1, am_bit_2, am_bit_3, am_rt_c, am_ent, am_args, am_put1, am_put2, am_kill, am_i_nn, am_i_m1, am_c2, am_c3, am_c10, am_l_nn, am_l_m1, am_ak, am_al, am_thr, List.set, List.getElem?_cons_zero, List.getElem?_cons_succ, List.length_cons, List.length_nil, List.replicate, List.cons_append, List.nil_append, List.take, List.drop, List.reverse_cons, List.reverse_nil, List.find?, am_ri_self, am_ri_t, am_ri_2, am_rl_self, am_rl_t, am_rl_1, am_ri_ri, am_rl_rl, pk_us, pk_un, Nat.reduceAdd, Nat.reduceSub, Nat.reduceMul, Nat.reduceLeDiff, Nat.reduceEqDiff, Nat.reduceBEq, Nat.reduceLT, ne_eq, not_false_eq_true, true_and, and_true, List.getD_cons_zero, List.getD_cons_succ, not_true_eq_false, false_or, or_false, true_or, or_true, am_b_bit, true_imp_iff, false_imp_iff, false_and, or_self, reduceCtorEq, decide_true, decide_false, Bool.and_true, Bool.and_false, Nat.add_zero, Nat.zero_add, Option.some.injEq, Nat.succ_ne_zero, Nat.zero_le, Nat.one_ne_zero, implies_true, Nat.le_refl, nI_add, pk_mul, nI_leI, nI_ltI, nI_eq, nI_clamp, am_in, am_eq0, am_lt0, am_ge0, am_0lt, am_le0, am_em1, am_m1e, am_b_0, lg_cmp_eq, lg_cmp_lt, lg_cmp_ge, lg_cmp_gt, lg_cmp_le, am_cl0]
    refine ⟨fun e3 => good ?_, fun e3 => ⟨_, rfl, hx, ?_⟩⟩
    · have e3 := Decidable.not_not.mp e3
      exact fun h5 => h5.elim e (fun h6 => h6 (Or.inr (Or.inl e3)))
    simp (disch := omega) only [am_r_nil, am_gv_i, am_gv_k, am_gv_c, am_gv_r, am_gi_0, am_gi_s1, am_gl_0, am_gl_s1, am_gr_0, am_gr_s1, am_r_iconst, am_r_bipush, am_r_sipush, am_r_lconst, am_r_ldc2, am_r_ldc_i, am_r_ldc_s, am_r_ldc_w_i, am_r_ldc_w_s, am_r_iload, am_r_iload_n, am_r_lload, am_r_lload_n, am_r_aload, am_r_aload_n, am_r_istore, am_r_istore_n, am_r_lstore, am_r_lstore_n, am_r_astore, am_r_astore_n, am_r_iinc, am_r_iadd, am_r_isub, am_r_imul, am_r_iand, am_r_ishr, am_r_idiv, am_r_irem, am_r_ladd, am_r_lsub, am_r_lmul, am_r_land, am_r_lor, am_r_lxor, am_r_lrem, am_r_lshl, am_r_lshr, am_r_lushr, am_r_lcmp, am_r_i2l, am_r_i2b, am_r_l2i, am_r_dupI, am_r_dupR, am_r_dup2I, am_r_dup2R, am_r_pop, am_r_if_eq, am_r_icmp_eq, am_r_if_ne, am_r_icmp_ne, am_r_if_lt, am_r_icmp_lt, am_r_if_ge, am_r_icmp_ge, am_r_if_gt, am_r_icmp_gt, am_r_if_le, am_r_icmp_le, am_r_goto, am_r_tsw, am_r_getfield, am_r_putfield, am_r_getstatic, am_r_getstatic1, am_r_i2c, am_r_iaload, am_r_baload, am_r_laload, am_r_aaload, am_r_iastore, am_r_bastore, am_r_lastore, am_r_arraylength, am_af_v, am_af_r, am_af_t, am_r_invokestatic, am_r_copy, am_r_invokevirtual, am_r_athrow, am_r_vret, am_r_iret, am_r_lret, am_r_aret, am_cp_c, am_bit_0, am_bit_1, am_bit_2, am_bit_3, am_rt_c, am_ent, am_args, am_put1, am_put2, am_kill, am_i_nn, am_i_m1, am_c2, am_c3, am_c10, am_l_nn, am_l_m1, am_ak, am_al, am_thr, List.set, List.getElem?_cons_zero, List.getElem?_cons_succ, List.length_cons, List.length_nil, List.replicate, List.cons_append, List.nil_append, List.take, List.drop, List.reverse_cons, List.reverse_nil, List.find?, am_ri_self, am_ri_t, am_ri_2, am_rl_self, am_rl_t, am_rl_1, am_ri_ri, am_rl_rl, pk_us, pk_un, Nat.reduceAdd, Nat.reduceSub, Nat.reduceMul, Nat.reduceLeDiff, Nat.reduceEqDiff, Nat.reduceBEq, Nat.reduceLT, ne_eq, not_false_eq_true, true_and, and_true, List.getD_cons_zero, List.getD_cons_succ, not_true_eq_false, false_or, or_false, true_or, or_true, am_b_bit, true_imp_iff, false_imp_iff, false_and, or_self, reduceCtorEq, decide_true, decide_false, Bool.and_true, Bool.and_false, Nat.add_zero, Nat.zero_add, Option.some.injEq, Nat.succ_ne_zero, Nat.zero_le, Nat.one_ne_zero, implies_true, Nat.le_refl, nI_add, pk_mul, nI_leI, nI_ltI, nI_eq, nI_clamp, am_in, am_eq0, am_lt0, am_ge0, am_0lt, am_le0, am_em1, am_m1e, am_b_0, lg_cmp_eq, lg_cmp_lt, lg_cmp_ge, lg_cmp_gt, lg_cmp_le, am_cl0]
    refine ⟨fun e4 => good ?_, fun e4 => bad (Or.inr (fun h6 => h6.elim e2 (fun h6 => h6.elim e3 e4)))⟩
    have e4 := Decidable.not_not.mp e4
    exact fun h5 => h5.elim e (fun h6 => h6 (Or.inr (Or.inr e4)))
  refine hK.at 0 rfl ?_
  simp (disch := omega) only [am_r_nil, am_gv_i, am_gv_k, am_gv_c, am_gv_r, am_gi_0, am_gi_s1, am_gl_0, am_gl_s1, am_gr_0, am_gr_s1, am_r_iconst, am_r_bipush, am_r_sipush, am_r_lconst, am_r_ldc2, am_r_ldc_i, am_r_ldc_s, am_r_ldc_w_i, am_r_ldc_w_s, am_r_iload, am_r_iload_n, am_r_lload, am_r_lload_n, am_r_aload, am_r_aload_n, am_r_istore, am_r_istore_n, am_r_lstore, am_r_lstore_n, am_r_astore, am_r_astore_n, am_r_iinc, am_r_iadd, am_r_isub, am_r_imul, am_r_iand, am_r_ishr, am_r_idiv, am_r_irem, am_r_ladd, am_r_lsub, am_r_lmul, am_r_land, am_r_lor, am_r_lxor, am_r_lrem, am_r_lshl, am_r_lshr, am_r_lushr, am_r_lcmp, am_r_i2l, am_r_i2b, am_r_l2i, am_r_dupI, am_r_dupR, am_r_dup2I, am_r_dup2R, am_r_pop, am_r_if_eq, am_r_icmp_eq, am_r_if_ne, am_r_icmp_ne, am_r_if_lt, am_r_icmp_lt, am_r_if_ge, am_r_icmp_ge, am_r_if_gt, am_r_icmp_gt, am_r_if_le, am_r_icmp_le, am_r_goto, am_r_tsw, am_r_getfield, am_r_putfield, am_r_getstatic, am_r_getstatic1, am_r_i2c, am_r_iaload, am_r_baload, am_r_laload, am_r_aaload, am_r_iastore, am_r_bastore, am_r_lastore, am_r_arraylength, am_af_v, am_af_r, am_af_t, am_r_invokestatic, am_r_copy, am_r_invokevirtual, am_r_athrow, am_r_vret, am_r_iret, am_r_lret, am_r_aret, am_cp_c, am_bit_0, am_bit_1, am_bit_2, am_bit_3, am_rt_c, am_ent, am_args, am_put1, am_put2, am_kill, am_i_nn, am_i_m1, am_c2, am_c3, am_c10, am_l_nn, am_l_m1, am_ak, am_al, am_thr, List.set, List.getElem?_cons_zero, List.getElem?_cons_succ, List.length_cons, List.length_nil, List.replicate, List.cons_append, List.nil_append, List.take, List.drop, List.reverse_cons, List.reverse_nil, List.find?, am_ri_self, am_ri_t, am_ri_2, am_rl_self, am_rl_t, am_rl_1, am_ri_ri, am_rl_rl, pk_us, pk_un, Nat.reduceAdd, Nat.reduceSub, Nat.reduceMul, Nat.reduceLeDiff, Nat.reduceEqDiff, Nat.reduceBEq, Nat.reduceLT, ne_eq, not_false_eq_true, true_and, and_true, List.getD_cons_zero, List.getD_cons_succ, not_true_eq_false, false_or, or_false, true_or, or_true, am_b_bit, true_imp_iff, false_imp_iff, false_and, or_self, reduceCtorEq, decide_true, decide_false, Bool.and_true, Bool.and_false, Nat.add_zero, Nat.zero_add, Option.some.injEq, Nat.succ_ne_zero, Nat.zero_le, Nat.one_ne_zero, implies_true, Nat.le_refl, nI_add, pk_mul, nI_leI, nI_ltI, nI_eq, nI_clamp, am_in, am_eq0, am_lt0, am_ge0, am_0lt, am_le0, am_em1, am_m1e, am_b_0, lg_cmp_eq, lg_cmp_lt, lg_cmp_ge, lg_cmp_gt, lg_cmp_le, am_cl0]
  refine ⟨fun e => two (fun e1 => e e1.1), fun e => ⟨fun e1 => two (fun e2 => e1 (hv0.mpr e2.2)), fun e1 => ?_⟩⟩
  exact h1 _ (if_pos ⟨e, hv0.mp e1⟩)
theorem metX0_longer (l : Launch) : am_Met l yX0_longer (.code yX0_longer cX0_longer 5 (some Jvm.ClassFile.FieldType.long)) 6 5 spX0_longer :=
  am_sound (by decide +kernel) okX0_longer (by decide +kernel) (am_words [(.ldc2_w 11, (0, 0, 0, 0, -1)), (.invokestatic 250, (0, 1, 0, 1, 0)), (.invokestatic 254, (1, 1, 0, 1, 0)), (.invokestatic 257, (2, 1, 0, 1, 0)), (.getfield 141, (0, 5, 3, 0, 0)), (.invokevirtual 242, (3, 3, 3, 3, 0)), (.invokestatic 3, (4, 1, 0, 5, 0))] (by decide +kernel) (am_w1 (am_wl2 (-1) (by decide +kernel) q399) (am_w1 ⟨fun _ => (am_CO_S (metX0_isSmall l) (am_cw_code _ _ _ _) (by decide) q402 q82 q400 q401 (by decide) (by decide) ⟨by decide +kernel, by decide +kernel⟩ (by decide +kernel)), fun h => absurd rfl h⟩ (am_w1 ⟨fun _ => (am_CO_S (metX0_isDigit l) (am_cw_code _ _ _ _) (by decide) q405 q82 q403 q404 (by decide) (by decide) ⟨by decide +kernel, by decide +kernel⟩ (by decide +kernel)), fun h => absurd rfl h⟩ (am_w1 ⟨fun _ => (am_CO_S (metX0_isMark l) (am_cw_code _ _ _ _) (by decide) q408 q82 q406 q407 (by decide) (by decide) ⟨by decide +kernel, by decide +kernel⟩ (by decide +kernel)), fun h => absurd rfl h⟩ (am_w1 ⟨fun h => absurd h (by decide), fun h => absurd h (by decide), fun _ _ => Or.inl q258⟩ (am_w1 (am_CO_V (t := 3) (metX1_by l) (am_cw_code _ _ _ _) (by decide) q394 q85 q391 q392 (by decide) q393 (by decide) (by decide) ⟨by decide +kernel, by decide +kernel⟩ (by decide +kernel)) (am_w1 ⟨fun _ => (am_CO_S (metX0_bytesOf l) (am_cw_code _ _ _ _) (by decide) q498 q82 q496 q497 (by decide) (by decide) ⟨by decide +kernel, by decide +kernel⟩ (by decide +kernel)), fun h => absurd rfl h⟩ (am_w0)))))))))
