/-! what a step makes of a table of texts is one -/
theorem mx_by_c {m c q : Nat} (hc : c < 256) (h0 : m * 256 + c ≠ 0) (h : m < 256 ^ 7) (hq : q ≤ mx_nb m) : mx_by (m * 256 + c) q = if q = mx_nb m then c else mx_by m q := by
  unfold mx_by
  rw [mx_nb_c hc h0 h]
  by_cases e : q = mx_nb m
  · rw [if_pos e, e, show mx_nb m + 1 - 1 - mx_nb m = 0 by omega, Nat.pow_zero, Nat.div_one]
    omega
  · rw [if_neg e, show mx_nb m + 1 - 1 - q = (mx_nb m - 1 - q) + 1 by omega, Nat.pow_succ, Nat.mul_comm (256 ^ _) 256, ← Nat.div_div_eq_div_mul, show (m * 256 + c) / 256 = m by omega]
theorem tb_nz_0 : tb_nz 0 := fun i hi => absurd hi (Nat.not_lt_zero _)
/-- one byte more -/
theorem tb_nz_c {m c : Nat} (hm : m < 256 ^ 7) (h : tb_nz m) (hc : c < 256) (h0 : c ≠ 0) : tb_nz (m * 256 + c) := by
  intro q hq
  rw [mx_nb_c hc (by omega) hm] at hq
  rw [mx_by_c hc (by omega) hm (by omega)]
  by_cases e : q = mx_nb m
  · rw [if_pos e]; exact h0
  · rw [if_neg e]; exact h q (by omega)
theorem tb_nz_pt {m i : Nat} (hm : m < 2 ^ 56) (h : tb_nz m) : ∀ j, i ≤ j → j ≤ mx_nb m → tb_nz (mx_pt m i j) := by
  intro j
  have h7 := mx_nb_7 hm
  induction j with
  | zero => intro h1 _; rw [show i = 0 by omega, mx_pt_0]; exact tb_nz_0
  | succ j ih =>
    intro h1 h2
    by_cases e : i = j + 1
    · rw [e, mx_pt_0]; exact tb_nz_0
    · rw [mx_pt_s (by omega) (by omega)]
      exact tb_nz_c (mx_pt_lt (by omega)) (ih (by omega) (by omega)) (mx_by_lt m j) (h j (by omega))
theorem tb_nz_jn {A w : Nat} (hw : w < 2 ^ 56) (hz : tb_nz w) (hA : tb_nz A) (h : ∀ i, i ≤ mx_nb w → A * 256 ^ i + mx_pt w 0 i < 2 ^ 56) : ∀ i, i ≤ mx_nb w → tb_nz (A * 256 ^ i + mx_pt w 0 i) := by
  intro i
  induction i with
  | zero => intro _; rw [Nat.pow_zero, Nat.mul_one, mx_pt_0, Nat.add_zero]; exact hA
  | succ i ih =>
    intro hi
    have e1 : A * 256 ^ (i + 1) + mx_pt w 0 (i + 1) = (A * 256 ^ i + mx_pt w 0 i) * 256 + mx_by w i := by
      rw [mx_pt_s (Nat.zero_le _) (by omega), Nat.pow_succ, ← Nat.mul_assoc]
      omega
    rw [e1]
    exact tb_nz_c (h i (by omega)) (ih (by omega)) (mx_by_lt w i) (hz i (by omega))
theorem tb_nz_1 {c : Nat} (hc : c < 256) (h0 : c ≠ 0) : tb_nz c := by
  have := tb_nz_c (m := 0) (by decide) tb_nz_0 hc h0
  rwa [Nat.zero_mul, Nat.zero_add] at this
theorem tb_nz_tx : ∀ (f n : Nat), f ≤ 8 → n < 10 ^ (f + 1) → n < 10 ^ 7 → tb_nz (mx_tx n) := by
  intro f
  induction f with
  | zero =>
    intro n _ h _
    rw [mx_tx_1 (by omega)]
    exact tb_nz_1 (by omega) (by omega)
  | succ f ih =>
    intro n hf h h7
    by_cases h1 : n < 10
    · rw [mx_tx_1 h1]
      exact tb_nz_1 (by omega) (by omega)
    · rw [mx_tx_s h1 (by omega)]
      refine tb_nz_c ?_ (ih (n / 10) (by omega) (by rw [Nat.pow_succ] at h; omega) (by omega)) (by omega) (by omega)
      have := mx_tx_56 (n := n / 10) (by omega)
      omega
theorem tb_tc_tx {n : Nat} (h : n < 1000000) : tb_tc (lN (mx_tx n)) := ⟨_, rfl, mx_tx_56 (by omega), tb_nz_tx 6 n (by omega) (by omega) (by omega)⟩
theorem tb_tc_0 : tb_tc 0 := ⟨0, rfl, by decide, tb_nz_0⟩
theorem tb_tc_sl {v : Int64} {y : Nat} (h : tb_tc v) : tb_tc (tb_sl v y) := by
  obtain ⟨h1, h2, h3⟩ := h.n
  unfold tb_sl
  cases hq : tb_sp v y with
  | none => exact h
  | some i =>
    have hi : i < mx_nb (tb_n v) := mx_find_lt hq
    have h7 := mx_nb_7 h2
    exact ⟨_, rfl, mx_pt_lt (by omega), tb_nz_pt h2 h3 i (Nat.zero_le _) (by omega)⟩
theorem tb_tc_sr {v : Int64} {y : Nat} (h : tb_tc v) : tb_tc (tb_sr v y) := by
  obtain ⟨h1, h2, h3⟩ := h.n
  unfold tb_sr
  cases hq : tb_sp v y with
  | none => exact tb_tc_0
  | some i =>
    have hi : i < mx_nb (tb_n v) := mx_find_lt hq
    have h7 := mx_nb_7 h2
    exact ⟨_, rfl, mx_pt_lt (by omega), tb_nz_pt h2 h3 _ (by omega) (Nat.le_refl _)⟩
theorem tb_tc_jn {v w : Int64} {y : Nat} (h : tb_tc v) (h' : tb_tc w) (hl : tb_jl v w ≤ 7) : tb_tc (tb_jn v w y) := by
  obtain ⟨h1, h2, h3⟩ := h.n
  obtain ⟨g1, g2, g3⟩ := h'.n
  unfold tb_jl at hl
  unfold tb_jn
  obtain ⟨j1, j2, j3⟩ := mx_jn_lt (y := y) h2 g2 hl
  refine ⟨_, rfl, j3, ?_⟩
  have hA : tb_nz (tb_n v * 256 + mx_mk y) := tb_nz_c (by omega) h3 (mx_mk_lt y) (mx_mk_nz y)
  have hb : ∀ i, i ≤ mx_nb (tb_n w) → (tb_n v * 256 + mx_mk y) * 256 ^ i + mx_pt (tb_n w) 0 i < 2 ^ 56 := fun i hi => by
    have c2 : mx_pt (tb_n w) 0 i < 256 ^ i := by
      unfold mx_pt
      rw [Nat.sub_zero]
      exact Nat.mod_lt _ (Nat.pow_pos (by decide))
    have b3 := mx_mk_lt y
    have d1 : tb_n v < 256 ^ mx_nb (tb_n v) := mx_nb_lt (by omega)
    have d2 : tb_n v * 256 + mx_mk y + 1 ≤ 256 ^ (mx_nb (tb_n v) + 1) := by rw [Nat.pow_succ]; omega
    have d3 : (tb_n v * 256 + mx_mk y + 1) * 256 ^ i ≤ 256 ^ (mx_nb (tb_n v) + 1) * 256 ^ i := Nat.mul_le_mul_right _ d2
    rw [← Nat.pow_add] at d3
    have d4 := Nat.le_trans d3 (Nat.pow_le_pow_right (by decide) (show mx_nb (tb_n v) + 1 + i ≤ 7 by omega))
    rw [Nat.succ_mul] at d4
    omega
  have := tb_nz_jn g2 g3 hA hb (mx_nb (tb_n w)) (Nat.le_refl _)
  rwa [mx_pt_all g2] at this
theorem tb_fl_tc {f : tb_F} {x R : Nat} (h : ∀ r, r < R → tb_tc (f r x)) : ∀ r, r < R → tb_tc (tb_fl f x r) := by
  intro r
  induction r with
  | zero => intro hr; exact h 0 hr
  | succ r ih =>
    intro hr
    show tb_tc (if f (r + 1) x = 0 then tb_fl f x r else f (r + 1) x)
    split
    · exact ih (by omega)
    · exact h (r + 1) hr
theorem tb_V_tc {f : tb_F} {k q r R C : Nat} (hk : k + 1 < C) (h : ∀ r c, r < R → c < C → tb_tc (f r c)) : ∀ n, n ≤ R → tb_tc (tb_V f k q r n) := by
  intro n
  induction n with
  | zero => intro _; exact tb_tc_0
  | succ n ih =>
    intro hn
    show tb_tc (@ite _ _ (Classical.propDecidable _) _ _)
    by_cases e : f n k = f r k ∧ tb_lk f k n q
    · rw [if_pos e]; exact h n (k + 1) (by omega) hk
    · rw [if_neg e]; exact ih (by omega)
theorem tb_L_pos {P : Nat → Prop} {R : Nat} (h0 : P 0) (hR : 1 ≤ R) : 1 ≤ (tb_L P R).length := by
  have := (tb_L_has h0 (show 0 < R by omega)).1
  omega
theorem tb_r_ok {kd R C : Nat} {f : tb_F} {x y : Nat} (k1 : 1 ≤ kd) (k2 : kd ≤ 14) (ht : tb_tx R C f) (ha : tb_am kd C x y) (hp : tb_p kd R C f x y) : tb_tx (tb_r kd R C f x y).1 (tb_r kd R C f x y).2.1 (tb_r kd R C f x y).2.2 := by
  have hkd : kd = 1 ∨ kd = 2 ∨ kd = 3 ∨ kd = 4 ∨ kd = 5 ∨ kd = 6 ∨ kd = 7 ∨ kd = 8 ∨ kd = 9 ∨ kd = 10 ∨ kd = 11 ∨ kd = 12 ∨ kd = 13 ∨ kd = 14 := by omega
  obtain ⟨⟨s1, s2, s3, s4⟩, h⟩ := ht
  have group : ∀ w : Nat → Nat, x < C → (∀ r, r < R → tb_PN f x r → tb_S f x r w R ≤ 999999) → tb_tx (tb_G R f x w).1 (tb_G R f x w).2.1 (tb_G R f x w).2.2 := fun w hx hS => by
    have hl := tb_L_le (tb_PN f x) R
    have hl1 : 1 ≤ (tb_L (tb_PN f x) R).length := tb_L_pos (fun q hq => by omega) s1
    refine ⟨⟨hl1, Nat.le_trans hl s2, by show 1 ≤ 2; decide, by show 2 ≤ 6; decide⟩, fun r c hr hc => ?_⟩
    have hr : r < (tb_L (tb_PN f x) R).length := hr
    obtain ⟨a1, a2⟩ := tb_L_at (tb_PN f x) R r hr
    show tb_tc (if c = 0 then _ else _)
    split
    · exact h _ x a1 hx
    · exact tb_tc_tx (by have := hS _ a1 a2; omega)
  rcases hkd with rfl | rfl | rfl | rfl | rfl | rfl | rfl | rfl | rfl | rfl | rfl | rfl | rfl | rfl
  · have hp : R ≤ 6 := hp
    exact ⟨⟨s3, by show C ≤ 12; omega, s1, hp⟩, fun r c hr hc => h c r hc hr⟩
  · have hp : 2 ≤ C := hp
    refine ⟨⟨s1, s2, by show 1 ≤ C - 1; omega, by show C - 1 ≤ 6; omega⟩, fun r c hr hc => h r _ hr ?_⟩
    have hc : c < C - 1 := hc
    split <;> omega
  · have hx : x < C := ha.1
    obtain ⟨-, hC, -⟩ := hp
    refine ⟨⟨s1, s2, by show 1 ≤ C + 1; omega, by show C + 1 ≤ 6; omega⟩, fun r c hr hc => ?_⟩
    have hr : r < R := hr
    have hc : c < C + 1 := hc
    show tb_tc (if c < x then _ else if c = x then _ else if c = x + 1 then _ else _)
    split
    · exact h r c hr (by omega)
    · split
      · exact tb_tc_sl (h r x hr hx)
      · split
        · exact tb_tc_sr (h r x hr hx)
        · exact h r _ hr (by omega)
  · have hx : x < C := ha.1
    refine ⟨⟨s1, s2, s3, s4⟩, fun r c hr hc => ?_⟩
    show tb_tc (if c = x then _ else _)
    split
    · exact tb_fl_tc (fun r hr => h r x hr hx) r hr
    · exact h r c hr hc
  · obtain ⟨-, hC, hl⟩ := hp
    refine ⟨⟨s1, s2, by show 1 ≤ C - 1; omega, by show C - 1 ≤ 6; omega⟩, fun r c hr hc => ?_⟩
    have hr : r < R := hr
    have hc : c < C - 1 := hc
    show tb_tc (if c < x then _ else if c = x then _ else _)
    split
    · exact h r c hr (by omega)
    · split
      · exact tb_tc_jn (h r x hr (by omega)) (h r (x + 1) hr hC) (hl r hr)
      · exact h r (c + 1) hr (by omega)
  · have hx : x < C := ha.1
    obtain ⟨p1, p2, p3, p4⟩ := hp
    have hm : 1 * 1 ≤ (R - 1) * (C - x) := Nat.mul_le_mul (by omega) (by omega)
    refine ⟨⟨hm, p3, by show 1 ≤ x + 2; omega, p4⟩, fun q c hq hc => ?_⟩
    have hq : q < (R - 1) * (C - x) := hq
    have hc : c < x + 2 := hc
    have d1 : q / (C - x) < R - 1 := by rw [Nat.div_lt_iff_lt_mul (by omega)]; exact hq
    have d2 : q % (C - x) < C - x := Nat.mod_lt _ (by omega)
    show tb_tc (if c < x then _ else if c = x then _ else _)
    split
    · exact h _ c (by omega) (by omega)
    · split
      · exact h 0 _ (by omega) (by omega)
      · exact h _ _ (by omega) (by omega)
  · obtain ⟨p1, p2, p3, p4⟩ := hp
    refine ⟨⟨by show 1 ≤ _ + 1; omega, p3, by show 1 ≤ C - 2 + _; omega, p4⟩, fun q c hq hc => ?_⟩
    have hq : q < (tb_L (tb_PB f (C - 2)) R).length + 1 := hq
    have hc : c < C - 2 + (tb_L (tb_PN f (C - 2)) R).length := hc
    show tb_tc (if q = 0 then (if c < C - 2 then _ else _) else if c < C - 2 then _ else _)
    split
    · split
      · exact tb_tc_0
      · exact h _ _ (tb_L_at _ R _ (by omega)).1 (by omega)
    · split
      · exact h _ c (tb_L_at _ R _ (by omega)).1 (by omega)
      · exact tb_V_tc (C := C) (by omega) h R (Nat.le_refl _)
  · refine ⟨⟨s1, s2, s3, s4⟩, fun r c hr hc => h _ c (tb_od_lt f x R r hr) hc⟩
  · have hp : (tb_L (tb_PB f C) R).length < R := hp
    have hl1 : 1 ≤ (tb_L (tb_PB f C) R).length := tb_L_pos (fun q hq => by omega) s1
    exact ⟨⟨hl1, by show (tb_L (tb_PB f C) R).length ≤ 12; omega, s3, s4⟩, fun r c hr hc => h _ c (tb_L_at _ R r hr).1 hc⟩
  · exact group _ ha.1 (fun r _ _ => by have := tb_S_le f x r R; omega)
  · exact group _ ha.1 hp.2.2.2
  · obtain ⟨p1, p2⟩ := hp
    exact ⟨⟨p1, by show (tb_L (tb_PK f x) R).length ≤ 12; omega, s3, s4⟩, fun r c hr hc => h _ c (tb_L_at _ R r hr).1 hc⟩
  · have hp : 2 ≤ R := hp
    refine ⟨⟨by show 1 ≤ R - 1; omega, by show R - 1 ≤ 12; omega, s3, s4⟩, fun r c hr hc => h _ c ?_ hc⟩
    have hr : r < R - 1 := hr
    omega
  · have hp : x + 1 < C := hp
    refine ⟨⟨s1, s2, s3, s4⟩, fun r c hr hc => h r _ hr ?_⟩
    have hc : c < C := hc
    split
    · omega
    · split <;> omega
theorem tb_tx.ok {R C : Nat} {f : tb_F} (h : tb_tx R C f) : tb_ok R C f := ⟨h.1, fun r c hr hc => Or.inr (h.2 r c hr hc)⟩
theorem tb_X_ok {kd R C : Nat} {f : tb_F} {x y : Int32} (k1 : 1 ≤ kd) (k2 : kd ≤ 14) (ht : tb_ok R C f) (hP : tb_P kd R C f x y) : tb_ok (tb_X kd R C f x y).1 (tb_X kd R C f x y).2.1 (tb_X kd R C f x y).2.2 := by
  refine tb_tx.ok (tb_r_ok k1 k2 ⟨ht.1, fun r c hr hc => ?_⟩ hP.2.2.2.1 hP.2.2.2.2)
  rcases ht.2 r c hr hc with e | e
  · exact absurd e (hP.1 r c hr hc)
  · exact e
