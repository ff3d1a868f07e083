/-! plain laws: numbers and texts of decimal digits; parts of a text -/
def mx_val (m : Nat) : Nat → Nat
  | 0 => 0
  | i + 1 => 10 * mx_val m i + (mx_by m i - 48)
def mx_isN (m : Nat) : Prop := 1 ≤ mx_nb m ∧ mx_nb m ≤ 6 ∧ ∀ i, i < mx_nb m → 48 ≤ mx_by m i ∧ mx_by m i ≤ 57
noncomputable def mx_nm (m : Nat) : Int32 := by
  classical exact if mx_isN m then nI (mx_val m (mx_nb m)) else -1
theorem mx_nm_t {m : Nat} (h : mx_isN m) : mx_nm m = nI (mx_val m (mx_nb m)) := if_pos h
theorem mx_nm_f {m : Nat} (h : ¬ mx_isN m) : mx_nm m = -1 := if_neg h
theorem mx_val_lt {m i : Nat} (h : ∀ j, j < i → 48 ≤ mx_by m j ∧ mx_by m j ≤ 57) : mx_val m i < 10 ^ i := by
  induction i with
  | zero => exact Nat.zero_lt_one
  | succ i ih =>
    have h1 := ih (fun j hj => h j (by omega))
    have h2 := h i (by omega)
    show 10 * mx_val m i + (mx_by m i - 48) < 10 ^ (i + 1)
    rw [Nat.pow_succ]
    omega
def mx_txF : Nat → Nat → Nat
  | 0, n => 48 + n
  | f + 1, n => if n < 10 then 48 + n else mx_txF f (n / 10) * 256 + (48 + n % 10)
/-- the decimal digits of n -/
def mx_tx (n : Nat) : Nat := mx_txF 8 n
theorem mx_txF_more : ∀ (f n : Nat), n < 10 ^ (f + 1) → mx_txF (f + 1) n = mx_txF f n := by
  intro f
  induction f with
  | zero =>
    intro n h
    show (if n < 10 then 48 + n else _) = 48 + n
    rw [if_pos (by omega)]
  | succ f ih =>
    intro n h
    show (if n < 10 then 48 + n else mx_txF (f + 1) (n / 10) * 256 + (48 + n % 10)) = (if n < 10 then 48 + n else mx_txF f (n / 10) * 256 + (48 + n % 10))
    rw [ih (n / 10) (by rw [Nat.pow_succ] at h; omega)]
theorem mx_tx_1 {n : Nat} (h : n < 10) : mx_tx n = 48 + n := if_pos h
theorem mx_tx_s {n : Nat} (h : ¬ n < 10) (h9 : n < 10 ^ 8) : mx_tx n = mx_tx (n / 10) * 256 + (48 + n % 10) := by
  show (if n < 10 then 48 + n else mx_txF 7 (n / 10) * 256 + (48 + n % 10)) = mx_txF 8 (n / 10) * 256 + (48 + n % 10)
  rw [if_neg h, mx_txF_more 7 (n / 10) (by omega)]
theorem mx_tx_lt : ∀ (e n : Nat), e ≤ 7 → n < 10 ^ e → mx_tx n < 256 ^ e ∨ e = 0 := by
  intro e
  induction e with
  | zero => intro n _ _; exact Or.inr rfl
  | succ e ih =>
    intro n he h
    refine Or.inl ?_
    by_cases h1 : n < 10
    · rw [mx_tx_1 h1, Nat.pow_succ]
      have : 1 ≤ 256 ^ e := Nat.one_le_pow _ _ (by decide)
      omega
    · have h8 : n < 10 ^ 8 := Nat.lt_of_lt_of_le h (Nat.pow_le_pow_right (by decide) (by omega))
      rw [mx_tx_s h1 h8, Nat.pow_succ]
      rw [Nat.pow_succ] at h
      rcases ih (n / 10) (by omega) (by omega) with h2 | h2
      · omega
      · subst h2
        omega
theorem mx_tx_56 {n : Nat} (h : n < 10 ^ 7) : mx_tx n < 2 ^ 56 := by
  rcases mx_tx_lt 7 n (by decide) h with h1 | h1
  · exact h1
  · cases h1
/-- the bytes from place i on, up to place j -/
def mx_pt (m i j : Nat) : Nat := m / 256 ^ (mx_nb m - j) % 256 ^ (j - i)
theorem mx_pt_0 (m i : Nat) : mx_pt m i i = 0 := by
  unfold mx_pt
  rw [Nat.sub_self, Nat.pow_zero, Nat.mod_one]
theorem mx_pt_s {m i j : Nat} (hij : i ≤ j) (hj : j < mx_nb m) : mx_pt m i (j + 1) = mx_pt m i j * 256 + mx_by m j := by
  unfold mx_pt mx_by
  have e1 : mx_nb m - (j + 1) = mx_nb m - 1 - j := by omega
  have e2 : mx_nb m - j = (mx_nb m - 1 - j) + 1 := by omega
  have e3 : j + 1 - i = (j - i) + 1 := by omega
  rw [e1, e2, e3, Nat.pow_succ 256 (mx_nb m - 1 - j), ← Nat.div_div_eq_div_mul]
  generalize m / 256 ^ (mx_nb m - 1 - j) = q
  rw [Nat.pow_succ, Nat.mul_comm (256 ^ (j - i)) 256, Nat.mod_mul]
  omega
theorem mx_pt_lt {m i j : Nat} (h : j - i ≤ 7) : mx_pt m i j < 2 ^ 56 := by
  unfold mx_pt
  have h1 : m / 256 ^ (mx_nb m - j) % 256 ^ (j - i) < 256 ^ (j - i) := Nat.mod_lt _ (Nat.pow_pos (by decide))
  have h2 : 256 ^ (j - i) ≤ 256 ^ 7 := Nat.pow_le_pow_right (by decide) h
  exact Nat.lt_of_lt_of_le h1 h2
theorem mx_irem {a d : Nat} (ha : a < 2 ^ 31) (h0 : 0 < d) (hd : d < 2 ^ 31) : am_irem (nI a) (nI d) = nI (a % d) := pk_rem ha h0 hd
theorem mx_p10 {j : Nat} (h : j ≤ 6) : 1 ≤ 10 ^ j ∧ 10 ^ j ≤ 1000000 := ⟨Nat.one_le_pow _ _ (by decide), show 10 ^ j ≤ 10 ^ 6 from Nat.pow_le_pow_right (by decide) h⟩
theorem am_b_c {p q : Prop} [Decidable p] [Decidable q] (h : p ↔ q) : am_b p = am_b q := by
  unfold am_b
  by_cases hp : p
  · rw [if_pos hp, if_pos (h.mp hp)]
  · rw [if_neg hp, if_neg (fun x => hp (h.mpr x))]
/-- an int between 0 and n -/
def mx_rg (t : Int32) (n : Nat) : Bool := decide (0 ≤ t.toInt ∧ t.toInt ≤ n)
theorem mx_rg_in {t : Int32} {n : Nat} (hn : n < 2 ^ 31) : (lN 0 ≤ t.toInt64 ∧ t.toInt64 ≤ lN n) ↔ mx_rg t n = true := by
  unfold mx_rg
  rw [decide_eq_true_iff, Int64.le_iff_toInt_le, Int64.le_iff_toInt_le, Int32.toInt_toInt64, pf_lI (by omega), pf_lI (by omega)]
  simp
theorem mx_rg_nI {j n : Nat} (h : j < 2 ^ 31) : mx_rg (nI j) n = true ↔ j ≤ n := by
  unfold mx_rg
  rw [decide_eq_true_iff, nI_toInt h]
  omega
theorem mx_rg_of {t : Int32} {n : Nat} (h : mx_rg t n = true) : ∃ j : Nat, j ≤ n ∧ t = nI j := by
  unfold mx_rg at h
  rw [decide_eq_true_iff] at h
  refine ⟨t.toInt.toNat, by omega, ?_⟩
  have h1 : t.toInt < 2 ^ 31 := by have := t.toInt_lt; simpa using this
  apply Int32.toInt_inj.mp
  rw [nI_toInt (by omega)]
  omega
