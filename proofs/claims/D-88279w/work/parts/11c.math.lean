/-! plain laws: a loop, bytes of a number to the base 256 -/
/-- a loop of at most N rounds: S j x is what is to be shown at its head -/
theorem am_loop {α : Type} (N : Nat) (I S : Nat → α → Prop) (hs : ∀ j x, j < N → I j x → (∀ x', I (j + 1) x' → S (j + 1) x') → S j x) (he : ∀ x, I N x → S N x) : ∀ j x, j ≤ N → I j x → S j x := by
  intro j x hj
  obtain ⟨n, hn⟩ : ∃ n, j + n = N := ⟨N - j, by omega⟩
  induction n generalizing j x with
  | zero =>
    intro hI
    have : j = N := by omega
    subst this
    exact he x hI
  | succ n ih =>
    intro hI
    exact hs j x (by omega) hI (fun x' h' => ih (j + 1) x' (by omega) (by omega) h')
def mx_nbF : Nat → Nat → Nat
  | 0, _ => 0
  | f + 1, m => if m = 0 then 0 else mx_nbF f (m / 256) + 1
/-- how many bytes -/
def mx_nb (m : Nat) : Nat := mx_nbF 8 m
theorem mx_nbF_more : ∀ (f m : Nat), m < 256 ^ f → mx_nbF (f + 1) m = mx_nbF f m := by
  intro f
  induction f with
  | zero =>
    intro m h
    have : m = 0 := by omega
    subst this
    rfl
  | succ f ih =>
    intro m h
    by_cases hm : m = 0
    · subst hm; rfl
    · have h2 : m / 256 < 256 ^ f := by
        rw [Nat.div_lt_iff_lt_mul (by decide)]
        rw [Nat.pow_succ] at h
        omega
      have h1 := ih (m / 256) h2
      show (if m = 0 then 0 else mx_nbF (f + 1) (m / 256) + 1) = (if m = 0 then 0 else mx_nbF f (m / 256) + 1)
      rw [if_neg hm, if_neg hm, h1]
theorem mx_nb_0 : mx_nb 0 = 0 := rfl
theorem mx_nb_s {m : Nat} (h0 : m ≠ 0) (h : m < 256 ^ 8) : mx_nb m = mx_nb (m / 256) + 1 := by
  have h2 : m / 256 < 256 ^ 7 := by
    rw [Nat.div_lt_iff_lt_mul (by decide)]
    omega
  have h1 := mx_nbF_more 7 (m / 256) h2
  show (if m = 0 then 0 else mx_nbF 7 (m / 256) + 1) = mx_nbF 8 (m / 256) + 1
  rw [if_neg h0, h1]
theorem mx_nbF_le : ∀ (f m k : Nat), m < 256 ^ k → mx_nbF f m ≤ k := by
  intro f
  induction f with
  | zero => intro m k _; exact Nat.zero_le _
  | succ f ih =>
    intro m k h
    show (if m = 0 then 0 else mx_nbF f (m / 256) + 1) ≤ k
    by_cases hm : m = 0
    · rw [if_pos hm]; exact Nat.zero_le _
    · rw [if_neg hm]
      cases k with
      | zero => omega
      | succ k =>
        have h2 : m / 256 < 256 ^ k := by
          rw [Nat.div_lt_iff_lt_mul (by decide)]
          rw [Nat.pow_succ] at h
          omega
        have := ih (m / 256) k h2
        omega
theorem mx_nb_le {m k : Nat} (h : m < 256 ^ k) : mx_nb m ≤ k := mx_nbF_le 8 m k h
theorem mx_nb_7 {m : Nat} (h : m < 2 ^ 56) : mx_nb m ≤ 7 := mx_nb_le (by omega)
theorem mx_nb_lt : ∀ {m : Nat}, m < 256 ^ 8 → m < 256 ^ mx_nb m := by
  intro m
  induction m using Nat.strongRecOn with
  | _ m ih =>
    intro h
    by_cases hm : m = 0
    · subst hm; decide
    · rw [mx_nb_s hm h, Nat.pow_succ]
      have h1 : m / 256 < m := Nat.div_lt_self (by omega) (by decide)
      have := ih (m / 256) h1 (by omega)
      omega
theorem mx_nb_ge : ∀ {m : Nat}, m ≠ 0 → m < 256 ^ 8 → 256 ^ (mx_nb m - 1) ≤ m := by
  intro m
  induction m using Nat.strongRecOn with
  | _ m ih =>
    intro hm h
    rw [mx_nb_s hm h]
    by_cases h2 : m / 256 = 0
    · rw [h2, mx_nb_0]
      show 1 ≤ m
      omega
    · have h1 : m / 256 < m := Nat.div_lt_self (by omega) (by decide)
      have h3 := ih (m / 256) h1 h2 (by omega)
      have h4 : mx_nb (m / 256) = (mx_nb (m / 256) - 1) + 1 := by
        rw [mx_nb_s h2 (by omega)]
        omega
      rw [show mx_nb (m / 256) + 1 - 1 = (mx_nb (m / 256) - 1) + 1 by omega, Nat.pow_succ]
      omega
theorem mx_nb_z {m : Nat} (h : m < 256 ^ 8) : mx_nb m = 0 ↔ m = 0 := by
  constructor
  · intro h1
    apply Decidable.byContradiction
    intro h2
    rw [mx_nb_s h2 h] at h1
    omega
  · intro h1
    rw [h1]
    rfl
/-- one byte more -/
theorem mx_nb_c {m c : Nat} (hc : c < 256) (h0 : m * 256 + c ≠ 0) (h : m < 256 ^ 7) : mx_nb (m * 256 + c) = mx_nb m + 1 := by
  rw [mx_nb_s h0 (by omega)]
  congr 2
  omega
/-- the byte at place i from the front -/
def mx_by (m i : Nat) : Nat := m / 256 ^ (mx_nb m - 1 - i) % 256
theorem mx_by_lt (m i : Nat) : mx_by m i < 256 := Nat.mod_lt _ (by decide)
theorem mx_pw (e : Nat) : 2 ^ (8 * e) = 256 ^ e := by
  rw [Nat.pow_mul]
theorem mx_and255 (x : Nat) : nI x &&& nI 255 = nI (x % 256) := by
  have h := pk_and (nI x) (m := nI 255) 8 (by decide +kernel)
  rw [h]
  congr 1
  show (BitVec.ofNat 32 x).toNat % 2 ^ 8 = x % 256
  rw [BitVec.toNat_ofNat]
  omega
theorem mx_lshr {m s : Nat} (hm : m < 2 ^ 62) (hs : s < 64) : am_lshr (lN m) (nI s) = lN (m / 2 ^ s) := by
  unfold am_lshr
  refine pf_shr ?_ hm
  rw [wb_c s hs, wb_tb, wb_sm s hs, BitVec.toNat_ofNat]
  omega
theorem mx_lushr {m s : Nat} (hm : m < 2 ^ 64) (hs : s < 64) : am_lushr (lN m) (nI s) = lN (m / 2 ^ s) := wb_shr hm hs
theorem mx_lshl (m : Nat) {s : Nat} (hs : s < 64) : am_lshl (lN m) (nI s) = lN (m * 2 ^ s) := wb_shl m hs
theorem mx_or8 {m c : Nat} (hc : c < 256) (h : m < 2 ^ 56) : lN (m * 256) ||| lN c = lN (m * 256 + c) := g_or (k := 8) (p := 256) (by decide) hc (by omega)
theorem mx_lN0 : lN 0 = 0 := rfl
theorem mx_l0 {m : Nat} (h : m < 2 ^ 63) : lN m = 0 ↔ m = 0 := by
  rw [← mx_lN0, pk_lEQ h (by decide)]
theorem mx_lm1 {m : Nat} (h : m < 2 ^ 63) : lN m = -1 ↔ False := by
  refine ⟨fun q => ?_, fun q => q.elim⟩
  have h1 := congrArg Int64.toInt q
  rw [pf_lI h] at h1
  have h2 : (-1 : Int64).toInt = -1 := by decide +kernel
  omega
/-- a Java boolean -/
def am_b (p : Prop) [Decidable p] : Int32 := if p then nI 1 else nI 0
theorem am_b_t {p : Prop} [Decidable p] (h : p) : am_b p = nI 1 := if_pos h
theorem am_b_f {p : Prop} [Decidable p] (h : ¬ p) : am_b p = nI 0 := if_neg h
theorem am_b_0 {p : Prop} [Decidable p] : am_b p = 0 ↔ ¬ p := by
  unfold am_b
  split
  · exact ⟨fun h => absurd h (by decide +kernel), fun h => absurd ‹p› h⟩
  · exact ⟨fun _ => ‹¬ p›, fun _ => nI_0⟩
theorem am_b_bit {p : Prop} [Decidable p] : (am_b p = nI 0 ∨ am_b p = nI 1) ↔ True := by
  unfold am_b
  split <;> simp
/-- a place, or none: -1 -/
def am_on (o : Option Nat) : Int32 := match o with
  | some i => nI i
  | none => -1
/-- the first place at which a byte is -/
def mx_find (m c : Nat) : Option Nat := (List.range (mx_nb m)).find? (fun i => mx_by m i == c)
theorem mx_find_some {m c i : Nat} (h : i < mx_nb m) (h1 : mx_by m i = c) (h2 : ∀ j, j < i → mx_by m j ≠ c) : mx_find m c = some i := by
  unfold mx_find
  rw [List.find?_range_eq_some]
  exact ⟨by simp [h1], by simpa using h, fun j hj => by simpa using h2 j hj⟩
theorem mx_find_none {m c : Nat} (h : ∀ j, j < mx_nb m → mx_by m j ≠ c) : mx_find m c = none := by
  unfold mx_find
  rw [List.find?_eq_none]
  intro i hi
  simpa using h i (List.mem_range.mp hi)
