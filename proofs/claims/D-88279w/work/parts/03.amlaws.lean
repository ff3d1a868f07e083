/-! laws of the small machine's store and numbers -/
theorem am_ri_self (σ : am_S) (t i : Nat) (f : Nat → Int32) : (am_ri σ t i f).1 t i = f := by simp [am_ri]
theorem am_ri_t {σ : am_S} {t i : Nat} {f : Nat → Int32} {t' i' : Nat} (h : t' ≠ t) : (am_ri σ t i f).1 t' i' = σ.1 t' i' := by simp [am_ri, h]
theorem am_ri_i {σ : am_S} {t i : Nat} {f : Nat → Int32} {t' i' : Nat} (h : i' ≠ i) : (am_ri σ t i f).1 t' i' = σ.1 t' i' := by simp [am_ri, h]
theorem am_ri_2 (σ : am_S) (t i : Nat) (f : Nat → Int32) : (am_ri σ t i f).2 = σ.2 := rfl
theorem am_rl_1 (σ : am_S) (t i : Nat) (f : Nat → Int64) : (am_rl σ t i f).1 = σ.1 := rfl
theorem am_rl_self (σ : am_S) (t i : Nat) (f : Nat → Int64) : (am_rl σ t i f).2 t i = f := by simp [am_rl]
theorem am_rl_t {σ : am_S} {t i : Nat} {f : Nat → Int64} {t' i' : Nat} (h : t' ≠ t) : (am_rl σ t i f).2 t' i' = σ.2 t' i' := by simp [am_rl, h]
theorem am_rl_i {σ : am_S} {t i : Nat} {f : Nat → Int64} {t' i' : Nat} (h : i' ≠ i) : (am_rl σ t i f).2 t' i' = σ.2 t' i' := by simp [am_rl, h]
theorem am_ri_ri (σ : am_S) (t i : Nat) (f g : Nat → Int32) : am_ri (am_ri σ t i f) t i g = am_ri σ t i g := by
  unfold am_ri
  refine Prod.ext ?_ rfl
  funext t' i'
  by_cases h : t' = t ∧ i' = i <;> simp [h]
theorem am_rl_rl (σ : am_S) (t i : Nat) (f g : Nat → Int64) : am_rl (am_rl σ t i f) t i g = am_rl σ t i g := by
  unfold am_rl
  refine Prod.ext rfl ?_
  funext t' i'
  by_cases h : t' = t ∧ i' = i <;> simp [h]
theorem am_rl_ri (σ : am_S) (t i t' i' : Nat) (f : Nat → Int32) (g : Nat → Int64) : am_ri (am_rl σ t i g) t' i' f = am_rl (am_ri σ t' i' f) t i g := rfl
theorem am_ri_same (σ : am_S) (t i : Nat) : am_ri σ t i (σ.1 t i) = σ := by
  unfold am_ri
  refine Prod.ext ?_ rfl
  funext t' i'
  by_cases h : t' = t ∧ i' = i <;> simp [h]
theorem am_rl_same (σ : am_S) (t i : Nat) : am_rl σ t i (σ.2 t i) = σ := by
  unfold am_rl
  refine Prod.ext rfl ?_
  funext t' i'
  by_cases h : t' = t ∧ i' = i <;> simp [h]
theorem am_i_nn (n : Nat) : am_i (no_index (OfNat.ofNat n)) = nI (OfNat.ofNat n) := rfl
theorem am_i_m1 : am_i (-1) = -1 := by decide +kernel
theorem am_c2 : am_i (-2) = -2 := by decide +kernel
theorem am_c3 : am_i (-3) = -3 := by decide +kernel
theorem am_c10 : am_i (-10) = -10 := by decide +kernel
theorem am_l_nn (n : Nat) : am_l (no_index (OfNat.ofNat n)) = lN (OfNat.ofNat n) := rfl
theorem am_l_m1 : am_l (-1) = -1 := by decide +kernel
theorem am_in {n N : Nat} (h : n < 2 ^ 31) : vp_in (nI n) N ↔ n < N := by
  rw [vp_in_iff, nI_toInt h]
  omega
theorem am_eq0 {n : Nat} (h : n < 2 ^ 31) : nI n = 0 ↔ n = 0 := by
  rw [← nI_0, nI_eq h (by omega)]
theorem am_lt0 {n : Nat} (h : n < 2 ^ 31) : nI n < 0 ↔ False := ⟨fun q => nI_pos h q, fun q => q.elim⟩
theorem am_ge0 {n : Nat} (h : n < 2 ^ 31) : 0 ≤ nI n ↔ True := ⟨fun _ => trivial, fun _ => nI_pos' h⟩
theorem am_0lt {n : Nat} (h : n < 2 ^ 31) : 0 < nI n ↔ 0 < n := by
  rw [← nI_0, nI_ltI (by omega) h]
theorem am_le0 {n : Nat} (h : n < 2 ^ 31) : nI n ≤ 0 ↔ n = 0 := by
  rw [← nI_0, nI_leI h (by omega)]
  omega
theorem am_em1 {n : Nat} (h : n < 2 ^ 31) : nI n = -1 ↔ False := by
  refine ⟨fun q => ?_, fun q => q.elim⟩
  have h1 := congrArg Int32.toInt q
  rw [nI_toInt h] at h1
  have h2 : (-1 : Int32).toInt = -1 := by decide +kernel
  omega
theorem am_m1e {n : Nat} (h : n < 2 ^ 31) : (-1 : Int32) = nI n ↔ False := by
  rw [eq_comm]
  exact am_em1 h
theorem am_cl0 : (0 : Int32).toNatClampNeg = 0 := by decide +kernel
