/-! READING A WAY as a plain thing -/
abbrev rd_E : Type := Nat × Nat
def sb {α β : Type} (x : α ⊕ rd_E) (f : α → β ⊕ rd_E) : β ⊕ rd_E := match x with
  | .inl a => f a
  | .inr e => .inr e
theorem sb_l {α β : Type} {x : α ⊕ rd_E} {f : α → β ⊕ rd_E} {a : α} (h : x = .inl a) : sb x f = f a := by rw [h]; rfl
theorem sb_r {α β : Type} {x : α ⊕ rd_E} {f : α → β ⊕ rd_E} {e : rd_E} (h : x = .inr e) : sb x f = .inr e := by rw [h]; rfl
theorem sb_inl {α β : Type} {x : α ⊕ rd_E} {f : α → β ⊕ rd_E} {c : β} (h : sb x f = .inl c) : ∃ a, x = .inl a ∧ f a = .inl c := by
  cases x with
  | inl a => exact ⟨a, rfl, h⟩
  | inr e => cases h
def rw_a (b : Nat → Nat) (n k : Nat) (ρ : lx_T) : (Nat × lx_T) ⊕ rd_E := if k = 1 ∨ k = 7 ∨ k = 9 ∨ k = 13 then .inl (0, ρ) else ab_dg b n 0 5 ρ
def rw_b (b : Nat → Nat) (n k : Nat) (ρ : lx_T) : (Nat × lx_T) ⊕ rd_E := if k = 3 ∨ k = 5 then ab_mk b n ρ else if k = 11 then ab_dg b n 0 5 ρ else .inl (0, ρ)
abbrev rw_T : Type := (lx_T × wy_T) ⊕ rd_E
def rw_st (b : Nat → Nat) (n k : Nat) (ρ : lx_T) (P : wy_T) : rw_T := if P.1 < 12 then sb (rw_a b n k (lx b n ρ.2.2)) (fun x => sb (rw_b b n k x.2) (fun y => sb (ab_sg b n 59 y.2) (fun ρ' => .inl (ρ', (P.1 + 1, ab_u P.2 P.1 (k, x.1, y.1)))))) else .inr (3, ρ.2.1)
/-- from the place fr on the m steps again and again -/
def rp (fr m : Nat) (g : Nat → Nat × Nat × Nat) : Nat → Nat × Nat × Nat := fun j => if j < fr then g j else g (fr + (j - fr) % m)
def rw_r (b : Nat → Nat) (n : Nat) (R : Nat → lx_T → wy_T → rw_T) (o : Nat) (ρ : lx_T) (P : wy_T) : rw_T := sb (ab_dg b n 1 6 (lx b n ρ.2.2)) (fun x => if x.2.1 = 3 ∧ b x.2.2.1 = 123 then (if o < 3 then sb (R (o + 1) (lx b n x.2.2.2) P) (fun z => if z.1.1 = 3 ∧ b z.1.2.1 = 125 then (if P.1 + (z.2.1 - P.1) * x.1 ≤ 12 then .inl (lx b n z.1.2.2, (P.1 + (z.2.1 - P.1) * x.1, rp P.1 (z.2.1 - P.1) z.2.2)) else .inr (3, z.1.2.1)) else .inr (1, z.1.2.1)) else .inr (3, x.2.2.1)) else .inr (1, x.2.2.1))
noncomputable def rw_w (b : Nat → Nat) (n : Nat) : Nat → Nat → lx_T → wy_T → rw_T
  | 0, _, _, _ => .inr (0, 0)
  | f + 1, o, ρ, P => if ρ.1 = 1 then (if sw b ρ = 15 then sb (rw_r b n (rw_w b n f) o ρ P) (fun z => rw_w b n f o z.1 z.2) else if sw b ρ = 0 then .inr (1, ρ.2.1) else sb (rw_st b n (sw b ρ) ρ P) (fun z => rw_w b n f o z.1 z.2)) else .inl (ρ, P)
theorem ab_sg_ok {b : Nat → Nat} {n c : Nat} {ρ ρ' : lx_T} (ho : lx_ok b n ρ) (h : ab_sg b n c ρ = .inl ρ') : lx_ok b n ρ' ∧ ρ.2.1 < ρ'.2.1 := by
  unfold ab_sg at h
  by_cases e : ρ.1 = 3 ∧ b ρ.2.1 = c
  · rw [if_pos e] at h
    cases h
    have h1 := lx_is (b := b) ho.2.1
    have h2 := ho.2.2.2.1 (by omega)
    exact ⟨h1.1, by have := h1.2; omega⟩
  · rw [if_neg e] at h; cases h
theorem ab_dg_ok {b : Nat → Nat} {n lo hi : Nat} {ρ : lx_T} {z : Nat × lx_T} (ho : lx_ok b n ρ) (h : ab_dg b n lo hi ρ = .inl z) : lx_ok b n z.2 ∧ ρ.2.1 < z.2.2.1 ∧ lo ≤ z.1 ∧ z.1 ≤ hi := by
  unfold ab_dg at h
  by_cases e : ρ.1 = 2
  · rw [if_pos e] at h
    by_cases e1 : lo ≤ b ρ.2.1 - 48 ∧ b ρ.2.1 - 48 ≤ hi
    · rw [if_pos e1] at h
      cases h
      have h1 := lx_is (b := b) ho.2.1
      have h2 := ho.2.2.2.1 (by omega)
      exact ⟨h1.1, by have := h1.2; show ρ.2.1 < (lx b n ρ.2.2).2.1; omega, e1⟩
    · rw [if_neg e1] at h; cases h
  · rw [if_neg e] at h; cases h
theorem mkx_lt (x : Nat) : mkx x < 4 := by
  unfold mkx
  split
  · decide
  · split
    · decide
    · split <;> decide
theorem ab_mk_ok {b : Nat → Nat} {n : Nat} {ρ : lx_T} {z : Nat × lx_T} (ho : lx_ok b n ρ) (h : ab_mk b n ρ = .inl z) : lx_ok b n z.2 ∧ ρ.2.1 < z.2.2.1 ∧ z.1 < 4 := by
  unfold ab_mk at h
  by_cases e : ρ.1 = 4
  · rw [if_pos e] at h
    cases h
    have h1 := lx_is (b := b) ho.2.1
    have h2 := ho.2.2.2.1 (by omega)
    exact ⟨h1.1, by have := h1.2; show ρ.2.1 < (lx b n ρ.2.2).2.1; omega, mkx_lt _⟩
  · rw [if_neg e] at h; cases h
theorem rw_a_ok {b : Nat → Nat} {n k : Nat} {ρ : lx_T} {z : Nat × lx_T} (ho : lx_ok b n ρ) (h : rw_a b n k ρ = .inl z) : lx_ok b n z.2 ∧ ρ.2.1 ≤ z.2.2.1 ∧ z.1 < 6 := by
  unfold rw_a at h
  by_cases e : k = 1 ∨ k = 7 ∨ k = 9 ∨ k = 13
  · rw [if_pos e] at h
    cases h
    exact ⟨ho, Nat.le_refl _, (show 0 < 6 by decide)⟩
  · rw [if_neg e] at h
    have := ab_dg_ok ho h
    exact ⟨this.1, by omega, by omega⟩
theorem rw_b_ok {b : Nat → Nat} {n k : Nat} {ρ : lx_T} {z : Nat × lx_T} (ho : lx_ok b n ρ) (h : rw_b b n k ρ = .inl z) : lx_ok b n z.2 ∧ ρ.2.1 ≤ z.2.2.1 ∧ z.1 < 6 := by
  unfold rw_b at h
  by_cases e : k = 3 ∨ k = 5
  · rw [if_pos e] at h
    have := ab_mk_ok ho h
    exact ⟨this.1, by omega, by omega⟩
  · rw [if_neg e] at h
    by_cases e1 : k = 11
    · rw [if_pos e1] at h
      have := ab_dg_ok ho h
      exact ⟨this.1, by omega, by omega⟩
    · rw [if_neg e1] at h
      cases h
      exact ⟨ho, Nat.le_refl _, (show 0 < 6 by decide)⟩
theorem rw_st_ok {b : Nat → Nat} {n k : Nat} {ρ : lx_T} {P : wy_T} {z : lx_T × wy_T} (hk : 1 ≤ k ∧ k ≤ 14) (ho : lx_ok b n ρ) (h0 : ρ.1 ≠ 0) (hP : wy_ok P) (h : rw_st b n k ρ P = .inl z) : lx_ok b n z.1 ∧ ρ.2.1 < z.1.2.1 ∧ wy_ok z.2 ∧ P.1 ≤ z.2.1 := by
  unfold rw_st at h
  by_cases e : P.1 < 12
  · rw [if_pos e] at h
    obtain ⟨x, hx, h⟩ := sb_inl h
    obtain ⟨y, hy, h⟩ := sb_inl h
    obtain ⟨ρ', hs, h⟩ := sb_inl h
    cases h
    have i0 := lx_is (b := b) ho.2.1
    have i1 := rw_a_ok i0.1 hx
    have i2 := rw_b_ok i1.1 hy
    have i3 := ab_sg_ok i2.1 hs
    have i4 := ho.2.2.2.1 h0
    refine ⟨i3.1, by show ρ.2.1 < ρ'.2.1; have := i0.2; omega, ⟨by show P.1 + 1 ≤ 12; omega, fun j hj => ?_⟩, Nat.le_succ _⟩
    have hj : j < P.1 + 1 := hj
    show 1 ≤ (ab_u P.2 P.1 (k, x.1, y.1) j).1 ∧ (ab_u P.2 P.1 (k, x.1, y.1) j).1 ≤ 14 ∧ (ab_u P.2 P.1 (k, x.1, y.1) j).2.1 < 6 ∧ (ab_u P.2 P.1 (k, x.1, y.1) j).2.2 < 6
    by_cases ej : j = P.1
    · rw [ej, ab_us]; exact ⟨hk.1, hk.2, i1.2.2, i2.2.2⟩
    · rw [ab_un ej]; exact hP.2 j (by omega)
  · rw [if_neg e] at h; cases h
theorem rw_r_ok {b : Nat → Nat} {n o : Nat} {R : Nat → lx_T → wy_T → rw_T} {ρ : lx_T} {P : wy_T} {z : lx_T × wy_T} (hR : ∀ o ρ P z, lx_ok b n ρ → wy_ok P → R o ρ P = .inl z → lx_ok b n z.1 ∧ ρ.2.1 ≤ z.1.2.1 ∧ wy_ok z.2 ∧ P.1 ≤ z.2.1) (ho : lx_ok b n ρ) (h0 : ρ.1 ≠ 0) (hP : wy_ok P) (h : rw_r b n R o ρ P = .inl z) : lx_ok b n z.1 ∧ ρ.2.1 < z.1.2.1 ∧ wy_ok z.2 ∧ P.1 ≤ z.2.1 := by
  obtain ⟨x, hx, h⟩ := sb_inl h
  by_cases e : x.2.1 = 3 ∧ b x.2.2.1 = 123
  · rw [if_pos e] at h
    by_cases e1 : o < 3
    · rw [if_pos e1] at h
      obtain ⟨y, hy, h⟩ := sb_inl h
      by_cases e2 : y.1.1 = 3 ∧ b y.1.2.1 = 125
      · rw [if_pos e2] at h
        by_cases e3 : P.1 + (y.2.1 - P.1) * x.1 ≤ 12
        · rw [if_pos e3] at h
          cases h
          have i0 := lx_is (b := b) ho.2.1
          have i4 := ho.2.2.2.1 h0
          have i1 := ab_dg_ok i0.1 hx
          have i2 := lx_is (b := b) i1.1.2.1
          have i3 := hR _ _ _ _ i2.1 hP hy
          have i5 := lx_is (b := b) i3.1.2.1
          have i6 := i1.1.2.2.2.1 (by omega)
          have i7 := i3.1.2.2.2.1 (by omega)
          refine ⟨i5.1, ?_, ⟨e3, fun j hj => ?_⟩, Nat.le_add_right _ _⟩
          · show ρ.2.1 < (lx b n y.1.2.2).2.1
            have := i0.2; have := i2.2; have := i5.2
            omega
          · have hj : j < P.1 + (y.2.1 - P.1) * x.1 := hj
            show 1 ≤ (rp P.1 (y.2.1 - P.1) y.2.2 j).1 ∧ (rp P.1 (y.2.1 - P.1) y.2.2 j).1 ≤ 14 ∧ (rp P.1 (y.2.1 - P.1) y.2.2 j).2.1 < 6 ∧ (rp P.1 (y.2.1 - P.1) y.2.2 j).2.2 < 6
            unfold rp
            by_cases ej : j < P.1
            · rw [if_pos ej]
              exact i3.2.2.1.2 j (by have := i3.2.2.2; omega)
            · rw [if_neg ej]
              by_cases em : y.2.1 - P.1 = 0
              · rw [em, Nat.zero_mul] at hj; omega
              · have := Nat.mod_lt (j - P.1) (show 0 < y.2.1 - P.1 by omega)
                exact i3.2.2.1.2 _ (by omega)
        · rw [if_neg e3] at h; cases h
      · rw [if_neg e2] at h; cases h
    · rw [if_neg e1] at h; cases h
  · rw [if_neg e] at h; cases h
theorem rw_w_ok {b : Nat → Nat} {n : Nat} : ∀ {f o : Nat} {ρ : lx_T} {P : wy_T} {z : lx_T × wy_T}, lx_ok b n ρ → wy_ok P → rw_w b n f o ρ P = .inl z → lx_ok b n z.1 ∧ ρ.2.1 ≤ z.1.2.1 ∧ wy_ok z.2 ∧ P.1 ≤ z.2.1 := by
  intro f
  induction f with
  | zero => intro o ρ P z _ _ h; cases h
  | succ f ih =>
    intro o ρ P z ho hP h
    have h : (if ρ.1 = 1 then (if sw b ρ = 15 then sb (rw_r b n (rw_w b n f) o ρ P) (fun z => rw_w b n f o z.1 z.2) else if sw b ρ = 0 then .inr (1, ρ.2.1) else sb (rw_st b n (sw b ρ) ρ P) (fun z => rw_w b n f o z.1 z.2)) else .inl (ρ, P)) = Sum.inl z := h
    by_cases e : ρ.1 = 1
    · rw [if_pos e] at h
      by_cases e1 : sw b ρ = 15
      · rw [if_pos e1] at h
        obtain ⟨y, hy, h⟩ := sb_inl h
        have i1 := rw_r_ok (fun o ρ P z a c d => ih a c d) ho (by omega) hP hy
        have i2 := ih i1.1 i1.2.2.1 h
        exact ⟨i2.1, by omega, i2.2.2.1, by omega⟩
      · rw [if_neg e1] at h
        by_cases e2 : sw b ρ = 0
        · rw [if_pos e2] at h; cases h
        · rw [if_neg e2] at h
          obtain ⟨y, hy, h⟩ := sb_inl h
          have := sw_le b ρ
          have i1 := rw_st_ok ⟨by omega, by omega⟩ ho (by omega) hP hy
          have i2 := ih i1.1 i1.2.2.1 h
          exact ⟨i2.1, by omega, i2.2.2.1, by omega⟩
    · rw [if_neg e] at h
      cases h
      exact ⟨ho, Nat.le_refl _, hP, Nat.le_refl _⟩
