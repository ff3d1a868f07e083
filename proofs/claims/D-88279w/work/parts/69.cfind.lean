/-! TableWays: find -/
/-- how a search ends: the answer, how many ways, states, ends, steps, the first ways -/
abbrev fr_T : Type := Int32 × Nat × Nat × Nat × Nat × List (List Nat)
noncomputable def fd (two : Bool) (U V : tb_T) (S : se_T) : Nat → Nat → fr_T
  | 0, d => if en_c two U V (gs two S (lv two S d)).2.1 (gs two S (lv two S d)).1 ≠ 0 then (nI d, wn two U V (gs two S (lv two S d)) d 0, (gs two S (lv two S d)).1, en_c two U V (gs two S (lv two S d)).2.1 (gs two S (lv two S d)).1, d, (pth two U V (gs two S (lv two S d)) d 0).take 60) else (-1, 0, (gs two S (lv two S d)).1, en_c two U V (gs two S (lv two S d)).2.1 (gs two S (lv two S d)).1, 0, [])
  | f + 1, d => if en_c two U V (gs two S (lv two S d)).2.1 (gs two S (lv two S d)).1 ≠ 0 then (nI d, wn two U V (gs two S (lv two S d)) d 0, (gs two S (lv two S d)).1, en_c two U V (gs two S (lv two S d)).2.1 (gs two S (lv two S d)).1, d, (pth two U V (gs two S (lv two S d)) d 0).take 60) else if (gs two S (lv two S (d + 1))).2.2 = true then (-3, 0, (gs two S (lv two S (d + 1))).1, en_c two U V (gs two S (lv two S (d + 1))).2.1 (gs two S (lv two S (d + 1))).1, 0, []) else fd two U V S f (d + 1)
def se_0 (q : st_T) : se_T := (1, fun _ => (q, 0), false)
/-- a search over the tables T -/
def f_two (u : Int32) : Bool := decide (u ≠ -1)
noncomputable def f_q (T : Nat → tb_T) (t u : Int32) : st_T := (st_n (T t.toNatClampNeg), if f_two u = true then st_n (T u.toNatClampNeg) else st_0)
noncomputable def f_r (T : Nat → tb_T) (t w u v : Int32) (most : Nat) : fr_T := fd (f_two u) (T w.toNatClampNeg) (T v.toNatClampNeg) (se_0 (f_q T t u)) most 0
def f_ok (t w u v m : Int32) : Prop := mx_rg t 7 = true ∧ mx_rg w 7 = true ∧ (0 ≤ m.toInt ∧ m.toInt ≤ 3) ∧ ((u = -1 ∧ v = -1) ∨ (mx_rg u 7 = true ∧ mx_rg v 7 = true))
/-- what 'take' asks -/
def cT (two : Bool) (U V : tb_T) (S : se_T) (M D : Nat) (σ : am_S) : Prop := sd two S M D ∧ sce (ea_l two S M) σ ∧ (0 < M → ∀ s, s ≤ M → σ.1 23 0 s = nI (ea_l two S s).length) ∧ σ.1 0 0 30 = nI D ∧ ∀ s, s < S.1 → σ.2 28 0 s = lN (wn two U V S (D - (S.2.1 s).2) s)
def cF (σ : am_S) (r : fr_T) : Prop := σ.1 0 0 26 = nI r.2.2.1 ∧ σ.1 0 0 28 = nI r.2.2.2.1 ∧ σ.1 0 0 29 = nI r.2.1 ∧ r.2.1 ≤ 1000000 ∧ (r.2.1 ≠ 0 → ∃ two U V S M, cT two U V S M r.2.2.2.2.1 σ ∧ r.2.1 = wn two U V S r.2.2.2.2.1 0 ∧ r.2.2.2.2.2 = (pth two U V S r.2.2.2.2.1 0).take 60)
/-- what 'find' leaves -/
def fx (σ σ' : am_S) : Prop := (∀ t i j, ¬ ((t = 1 ∨ t = 11) ∧ 10 ≤ i) → ¬ (18 ≤ t ∧ t ≤ 28) → ¬ (t = 0 ∧ 26 ≤ j ∧ j ≤ 31) → σ'.1 t i j = σ.1 t i j) ∧ ∀ t i j, ¬ (t = 10 ∧ 10 ≤ i) → t ≠ 18 → t ≠ 28 → σ'.2 t i j = σ.2 t i j
theorem fx.tr {σ σ' σ2 : am_S} (h : fx σ σ') (h' : fx σ' σ2) : fx σ σ2 := ⟨fun t i j a b c => (h'.1 t i j a b c).trans (h.1 t i j a b c), fun t i j a b c => (h'.2 t i j a b c).trans (h.2 t i j a b c)⟩
theorem scx.fx {σ σ' : am_S} (h : scx σ σ') : fx σ σ' := ⟨fun t i j a b c => h.1 t i j a (by omega) (by omega), fun t i j a b _ => h.2 t i j a b⟩
theorem tb_c.fx {σ σ' : am_S} {i R C : Nat} {f : tb_F} (h : tb_c σ i R C f) (hf : fx σ σ') (hi : i < 10) : tb_c σ' i R C f := ⟨by rw [hf.1 1 i 0 (by omega) (by omega) (by omega)]; exact h.1, by rw [hf.1 1 i 1 (by omega) (by omega) (by omega)]; exact h.2.1, fun r c hr hc => by rw [hf.2 10 i _ (by omega) (by decide) (by decide)]; exact h.2.2 r c hr hc⟩
theorem ci.fx {σ σ' : am_S} {T : Nat → tb_T} {W : Nat → wy_T} {n : Nat} {tp : Nat → Int32} {fk fp : Int32} (h : ci σ T W n tp fk fp) (hf : fx σ σ') : ci σ' T W n tp fk fp := by
  refine ⟨fun i hi => (h.1 i hi).fx hf (by omega), fun w hw => ⟨?_, fun j hj => ?_⟩, ⟨?_, fun j hj => ?_⟩, ?_, ?_⟩
  · rw [hf.1 2 w 0 (by omega) (by omega) (by omega)]; exact (h.2.1 w hw).1
  · rw [hf.1 12 w j (by omega) (by omega) (by omega), hf.1 13 w j (by omega) (by omega) (by omega), hf.1 14 w j (by omega) (by omega) (by omega)]
    exact (h.2.1 w hw).2 j hj
  · rw [hf.1 0 0 2 (by omega) (by omega) (by omega)]; exact h.2.2.1.1
  · rw [hf.1 16 0 j (by omega) (by omega) (by omega)]; exact h.2.2.1.2 j hj
  · rw [hf.1 0 0 3 (by omega) (by omega) (by omega)]; exact h.2.2.2.1
  · rw [hf.1 0 0 4 (by omega) (by omega) (by omega)]; exact h.2.2.2.2
theorem se_0_ok {two : Bool} {q : st_T} (h : st_ok two q) : se_ok two (se_0 q) := ⟨(by show 1 ≤ 1500; decide), fun o _ => h, fun o o' h1 h2 _ => by
  have h1 : o < 1 := h1
  have h2 : o' < 1 := h2
  omega⟩
theorem se_0_add {q : st_T} : ((0 : Nat) + 1, ab_u (fun _ => (q, 0)) 0 (q, 0), false) = se_0 q := by
  refine Prod.ext rfl (Prod.ext (funext fun j => ?_) rfl)
  show (if j = 0 then (q, 0) else (q, 0)) = (q, 0)
  split <;> rfl
/-- the search at level d: all there is -/
theorem sd_gs {two : Bool} {S : se_T} (hi : se_ok two S) (h1 : S.1 = 1) (h0 : (S.2.1 0).2 = 0) {d : Nat} (hd : d ≤ 3) (hf : (gs two S (lv two S d)).2.2 = false) : sd two (gs two S (lv two S d)) (lv two S d) d := by
  have ok := gs_ok hi h1 d (lv two S d) (Nat.le_refl _) (lv_le d)
  have lo := lv_ok h1 h0 d (lv two S d) (Nat.le_refl _) (lv_le d)
  have hm : ∀ e, e ≤ d → lv two S e ≤ lv two S (e + 1) := fun e _ => lv_le e
  have hz : lv two S (d + 1) = (gs two S (lv two S d)).1 := rfl
  have hM := lv_le (two := two) (S := S) d
  have hg := gs_le (two := two) (S := S) (Nat.zero_le (lv two S d))
  have hg1 : 1 ≤ (gs two S (lv two S d)).1 := by have := hg.1; rw [show (gs two S 0).1 = 1 from h1] at this; exact this
  have top : ∀ s, s < (gs two S (lv two S d)).1 → ((gs two S (lv two S d)).2.1 s).2 ≤ d := fun s hs => by
    obtain ⟨l1, l2, l3⟩ := lo s hs
    apply Decidable.byContradiction
    intro hc
    rw [show ((gs two S (lv two S d)).2.1 s).2 = d + 1 by omega] at l2
    omega
  refine ⟨ok, by omega, by omega, fun s hs => ?_, fun s o hs ho hlt => ?_, fun s n hs hn => gs_in h1 d (lv two S d) (Nat.le_refl _) (lv_le d) hf s n hs hn, hd, ?_, top⟩
  · obtain ⟨l1, l2, l3⟩ := lo s hs
    have := top s hs
    refine ⟨fun h => ?_, fun h => ?_⟩
    · have := l3 (by omega)
      have := lv_mono hm (show ((gs two S (lv two S d)).2.1 s).2 + 1 ≤ d by omega) (by omega)
      omega
    · apply Decidable.byContradiction
      intro hc
      rw [show ((gs two S (lv two S d)).2.1 s).2 = d by omega] at l2
      omega
  · obtain ⟨l1, l2, l3⟩ := lo s hs
    obtain ⟨k1, k2, k3⟩ := lo o ho
    have := top s hs
    have := top o ho
    have := l3 (by omega)
    have := lv_mono hm (show ((gs two S (lv two S d)).2.1 s).2 + 1 ≤ ((gs two S (lv two S d)).2.1 o).2 by omega) (by omega)
    omega
  · rw [hg.2 0 (by show 0 < S.1; omega)]
    exact h0
