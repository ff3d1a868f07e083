/-! TABLES as plain things: rows, columns, cells; how each class holds one -/
abbrev tb_F : Type := Nat → Nat → Int64
abbrev tb_T : Type := Nat × Nat × tb_F
/-- the number of a text cell -/
def tb_n (v : Int64) : Nat := v.toInt.toNat
theorem tb_n_l {m : Nat} (h : m < 2 ^ 63) : tb_n (lN m) = m := by
  unfold tb_n
  rw [pk_lT h]
  omega
/-- no byte is 0 -/
def tb_nz (m : Nat) : Prop := ∀ i, i < mx_nb m → mx_by m i ≠ 0
def tb_tc (v : Int64) : Prop := ∃ m : Nat, v = lN m ∧ m < 2 ^ 56 ∧ tb_nz m
def tb_cl (v : Int64) : Prop := v = -1 ∨ tb_tc v
def tb_sz (R C : Nat) : Prop := 1 ≤ R ∧ R ≤ 12 ∧ 1 ≤ C ∧ C ≤ 6
def tb_ok (R C : Nat) (f : tb_F) : Prop := tb_sz R C ∧ ∀ r c, r < R → c < C → tb_cl (f r c)
def tb_tx (R C : Nat) (f : tb_F) : Prop := tb_sz R C ∧ ∀ r c, r < R → c < C → tb_tc (f r c)
theorem tb_tc.n {v : Int64} (h : tb_tc v) : v = lN (tb_n v) ∧ tb_n v < 2 ^ 56 ∧ tb_nz (tb_n v) := by
  obtain ⟨m, rfl, h1, h2⟩ := h
  rw [tb_n_l (by omega)]
  exact ⟨rfl, h1, h2⟩
/-- the component's table at place i -/
def tb_c (σ : am_S) (i R C : Nat) (f : tb_F) : Prop := σ.1 1 i 0 = nI R ∧ σ.1 1 i 1 = nI C ∧ ∀ r c, r < R → c < C → σ.2 10 i (C * r + c) = f r c
/-- the model's table at place p: beyond it all is 0 -/
def tb_z (R C : Nat) (f : tb_F) : tb_F := fun r c => if r < R ∧ c < C then f r c else 0
def tb_m (σ : am_S) (p R C : Nat) (f : tb_F) : Prop := σ.1 30 0 p = nI R ∧ σ.1 31 0 p = nI C ∧ ∀ r c, r < 12 → c < 6 → σ.2 32 0 (72 * p + 6 * r + c) = tb_z R C f r c
theorem tb_z_in {R C : Nat} {f : tb_F} {r c : Nat} (h1 : r < R) (h2 : c < C) : tb_z R C f r c = f r c := if_pos ⟨h1, h2⟩
theorem tb_z_out {R C : Nat} {f : tb_F} {r c : Nat} (h : ¬ (r < R ∧ c < C)) : tb_z R C f r c = 0 := if_neg h
/-- one cell is set -/
def tb_u (g : tb_F) (r c : Nat) (v : Int64) : tb_F := fun r' c' => if r' = r ∧ c' = c then v else g r' c'
theorem tb_us {g : tb_F} {r c : Nat} {v : Int64} : tb_u g r c v r c = v := if_pos ⟨rfl, rfl⟩
theorem tb_un {g : tb_F} {r c r' c' : Nat} {v : Int64} (h : ¬ (r' = r ∧ c' = c)) : tb_u g r c v r' c' = g r' c' := if_neg h
theorem tb_ix {R C r c : Nat} (h : r < R) (h2 : c < C) : C * r + c < R * C := by
  have h3 : C * (r + 1) ≤ C * R := Nat.mul_le_mul_left _ h
  rw [Nat.mul_succ] at h3
  rw [Nat.mul_comm R C]
  omega
theorem tb_72 {R C r c : Nat} (hR : R ≤ 12) (hC : C ≤ 6) (h : r < R) (h2 : c < C) : C * r + c < 72 := by
  have h3 := tb_ix h h2
  have h4 : R * C ≤ 12 * 6 := Nat.mul_le_mul hR hC
  omega
theorem tb_rc {R C : Nat} (hR : R ≤ 12) (hC : C ≤ 6) : R * C ≤ 72 := Nat.mul_le_mul hR hC
theorem tb_ij {C r c r' c' : Nat} (h : c < C) (h' : c' < C) (e : C * r + c = C * r' + c') : r = r' ∧ c = c' := by
  have hC : 0 < C := by omega
  have e1 : (C * r + c) / C = r := by rw [Nat.mul_add_div hC, Nat.div_eq_of_lt h, Nat.add_zero]
  have e2 : (C * r' + c') / C = r' := by rw [Nat.mul_add_div hC, Nat.div_eq_of_lt h', Nat.add_zero]
  have e3 : r = r' := by rw [← e1, ← e2, e]
  subst e3
  exact ⟨rfl, by omega⟩
/-- what a step of the component leaves: all but its table n -/
def tb_fc (n : Nat) (σ σ' : am_S) : Prop := (∀ t i j, ¬ (t = 1 ∧ i = n ∧ j < 2) → ¬ (t = 11 ∧ i = n) → σ'.1 t i j = σ.1 t i j) ∧ ∀ t i j, ¬ (t = 10 ∧ i = n) → σ'.2 t i j = σ.2 t i j
/-- what a step of the model leaves: all but the place MADE and the numbers of rows -/
def tb_fm (σ σ' : am_S) : Prop := (∀ t i j, t ≠ 33 → t ≠ 34 → t ≠ 35 → ¬ (t = 30 ∧ j = 10) → ¬ (t = 31 ∧ j = 10) → σ'.1 t i j = σ.1 t i j) ∧ ∀ t i j, ¬ (t = 32 ∧ 720 ≤ j ∧ j < 792) → σ'.2 t i j = σ.2 t i j
theorem tb_fc.rf (n : Nat) (σ : am_S) : tb_fc n σ σ := ⟨fun _ _ _ _ _ => rfl, fun _ _ _ _ => rfl⟩
theorem tb_fm.rf (σ : am_S) : tb_fm σ σ := ⟨fun _ _ _ _ _ _ _ _ => rfl, fun _ _ _ _ => rfl⟩
theorem tb_fc.tr {n : Nat} {σ σ' σ2 : am_S} (h : tb_fc n σ σ') (h' : tb_fc n σ' σ2) : tb_fc n σ σ2 := ⟨fun t i j a b => (h'.1 t i j a b).trans (h.1 t i j a b), fun t i j a => (h'.2 t i j a).trans (h.2 t i j a)⟩
theorem tb_fm.tr {σ σ' σ2 : am_S} (h : tb_fm σ σ') (h' : tb_fm σ' σ2) : tb_fm σ σ2 := ⟨fun t i j a b c d e => (h'.1 t i j a b c d e).trans (h.1 t i j a b c d e), fun t i j a => (h'.2 t i j a).trans (h.2 t i j a)⟩
theorem am_ri_at (σ : am_S) (t i : Nat) (f : Nat → Int32) (t' i' j : Nat) : (am_ri σ t i f).1 t' i' j = if t' = t ∧ i' = i then f j else σ.1 t' i' j := by
  show (if t' = t ∧ i' = i then f else σ.1 t' i') j = _
  split <;> rfl
theorem am_rl_at (σ : am_S) (t i : Nat) (f : Nat → Int64) (t' i' j : Nat) : (am_rl σ t i f).2 t' i' j = if t' = t ∧ i' = i then f j else σ.2 t' i' j := by
  show (if t' = t ∧ i' = i then f else σ.2 t' i') j = _
  split <;> rfl
theorem tb_fc.cells {n : Nat} {σ : am_S} (f : Nat → Int64) : tb_fc n σ (am_rl σ 10 n f) := ⟨fun _ _ _ _ _ => rfl, fun t i j h => by rw [am_rl_at, if_neg h]⟩
theorem tb_fc.ord {n : Nat} {σ : am_S} (f : Nat → Int32) : tb_fc n σ (am_ri σ 11 n f) := ⟨fun t i j _ h => by rw [am_ri_at, if_neg h], fun _ _ _ _ => rfl⟩
theorem tb_fc.size {n : Nat} {σ : am_S} (a b : Int32) : tb_fc n σ (am_ri σ 1 n (upd (upd (σ.1 1 n) 0 a) 1 b)) := ⟨fun t i j h _ => by
  rw [am_ri_at]
  by_cases e : t = 1 ∧ i = n
  · rw [if_pos e, pk_un (fun q => h ⟨e.1, e.2, by omega⟩), pk_un (fun q => h ⟨e.1, e.2, by omega⟩), e.1, e.2]
  · rw [if_neg e], fun _ _ _ _ => rfl⟩
theorem tb_c.fc {n : Nat} {σ σ' : am_S} {i R C : Nat} {f : tb_F} (h : tb_c σ i R C f) (hf : tb_fc n σ σ') (hi : i ≠ n) : tb_c σ' i R C f := by
  refine ⟨?_, ?_, fun r c hr hc => ?_⟩
  · rw [hf.1 1 i 0 (fun e => hi e.2.1) (fun e => by omega)]; exact h.1
  · rw [hf.1 1 i 1 (fun e => hi e.2.1) (fun e => by omega)]; exact h.2.1
  · rw [hf.2 10 i _ (fun e => hi e.2)]; exact h.2.2 r c hr hc
theorem tb_m.fm {σ σ' : am_S} {p R C : Nat} {f : tb_F} (h : tb_m σ p R C f) (hf : tb_fm σ σ') (hp : p < 12) (h10 : p ≠ 10) : tb_m σ' p R C f := by
  refine ⟨?_, ?_, fun r c hr hc => ?_⟩
  · rw [hf.1 30 0 p (by decide) (by decide) (by decide) (fun e => h10 e.2) (fun e => h10 e.2)]; exact h.1
  · rw [hf.1 31 0 p (by decide) (by decide) (by decide) (fun e => h10 e.2) (fun e => h10 e.2)]; exact h.2.1
  · rw [hf.2 32 0 _ (fun e => by omega)]; exact h.2.2 r c hr hc
/-- a step of the component at work: the table i, and what its table n holds -/
def tb_wc (σ0 : am_S) (i n R C : Nat) (f : tb_F) (R' C' : Nat) (g : tb_F) (σ : am_S) : Prop := tb_fc n σ0 σ ∧ i ≠ n ∧ σ.1 1 i 0 = nI R ∧ σ.1 1 i 1 = nI C ∧ (∀ r c, r < R → c < C → σ.2 10 i (C * r + c) = f r c) ∧ σ.1 1 n 0 = nI R' ∧ σ.1 1 n 1 = nI C' ∧ ∀ r c, r < R' → c < C' → σ.2 10 n (C' * r + c) = g r c
section TBC
variable {σ0 σ : am_S} {i n R C R' C' : Nat} {f g : tb_F}
theorem tb_wc.fr (h : tb_wc σ0 i n R C f R' C' g σ) : tb_fc n σ0 σ := h.1
theorem tb_wc.ne (h : tb_wc σ0 i n R C f R' C' g σ) : i ≠ n := h.2.1
theorem tb_wc.hR (h : tb_wc σ0 i n R C f R' C' g σ) : σ.1 1 i 0 = nI R := h.2.2.1
theorem tb_wc.hC (h : tb_wc σ0 i n R C f R' C' g σ) : σ.1 1 i 1 = nI C := h.2.2.2.1
theorem tb_wc.at (h : tb_wc σ0 i n R C f R' C' g σ) {r c : Nat} (hr : r < R) (hc : c < C) : σ.2 10 i (C * r + c) = f r c := h.2.2.2.2.1 r c hr hc
theorem tb_wc.R1 (h : tb_wc σ0 i n R C f R' C' g σ) : σ.1 1 n 0 = nI R' := h.2.2.2.2.2.1
theorem tb_wc.C1 (h : tb_wc σ0 i n R C f R' C' g σ) : σ.1 1 n 1 = nI C' := h.2.2.2.2.2.2.1
theorem tb_wc.at1 (h : tb_wc σ0 i n R C f R' C' g σ) {r c : Nat} (hr : r < R') (hc : c < C') : σ.2 10 n (C' * r + c) = g r c := h.2.2.2.2.2.2.2 r c hr hc
theorem tb_wc.src (h : tb_wc σ0 i n R C f R' C' g σ) : tb_c σ i R C f := ⟨h.hR, h.hC, h.2.2.2.2.1⟩
theorem tb_wc.begin (hf : tb_fc n σ0 σ) (hi : i ≠ n) (hc : tb_c σ i R C f) {z : Nat → Int64} (hz : ∀ q, q < R' * C' → z q = 0) : tb_wc σ0 i n R C f R' C' (fun _ _ => 0) (am_rl (am_ri σ 1 n (upd (upd (σ.1 1 n) 0 (nI R')) 1 (nI C'))) 10 n z) := by
  have hc' := (hc.fc (tb_fc.size (nI R') (nI C')) hi).fc (tb_fc.cells z) hi
  refine ⟨(hf.tr (tb_fc.size _ _)).tr (tb_fc.cells z), hi, hc'.1, hc'.2.1, hc'.2.2, ?_, ?_, fun r c hr hc => ?_⟩
  · rw [am_rl_1, am_ri_self, pk_un (by decide), pk_us]
  · rw [am_rl_1, am_ri_self, pk_us]
  · rw [am_rl_self]; exact hz _ (tb_ix hr hc)
theorem tb_wc.take (hf : tb_fc n σ0 σ) (hi : i ≠ n) (hc : tb_c σ i R C f) {z : Nat → Int64} (hz : ∀ q, q < R * C → z q = σ.2 10 i q) : tb_wc σ0 i n R C f R C f (am_rl (am_ri σ 1 n (upd (upd (σ.1 1 n) 0 (nI R)) 1 (nI C))) 10 n z) := by
  have hc' := (hc.fc (tb_fc.size (nI R) (nI C)) hi).fc (tb_fc.cells z) hi
  refine ⟨(hf.tr (tb_fc.size _ _)).tr (tb_fc.cells z), hi, hc'.1, hc'.2.1, hc'.2.2, ?_, ?_, fun r c hr hc1 => ?_⟩
  · rw [am_rl_1, am_ri_self, pk_un (by decide), pk_us]
  · rw [am_rl_1, am_ri_self, pk_us]
  · rw [am_rl_self, hz _ (tb_ix hr hc1)]; exact hc.2.2 r c hr hc1
theorem tb_wc.set (h : tb_wc σ0 i n R C f R' C' g σ) {r c : Nat} (hr : r < R') (hc : c < C') (v : Int64) : tb_wc σ0 i n R C f R' C' (tb_u g r c v) (am_rl σ 10 n (vp_updL (σ.2 10 n) (C' * r + c) v)) := by
  have hc' := h.src.fc (tb_fc.cells (vp_updL (σ.2 10 n) (C' * r + c) v)) h.ne
  refine ⟨h.fr.tr (tb_fc.cells _), h.ne, hc'.1, hc'.2.1, hc'.2.2, h.R1, h.C1, fun r' c' hr' hc1 => ?_⟩
  rw [am_rl_self]
  by_cases e : r' = r ∧ c' = c
  · rw [e.1, e.2, pk_uLs, tb_us]
  · rw [tb_un e, pk_uLn (fun q => e (tb_ij hc1 hc q))]
    exact h.at1 hr' hc1
theorem tb_wc.ord (h : tb_wc σ0 i n R C f R' C' g σ) (o : Nat → Int32) : tb_wc σ0 i n R C f R' C' g (am_ri σ 11 n o) := by
  have hc' := h.src.fc (tb_fc.ord o) h.ne
  refine ⟨h.fr.tr (tb_fc.ord _), h.ne, hc'.1, hc'.2.1, hc'.2.2, ?_, ?_, h.2.2.2.2.2.2.2⟩
  · rw [am_ri_t (by decide)]; exact h.R1
  · rw [am_ri_t (by decide)]; exact h.C1
theorem tb_wc.done (h : tb_wc σ0 i n R C f R' C' g σ) {u : tb_F} (he : ∀ r c, r < R' → c < C' → g r c = u r c) : tb_c σ n R' C' u := ⟨h.R1, h.C1, fun r c hr hc => (h.at1 hr hc).trans (he r c hr hc)⟩
end TBC
/-- a step of the model at work: the table p, and what the place MADE holds -/
def tb_wm (σ0 : am_S) (p R C : Nat) (f : tb_F) (R' C' : Nat) (g : tb_F) (σ : am_S) : Prop := tb_fm σ0 σ ∧ p < 10 ∧ σ.1 4 0 3 = nI p ∧ σ.1 4 0 4 = nI R ∧ tb_m σ p R C f ∧ σ.1 30 0 10 = nI R' ∧ σ.1 31 0 10 = nI C' ∧ ∀ r c, r < 12 → c < 6 → σ.2 32 0 (720 + 6 * r + c) = g r c
section TBM
variable {σ0 σ : am_S} {p R C R' C' : Nat} {f g : tb_F}
theorem tb_fm.made (a b : Int32) {z : Nat → Int64} (hz : ∀ q, ¬ (720 ≤ q ∧ q < 792) → z q = σ.2 32 0 q) : tb_fm σ (am_rl (am_ri (am_ri σ 30 0 (upd (σ.1 30 0) 10 a)) 31 0 (upd (σ.1 31 0) 10 b)) 32 0 z) := by
  refine ⟨fun t i j _ _ _ h4 h5 => ?_, fun t i j h => ?_⟩
  · rw [am_rl_1, am_ri_at, am_ri_at]
    by_cases e : t = 31 ∧ i = 0
    · rw [if_pos e, pk_un (fun q => h5 ⟨e.1, q⟩), e.1, e.2]
    · rw [if_neg e]
      by_cases e2 : t = 30 ∧ i = 0
      · rw [if_pos e2, pk_un (fun q => h4 ⟨e2.1, q⟩), e2.1, e2.2]
      · rw [if_neg e2]
  · rw [am_rl_at]
    by_cases e : t = 32 ∧ i = 0
    · rw [if_pos e, hz j (fun q => h ⟨e.1, q⟩), e.1, e.2]
    · rw [if_neg e]
      rfl
theorem tb_fm.cell (r c : Nat) (hr : r < 12) (hc : c < 6) (v : Int64) : tb_fm σ (am_rl σ 32 0 (vp_updL (σ.2 32 0) (720 + 6 * r + c) v)) := by
  refine ⟨fun _ _ _ _ _ _ _ _ => rfl, fun t i j h => ?_⟩
  rw [am_rl_at]
  by_cases e : t = 32 ∧ i = 0
  · rw [if_pos e, pk_uLn (fun q => h ⟨e.1, by omega, by omega⟩), e.1, e.2]
  · rw [if_neg e]
theorem tb_fm.nums {t : Nat} (ht : t = 33 ∨ t = 34 ∨ t = 35) (o : Nat → Int32) : tb_fm σ (am_ri σ t 0 o) := by
  refine ⟨fun t' i j h1 h2 h3 _ _ => ?_, fun _ _ _ _ => rfl⟩
  rw [am_ri_at, if_neg]
  intro e
  omega
theorem tb_wm.fr (h : tb_wm σ0 p R C f R' C' g σ) : tb_fm σ0 σ := h.1
theorem tb_wm.p10 (h : tb_wm σ0 p R C f R' C' g σ) : p < 10 := h.2.1
theorem tb_wm.hp (h : tb_wm σ0 p R C f R' C' g σ) : σ.1 4 0 3 = nI p := h.2.2.1
theorem tb_wm.hR (h : tb_wm σ0 p R C f R' C' g σ) : σ.1 4 0 4 = nI R := h.2.2.2.1
theorem tb_wm.src (h : tb_wm σ0 p R C f R' C' g σ) : tb_m σ p R C f := h.2.2.2.2.1
theorem tb_m.at {p R C : Nat} {f : tb_F} (h : tb_m σ p R C f) (hR : R ≤ 12) (hC : C ≤ 6) {r c : Nat} (hr : r < R) (hc : c < C) : σ.2 32 0 (72 * p + 6 * r + c) = f r c := (h.2.2 r c (by omega) (by omega)).trans (tb_z_in hr hc)
theorem tb_wm.at (h : tb_wm σ0 p R C f R' C' g σ) (hR : R ≤ 12) (hC : C ≤ 6) {r c : Nat} (hr : r < R) (hc : c < C) : σ.2 32 0 (72 * p + 6 * r + c) = f r c := h.src.at hR hC hr hc
theorem tb_wm.at1 (h : tb_wm σ0 p R C f R' C' g σ) {r c : Nat} (hr : r < 12) (hc : c < 6) : σ.2 32 0 (720 + 6 * r + c) = g r c := h.2.2.2.2.2.2.2 r c hr hc
theorem tb_wm.shape (hf : tb_fm σ0 σ) (hp : p < 10) (h1 : σ.1 4 0 3 = nI p) (h2 : σ.1 4 0 4 = nI R) (hc : tb_m σ p R C f) : tb_wm σ0 p R C f R' C' (fun _ _ => 0) (am_rl (am_ri (am_ri σ 30 0 (upd (σ.1 30 0) 10 (nI R'))) 31 0 (upd (σ.1 31 0) 10 (nI C'))) 32 0 (mk_z (σ.2 32 0) 10)) := by
  have hF : tb_fm σ (am_rl (am_ri (am_ri σ 30 0 (upd (σ.1 30 0) 10 (nI R'))) 31 0 (upd (σ.1 31 0) 10 (nI C'))) 32 0 (mk_z (σ.2 32 0) 10)) := tb_fm.made (nI R') (nI C') (fun q hq => if_neg (fun e => hq ⟨by omega, by omega⟩))
  refine ⟨hf.tr hF, hp, ?_, ?_, hc.fm hF (by omega) (by omega), ?_, ?_, fun r c hr hc => ?_⟩
  · rw [hF.1 4 0 3 (by decide) (by decide) (by decide) (by decide) (by decide)]; exact h1
  · rw [hF.1 4 0 4 (by decide) (by decide) (by decide) (by decide) (by decide)]; exact h2
  · rw [am_rl_1, am_ri_t (by decide), am_ri_self, pk_us]
  · rw [am_rl_1, am_ri_self, pk_us]
  · rw [am_rl_self]; exact if_pos ⟨by omega, by omega⟩
theorem tb_wm.become (hf : tb_fm σ0 σ) (hp : p < 10) (h1 : σ.1 4 0 3 = nI p) (h2 : σ.1 4 0 4 = nI R) (hc : tb_m σ p R C f) : tb_wm σ0 p R C f R C (tb_z R C f) (am_rl (am_ri (am_ri σ 30 0 (upd (σ.1 30 0) 10 (σ.1 30 0 p))) 31 0 (upd (σ.1 31 0) 10 (σ.1 31 0 p))) 32 0 (mk_cp (σ.2 32 0) 10 p)) := by
  have hF : tb_fm σ (am_rl (am_ri (am_ri σ 30 0 (upd (σ.1 30 0) 10 (σ.1 30 0 p))) 31 0 (upd (σ.1 31 0) 10 (σ.1 31 0 p))) 32 0 (mk_cp (σ.2 32 0) 10 p)) := tb_fm.made _ _ (fun q hq => pk_cpy_out (by omega))
  refine ⟨hf.tr hF, hp, ?_, ?_, hc.fm hF (by omega) (by omega), ?_, ?_, fun r c hr hc1 => ?_⟩
  · rw [hF.1 4 0 3 (by decide) (by decide) (by decide) (by decide) (by decide)]; exact h1
  · rw [hF.1 4 0 4 (by decide) (by decide) (by decide) (by decide) (by decide)]; exact h2
  · rw [am_rl_1, am_ri_t (by decide), am_ri_self, pk_us]; exact hc.1
  · rw [am_rl_1, am_ri_self, pk_us]; exact hc.2.1
  · rw [am_rl_self]
    unfold mk_cp
    rw [pk_cpy_in (by omega) (by omega), ← hc.2.2 r c hr hc1]
    exact congrArg _ (by omega)
theorem tb_wm.put (h : tb_wm σ0 p R C f R' C' g σ) {r c : Nat} (hr : r < 12) (hc : c < 6) (v : Int64) : tb_wm σ0 p R C f R' C' (tb_u g r c v) (am_rl σ 32 0 (vp_updL (σ.2 32 0) (720 + 6 * r + c) v)) := by
  have hF : tb_fm σ (am_rl σ 32 0 (vp_updL (σ.2 32 0) (720 + 6 * r + c) v)) := tb_fm.cell r c hr hc v
  have h10 := h.p10
  refine ⟨h.fr.tr hF, h10, h.hp, h.hR, h.src.fm hF (by omega) (by omega), h.2.2.2.2.2.1, h.2.2.2.2.2.2.1, fun r' c' hr' hc1 => ?_⟩
  rw [am_rl_self]
  by_cases e : r' = r ∧ c' = c
  · rw [e.1, e.2, pk_uLs, tb_us]
  · rw [tb_un e, pk_uLn (fun q => e ⟨by omega, by omega⟩)]
    exact h.at1 hr' hc1
theorem tb_wm.nums (h : tb_wm σ0 p R C f R' C' g σ) {t : Nat} (ht : t = 33 ∨ t = 34 ∨ t = 35) (o : Nat → Int32) : tb_wm σ0 p R C f R' C' g (am_ri σ t 0 o) := by
  have hF : tb_fm σ (am_ri σ t 0 o) := tb_fm.nums ht o
  have h10 := h.p10
  refine ⟨h.fr.tr hF, h10, ?_, ?_, h.src.fm hF (by omega) (by omega), ?_, ?_, h.2.2.2.2.2.2.2⟩
  · rw [am_ri_t (by omega)]; exact h.hp
  · rw [am_ri_t (by omega)]; exact h.hR
  · rw [am_ri_t (by omega)]; exact h.2.2.2.2.2.1
  · rw [am_ri_t (by omega)]; exact h.2.2.2.2.2.2.1
theorem tb_wm.done (h : tb_wm σ0 p R C f R' C' g σ) {u : tb_F} (he : ∀ r c, r < 12 → c < 6 → g r c = tb_z R' C' u r c) : tb_m σ 10 R' C' u := ⟨h.2.2.2.2.2.1, h.2.2.2.2.2.2.1, fun r c hr hc => (h.at1 hr hc).trans (he r c hr hc)⟩
/-- the start of a step: nothing is known of MADE -/
theorem tb_wm.lk (h : tb_m σ p R C f) (hR : R ≤ 12) (hC : C ≤ 6) {r s n : Nat} (hr : r < R) (hs : s < R) (hn : n ≤ C) : mk_lk (σ.2 32 0) p r s n ↔ ∀ c, c < n → f r c = f s c := by
  constructor
  · intro h1 c hc
    have := h1 c hc
    rwa [h.at hR hC hr (by omega), h.at hR hC hs (by omega)] at this
  · intro h1 c hc
    rw [h.at hR hC hr (by omega), h.at hR hC hs (by omega)]
    exact h1 c hc
end TBM
/-- rows that are chosen, in their order -/
noncomputable def tb_L (P : Nat → Prop) : Nat → List Nat
  | 0 => []
  | n + 1 => @ite _ (P n) (Classical.propDecidable _) (tb_L P n ++ [n]) (tb_L P n)
section TBL
variable {P : Nat → Prop} {n : Nat}
theorem tb_L_t (h : P n) : tb_L P (n + 1) = tb_L P n ++ [n] := if_pos h
theorem tb_L_f (h : ¬ P n) : tb_L P (n + 1) = tb_L P n := if_neg h
theorem tb_g1 {l : List Nat} {x j : Nat} (h : j < l.length) : (l ++ [x]).getD j 0 = l.getD j 0 := by
  rw [List.getD_eq_getElem?_getD, List.getD_eq_getElem?_getD, List.getElem?_append_left h]
theorem tb_g2 {l : List Nat} {x : Nat} : (l ++ [x]).getD l.length 0 = x := by
  rw [List.getD_eq_getElem?_getD, List.getElem?_append_right (Nat.le_refl _), Nat.sub_self]
  rfl
theorem tb_L_le (P : Nat → Prop) (n : Nat) : (tb_L P n).length ≤ n := by
  induction n with
  | zero => exact Nat.le_refl _
  | succ n ih =>
    by_cases h : P n
    · rw [tb_L_t h, List.length_append]; exact Nat.succ_le_succ ih
    · rw [tb_L_f h]; omega
theorem tb_L_len1 (P : Nat → Prop) (n : Nat) : (tb_L P n).length ≤ (tb_L P (n + 1)).length ∧ (tb_L P (n + 1)).length ≤ (tb_L P n).length + 1 := by
  by_cases h : P n
  · rw [tb_L_t h, List.length_append]; exact ⟨Nat.le_succ _, Nat.le_refl _⟩
  · rw [tb_L_f h]; omega
theorem tb_L_mon (P : Nat → Prop) {n m : Nat} (h : n ≤ m) : (tb_L P n).length ≤ (tb_L P m).length := by
  induction m with
  | zero => rw [show n = 0 by omega]; exact Nat.le_refl _
  | succ m ih =>
    by_cases e : n = m + 1
    · rw [e]; exact Nat.le_refl _
    · exact Nat.le_trans (ih (by omega)) (tb_L_len1 P m).1
/-- what has a place keeps it -/
theorem tb_L_keep (P : Nat → Prop) {n m j : Nat} (h : n ≤ m) (hj : j < (tb_L P n).length) : (tb_L P m).getD j 0 = (tb_L P n).getD j 0 := by
  induction m with
  | zero => rw [show n = 0 by omega]
  | succ m ih =>
    by_cases e : n = m + 1
    · rw [e]
    · have h1 := ih (by omega)
      have h2 := tb_L_mon P (show n ≤ m by omega)
      by_cases hp : P m
      · rw [tb_L_t hp, tb_g1 (by omega)]; exact h1
      · rw [tb_L_f hp]; exact h1
theorem tb_L_at (P : Nat → Prop) (n : Nat) : ∀ j, j < (tb_L P n).length → (tb_L P n).getD j 0 < n ∧ P ((tb_L P n).getD j 0) := by
  induction n with
  | zero => intro j hj; exact absurd hj (Nat.not_lt_zero _)
  | succ n ih =>
    intro j hj
    by_cases h : P n
    · rw [tb_L_t h, List.length_append] at hj
      rw [tb_L_t h]
      by_cases e : j < (tb_L P n).length
      · rw [tb_g1 e]
        have := ih j e
        exact ⟨by omega, this.2⟩
      · have e2 : j = (tb_L P n).length := by
          have : j < (tb_L P n).length + 1 := hj
          omega
        rw [e2, tb_g2]
        exact ⟨by omega, h⟩
    · rw [tb_L_f h] at hj ⊢
      have := ih j hj
      exact ⟨by omega, this.2⟩
theorem tb_L_has (h : P n) {m : Nat} (hm : n < m) : (tb_L P n).length < (tb_L P m).length ∧ (tb_L P m).getD (tb_L P n).length 0 = n := by
  have h1 : (tb_L P n).length < (tb_L P (n + 1)).length := by
    rw [tb_L_t h, List.length_append]; exact Nat.lt_succ_self _
  refine ⟨Nat.lt_of_lt_of_le h1 (tb_L_mon P hm), ?_⟩
  rw [tb_L_keep P (show n + 1 ≤ m from hm) h1, tb_L_t h, tb_g2]
theorem tb_L_inc (P : Nat → Prop) (n : Nat) : ∀ i j, i < j → j < (tb_L P n).length → (tb_L P n).getD i 0 < (tb_L P n).getD j 0 := by
  induction n with
  | zero => intro i j _ hj; exact absurd hj (Nat.not_lt_zero _)
  | succ n ih =>
    intro i j hij hj
    by_cases h : P n
    · rw [tb_L_t h, List.length_append] at hj
      have hj' : j < (tb_L P n).length + 1 := hj
      rw [tb_L_t h, tb_g1 (show i < (tb_L P n).length by omega)]
      by_cases e : j < (tb_L P n).length
      · rw [tb_g1 e]; exact ih i j hij e
      · have e2 : j = (tb_L P n).length := by omega
        rw [e2, tb_g2]
        exact (tb_L_at P n i (by omega)).1
    · rw [tb_L_f h] at hj ⊢
      exact ih i j hij hj
theorem tb_L_all (h : ∀ r, r < n → P r) : (tb_L P n).length = n := by
  induction n with
  | zero => rfl
  | succ n ih =>
    rw [tb_L_t (h n (by omega)), List.length_append, ih (fun r hr => h r (by omega))]
    rfl
end TBL
