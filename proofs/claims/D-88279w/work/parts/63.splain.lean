/-! THE SEARCH as a plain thing: states (two tables each, beyond them all 0; how many steps lead to each); steps by their number n = 36 * (kind - 1) + 6 * a + b -/
abbrev st_T : Type := tb_T × tb_T
def st_n (T : tb_T) : tb_T := (T.1, T.2.1, tb_z T.1 T.2.1 T.2.2)
def st_0 : tb_T := (1, 1, fun _ _ => 0)
def st_t (T : tb_T) : Prop := tb_ok T.1 T.2.1 T.2.2 ∧ st_n T = T
def st_ok (two : Bool) (p : st_T) : Prop := st_t p.1 ∧ st_t p.2 ∧ (two = false → p.2 = st_0)
theorem st_nn (T : tb_T) : st_n (st_n T) = st_n T := by
  refine Prod.ext rfl (Prod.ext rfl (funext fun r => funext fun c => ?_))
  show tb_z T.1 T.2.1 (tb_z T.1 T.2.1 T.2.2) r c = tb_z T.1 T.2.1 T.2.2 r c
  by_cases h : r < T.1 ∧ c < T.2.1
  · rw [tb_z_in h.1 h.2]
  · rw [tb_z_out h, tb_z_out h]
theorem st_n_t {T : tb_T} (h : tb_ok T.1 T.2.1 T.2.2) : st_t (st_n T) := ⟨⟨h.1, fun r c hr hc => by
  show tb_cl (tb_z T.1 T.2.1 T.2.2 r c)
  rw [tb_z_in (show r < T.1 from hr) (show c < T.2.1 from hc)]
  exact h.2 r c hr hc⟩, st_nn T⟩
theorem st_0_t : st_t st_0 := by
  refine ⟨⟨⟨by decide, by decide, by decide, by decide⟩, fun r c _ _ => Or.inr ⟨0, rfl, by decide, fun i hi => ?_⟩⟩, ?_⟩
  · exact absurd hi (by rw [show mx_nb 0 = 0 from by decide +kernel]; exact Nat.not_lt_zero i)
  · refine Prod.ext rfl (Prod.ext rfl (funext fun r => funext fun c => ?_))
    show tb_z 1 1 (fun _ _ => 0) r c = 0
    unfold tb_z
    split <;> rfl
/-- two tables as they are kept are the same one if their cells within are -/
theorem st_t.eq {T U : tb_T} (h : st_t T) (h' : st_t U) (e1 : T.1 = U.1) (e2 : T.2.1 = U.2.1) (e : ∀ r c, r < T.1 → c < T.2.1 → T.2.2 r c = U.2.2 r c) : T = U := by
  rw [← h.2, ← h'.2]
  refine Prod.ext e1 (Prod.ext e2 (funext fun r => funext fun c => ?_))
  show tb_z T.1 T.2.1 T.2.2 r c = tb_z U.1 U.2.1 U.2.2 r c
  by_cases hi : r < T.1 ∧ c < T.2.1
  · rw [tb_z_in hi.1 hi.2, tb_z_in (e1 ▸ hi.1) (e2 ▸ hi.2)]; exact e r c hi.1 hi.2
  · rw [tb_z_out hi, tb_z_out (by rw [← e1, ← e2]; exact hi)]
def st_P (T : tb_T) (n : Nat) : Prop := tb_P (n / 36 + 1) T.1 T.2.1 T.2.2 (nI (n / 6 % 6)) (nI (n % 6))
noncomputable def st_X (T : tb_T) (n : Nat) : tb_T := tb_X (n / 36 + 1) T.1 T.2.1 T.2.2 (nI (n / 6 % 6)) (nI (n % 6))
/-- what a step makes of a state -/
noncomputable def nx (two : Bool) (p : st_T) (n : Nat) : Option st_T := @ite _ (st_P p.1 n ∧ (two = true → st_P p.2 n)) (Classical.propDecidable _) (some (st_n (st_X p.1 n), if two = true then st_n (st_X p.2 n) else st_0)) none
theorem nx_s {two : Bool} {p : st_T} {n : Nat} (h : st_P p.1 n) (h2 : two = true → st_P p.2 n) : nx two p n = some (st_n (st_X p.1 n), if two = true then st_n (st_X p.2 n) else st_0) := by
  unfold nx
  rw [if_pos ⟨h, h2⟩]
theorem nx_n {two : Bool} {p : st_T} {n : Nat} (h : ¬ (st_P p.1 n ∧ (two = true → st_P p.2 n))) : nx two p n = none := by
  unfold nx
  rw [if_neg h]
theorem nx_P {two : Bool} {p q : st_T} {n : Nat} (h : nx two p n = some q) : st_P p.1 n ∧ (two = true → st_P p.2 n) := by
  by_cases e : st_P p.1 n ∧ (two = true → st_P p.2 n)
  · exact e
  · rw [nx_n e] at h; cases h
theorem nx_ok {two : Bool} {p q : st_T} {n : Nat} (hn : n < 504) (hp : st_ok two p) (h : nx two p n = some q) : st_ok two q := by
  obtain ⟨h1, h2⟩ := nx_P h
  rw [nx_s h1 h2] at h
  cases h
  refine ⟨st_n_t (tb_X_ok (by omega) (by omega) hp.1.1 h1), ?_, fun e => ?_⟩
  · cases two with
    | true => exact st_n_t (tb_X_ok (by omega) (by omega) hp.2.1.1 (h2 rfl))
    | false => exact st_0_t
  · subst e; rfl
/-- the steps that can be at all -/
def ea (n : Nat) : Bool := match n / 36 + 1 with
  | 1 => n % 36 == 0
  | 3 => decide (n % 36 < 30) && decide (n % 6 < 4)
  | 5 => decide (n % 36 < 30) && decide (n % 6 < 4)
  | 7 => n % 36 == 0
  | 9 => n % 36 == 0
  | 11 => n / 6 % 6 != n % 6
  | 13 => n % 36 == 0
  | 14 => decide (n % 36 < 30) && n % 6 == 0
  | _ => n % 6 == 0
def ecn : Nat → Nat
  | 0 => 0
  | n + 1 => ecn n + (if ea n then 1 else 0)
theorem ecn_504 : ecn 504 ≤ 120 := by decide +kernel
theorem ecn_mono {n m : Nat} (h : n ≤ m) : ecn n ≤ ecn m := by
  induction m with
  | zero => cases Nat.le_zero.mp h; exact Nat.le_refl _
  | succ m ih =>
    by_cases e : n = m + 1
    · subst e; exact Nat.le_refl _
    · exact Nat.le_trans (ih (by omega)) (Nat.le_add_right _ _)
theorem st_P_xy {T : tb_T} {n : Nat} (hn : n < 504) (h : st_P T n) : ((n / 36 + 1 = 1 ∨ n / 36 + 1 = 7 ∨ n / 36 + 1 = 9 ∨ n / 36 + 1 = 13) → n / 6 % 6 = 0) ∧ (¬ (n / 36 + 1 = 3 ∨ n / 36 + 1 = 5 ∨ n / 36 + 1 = 11) → n % 6 = 0) ∧ (n / 6 % 6 < T.2.1 ∨ n / 6 % 6 = 0) ∧ tb_p (n / 36 + 1) T.1 T.2.1 T.2.2 (n / 6 % 6) (n % 6) := by
  obtain ⟨_, _, _, h4, h5⟩ := h
  rw [nI_clamp (by omega), nI_clamp (by omega)] at h4 h5
  obtain ⟨a1, a2, a3⟩ := (tb_am_xy (by omega) (by omega) (by omega)).mp h4
  refine ⟨a1, a3, ?_, h5⟩
  by_cases e : n / 36 + 1 = 1 ∨ n / 36 + 1 = 7 ∨ n / 36 + 1 = 9 ∨ n / 36 + 1 = 13
  · exact Or.inr (a1 e)
  · exact Or.inl (a2 e)
theorem st_P_ea {T : tb_T} {n : Nat} (hn : n < 504) (hC : T.2.1 ≤ 6) (h : st_P T n) : ea n = true := by
  obtain ⟨h1, h2, h3, h4⟩ := st_P_xy hn h
  have hk : ∃ kd, n / 36 + 1 = kd := ⟨_, rfl⟩
  obtain ⟨kd, hk⟩ := hk
  have hk' : kd = 1 ∨ kd = 2 ∨ kd = 3 ∨ kd = 4 ∨ kd = 5 ∨ kd = 6 ∨ kd = 7 ∨ kd = 8 ∨ kd = 9 ∨ kd = 10 ∨ kd = 11 ∨ kd = 12 ∨ kd = 13 ∨ kd = 14 := by omega
  unfold ea
  rw [hk] at h1 h2 h4 ⊢
  rcases hk' with rfl | rfl | rfl | rfl | rfl | rfl | rfl | rfl | rfl | rfl | rfl | rfl | rfl | rfl
  all_goals (try have h1' := h1 (by decide))
  all_goals (try have h2' := h2 (by decide))
  all_goals clear h1 h2
  all_goals simp only [beq_iff_eq, bne_iff_ne, Bool.and_eq_true, decide_eq_true_eq, tb_p] at *
  all_goals omega
/-- the states so far: how many, which, whether there were too many -/
abbrev se_T : Type := Nat × (Nat → st_T × Nat) × Bool
noncomputable def xp1 (two : Bool) (s n : Nat) (S : se_T) : se_T := if S.2.2 = true then S else match nx two (S.2.1 s).1 n with
  | none => S
  | some q => @ite _ (∃ o, o < S.1 ∧ (S.2.1 o).1 = q) (Classical.propDecidable _) S (if S.1 = 1500 then (S.1, S.2.1, true) else (S.1 + 1, ab_u S.2.1 S.1 (q, (S.2.1 s).2 + 1), false))
noncomputable def xpn (two : Bool) (s : Nat) (S : se_T) : Nat → se_T
  | 0 => S
  | n + 1 => xp1 two s n (xpn two s S n)
noncomputable def gs (two : Bool) (S : se_T) : Nat → se_T
  | 0 => S
  | s + 1 => xpn two s (gs two S s) 504
theorem xp1_full {two : Bool} {s n : Nat} {S : se_T} (h : S.2.2 = true) : xp1 two s n S = S := by
  unfold xp1
  rw [if_pos h]
theorem xp1_none {two : Bool} {s n : Nat} {S : se_T} (h : nx two (S.2.1 s).1 n = none) : xp1 two s n S = S := by
  unfold xp1
  rw [h]
  split <;> rfl
theorem xp1_old {two : Bool} {s n o : Nat} {S : se_T} {q : st_T} (h : nx two (S.2.1 s).1 n = some q) (ho : o < S.1) (hq : (S.2.1 o).1 = q) : xp1 two s n S = S := by
  unfold xp1
  rw [h]
  split
  · rfl
  · exact if_pos ⟨o, ho, hq⟩
theorem xp1_end {two : Bool} {s n : Nat} {S : se_T} {q : st_T} (h0 : S.2.2 = false) (h : nx two (S.2.1 s).1 n = some q) (hq : ∀ o, o < S.1 → (S.2.1 o).1 ≠ q) (hN : S.1 = 1500) : xp1 two s n S = (S.1, S.2.1, true) := by
  unfold xp1
  rw [h, if_neg (by rw [h0]; decide)]
  show @ite _ (∃ o, o < S.1 ∧ (S.2.1 o).1 = q) (Classical.propDecidable _) _ _ = _
  rw [if_neg (fun ⟨o, a, b⟩ => hq o a b), if_pos hN]
theorem xp1_new {two : Bool} {s n : Nat} {S : se_T} {q : st_T} (h0 : S.2.2 = false) (h : nx two (S.2.1 s).1 n = some q) (hq : ∀ o, o < S.1 → (S.2.1 o).1 ≠ q) (hN : S.1 ≠ 1500) : xp1 two s n S = (S.1 + 1, ab_u S.2.1 S.1 (q, (S.2.1 s).2 + 1), false) := by
  unfold xp1
  rw [h, if_neg (by rw [h0]; decide)]
  show @ite _ (∃ o, o < S.1 ∧ (S.2.1 o).1 = q) (Classical.propDecidable _) _ _ = _
  rw [if_neg (fun ⟨o, a, b⟩ => hq o a b), if_neg hN]
/-- the four cases of a step -/
theorem xp1_c {two : Bool} {s n : Nat} {S : se_T} {M : se_T → Prop} (h1 : (S.2.2 = true ∨ nx two (S.2.1 s).1 n = none ∨ ∃ q o, nx two (S.2.1 s).1 n = some q ∧ o < S.1 ∧ (S.2.1 o).1 = q) → M S) (h2 : ∀ q, S.2.2 = false → nx two (S.2.1 s).1 n = some q → (∀ o, o < S.1 → (S.2.1 o).1 ≠ q) → S.1 = 1500 → M (S.1, S.2.1, true)) (h3 : ∀ q, S.2.2 = false → nx two (S.2.1 s).1 n = some q → (∀ o, o < S.1 → (S.2.1 o).1 ≠ q) → S.1 ≠ 1500 → M (S.1 + 1, ab_u S.2.1 S.1 (q, (S.2.1 s).2 + 1), false)) : M (xp1 two s n S) := by
  cases e0 : S.2.2 with
  | true => rw [xp1_full e0]; exact h1 (Or.inl e0)
  | false =>
    cases e1 : nx two (S.2.1 s).1 n with
    | none => rw [xp1_none e1]; exact h1 (Or.inr (Or.inl e1))
    | some q =>
      by_cases e2 : ∃ o, o < S.1 ∧ (S.2.1 o).1 = q
      · obtain ⟨o, a, b⟩ := e2
        rw [xp1_old e1 a b]
        exact h1 (Or.inr (Or.inr ⟨q, o, e1, a, b⟩))
      · have e2 : ∀ o, o < S.1 → (S.2.1 o).1 ≠ q := fun o a b => e2 ⟨o, a, b⟩
        by_cases e3 : S.1 = 1500
        · rw [xp1_end e0 e1 e2 e3]; exact h2 q e0 e1 e2 e3
        · rw [xp1_new e0 e1 e2 e3]; exact h3 q e0 e1 e2 e3
def se_le (S S' : se_T) : Prop := S.1 ≤ S'.1 ∧ ∀ o, o < S.1 → S'.2.1 o = S.2.1 o
theorem se_le.rf (S : se_T) : se_le S S := ⟨Nat.le_refl _, fun _ _ => rfl⟩
theorem se_le.tr {S S' S2 : se_T} (h : se_le S S') (h' : se_le S' S2) : se_le S S2 := ⟨Nat.le_trans h.1 h'.1, fun o ho => (h'.2 o (Nat.lt_of_lt_of_le ho h.1)).trans (h.2 o ho)⟩
theorem xp1_le {two : Bool} {s n : Nat} {S : se_T} : se_le S (xp1 two s n S) := by
  refine xp1_c (M := fun S' => se_le S S') (fun _ => se_le.rf S) (fun q _ _ _ _ => ⟨Nat.le_refl _, fun _ _ => rfl⟩) (fun q _ _ _ _ => ⟨Nat.le_succ _, fun o ho => ?_⟩)
  exact ab_un (Nat.ne_of_lt ho)
theorem xpn_le {two : Bool} {s : Nat} {S : se_T} : ∀ {n m : Nat}, n ≤ m → se_le (xpn two s S n) (xpn two s S m) := by
  intro n m h
  induction m with
  | zero => cases Nat.le_zero.mp h; exact se_le.rf _
  | succ m ih =>
    by_cases e : n = m + 1
    · subst e; exact se_le.rf _
    · exact (ih (by omega)).tr xp1_le
theorem gs_le {two : Bool} {S : se_T} : ∀ {n m : Nat}, n ≤ m → se_le (gs two S n) (gs two S m) := by
  intro n m h
  induction m with
  | zero => cases Nat.le_zero.mp h; exact se_le.rf _
  | succ m ih =>
    by_cases e : n = m + 1
    · subst e; exact se_le.rf _
    · exact (ih (by omega)).tr (xpn_le (two := two) (s := m) (S := gs two S m) (Nat.zero_le 504))
def se_ok (two : Bool) (S : se_T) : Prop := S.1 ≤ 1500 ∧ (∀ o, o < S.1 → st_ok two (S.2.1 o).1) ∧ ∀ o o', o < S.1 → o' < S.1 → (S.2.1 o).1 = (S.2.1 o').1 → o = o'
theorem xp1_ok {two : Bool} {s n : Nat} {S : se_T} (hn : n < 504) (hs : s < S.1) (h : se_ok two S) : se_ok two (xp1 two s n S) := by
  refine xp1_c (M := fun S' => se_ok two S') (fun _ => h) (fun q _ _ _ _ => h) (fun q _ e1 e2 e3 => ⟨?_, fun o ho => ?_, fun o o' ho ho' he => ?_⟩)
  · have := h.1
    show S.1 + 1 ≤ 1500
    omega
  · have ho : o < S.1 + 1 := ho
    by_cases e : o = S.1
    · show st_ok two (ab_u S.2.1 S.1 _ o).1
      rw [e, ab_us]
      exact nx_ok hn (h.2.1 s hs) e1
    · show st_ok two (ab_u S.2.1 S.1 _ o).1
      rw [ab_un e]
      exact h.2.1 o (by omega)
  · have ho : o < S.1 + 1 := ho
    have ho' : o' < S.1 + 1 := ho'
    have he : (ab_u S.2.1 S.1 (q, (S.2.1 s).2 + 1) o).1 = (ab_u S.2.1 S.1 (q, (S.2.1 s).2 + 1) o').1 := he
    by_cases e : o = S.1
    · by_cases e' : o' = S.1
      · omega
      · rw [e, ab_us, ab_un e'] at he
        exact absurd he.symm (e2 o' (by omega))
    · by_cases e' : o' = S.1
      · rw [e', ab_us, ab_un e] at he
        exact absurd he (e2 o (by omega))
      · rw [ab_un e, ab_un e'] at he
        exact h.2.2 o o' (by omega) (by omega) he
theorem xpn_ok {two : Bool} {s : Nat} {S : se_T} (hs : s < S.1) (h : se_ok two S) : ∀ {n : Nat}, n ≤ 504 → se_ok two (xpn two s S n) := by
  intro n
  induction n with
  | zero => exact fun _ => h
  | succ n ih => exact fun hn => xp1_ok (by omega) (Nat.lt_of_lt_of_le hs (xpn_le (two := two) (s := s) (S := S) (Nat.zero_le n)).1) (ih (by omega))
/-- a step's state is among them -/
def se_in (two : Bool) (S : se_T) (s n : Nat) : Prop := ∀ q, nx two (S.2.1 s).1 n = some q → ∃ o, o < S.1 ∧ (S.2.1 o).1 = q
theorem se_in.le {two : Bool} {S S' : se_T} {s n : Nat} (h : se_in two S s n) (hs : s < S.1) (hl : se_le S S') : se_in two S' s n := fun q hq => by
  rw [hl.2 s hs] at hq
  obtain ⟨o, a, b⟩ := h q hq
  exact ⟨o, Nat.lt_of_lt_of_le a hl.1, by rw [hl.2 o a]; exact b⟩
theorem xp1_in {two : Bool} {s n : Nat} {S : se_T} (hs : s < S.1) (hf : (xp1 two s n S).2.2 = false) : se_in two (xp1 two s n S) s n := by
  revert hf
  refine xp1_c (M := fun S' => S'.2.2 = false → se_in two S' s n) (fun h hf q hq => ?_) (fun q _ _ _ _ hf => by cases hf) (fun q _ e1 _ _ _ q' hq => ?_)
  · rcases h with h | h | ⟨q', o, h1, h2, h3⟩
    · rw [h] at hf; cases hf
    · rw [h] at hq; cases hq
    · rw [h1] at hq; cases hq
      exact ⟨o, h2, h3⟩
  · have hq : nx two (ab_u S.2.1 S.1 (q, (S.2.1 s).2 + 1) s).1 n = some q' := hq
    rw [ab_un (Nat.ne_of_lt hs), e1] at hq
    cases hq
    exact ⟨S.1, Nat.lt_succ_self _, by show (ab_u S.2.1 S.1 _ S.1).1 = _; rw [ab_us]⟩
theorem xp1_ff {two : Bool} {s n : Nat} {S : se_T} (h : (xp1 two s n S).2.2 = false) : S.2.2 = false := by
  cases e : S.2.2 with
  | false => rfl
  | true => rw [xp1_full e, e] at h; cases h
theorem xpn_ff {two : Bool} {s : Nat} {S : se_T} : ∀ {n m : Nat}, n ≤ m → (xpn two s S m).2.2 = false → (xpn two s S n).2.2 = false := by
  intro n m h
  induction m with
  | zero => cases Nat.le_zero.mp h; exact id
  | succ m ih =>
    by_cases e : n = m + 1
    · subst e; exact id
    · exact fun hf => ih (by omega) (xp1_ff hf)
theorem xpn_tt {two : Bool} {s : Nat} {S : se_T} {n : Nat} (h : (xpn two s S n).2.2 = true) : ∀ {m : Nat}, n ≤ m → xpn two s S m = xpn two s S n := by
  intro m
  induction m with
  | zero => intro hm; cases Nat.le_zero.mp hm; rfl
  | succ m ih =>
    intro hm
    by_cases e : n = m + 1
    · subst e; rfl
    · show xp1 two s m (xpn two s S m) = _
      rw [ih (by omega), xp1_full h]
theorem xpn_in {two : Bool} {s : Nat} {S : se_T} (hs : s < S.1) : ∀ {n : Nat}, (xpn two s S n).2.2 = false → ∀ m, m < n → se_in two (xpn two s S n) s m := by
  intro n
  induction n with
  | zero => exact fun _ m hm => absurd hm (Nat.not_lt_zero m)
  | succ n ih =>
    intro hf m hm
    have hs' : s < (xpn two s S n).1 := Nat.lt_of_lt_of_le hs (xpn_le (two := two) (s := s) (S := S) (Nat.zero_le n)).1
    by_cases e : m = n
    · subst e; exact xp1_in hs' hf
    · exact (ih (xp1_ff hf) m (by omega)).le hs' xp1_le
/-- the edges: to the states of one step more -/
def eg_P (S : se_T) (s : Nat) (q : st_T) (o : Nat) : Prop := o < S.1 ∧ (S.2.1 o).1 = q ∧ (S.2.1 o).2 = (S.2.1 s).2 + 1
noncomputable def eg (two : Bool) (S : se_T) (s n : Nat) : Option Nat := match nx two (S.2.1 s).1 n with
  | none => none
  | some q => @ite _ (∃ o, eg_P S s q o) (Classical.propDecidable _) (some (Classical.epsilon (eg_P S s q))) none
theorem eg_z {two : Bool} {S : se_T} {s n : Nat} (h : nx two (S.2.1 s).1 n = none) : eg two S s n = none := by
  unfold eg
  rw [h]
theorem eg_s {two : Bool} {S : se_T} {s n o : Nat} {q : st_T} (hi : se_ok two S) (h : nx two (S.2.1 s).1 n = some q) (ho : o < S.1) (hq : (S.2.1 o).1 = q) (hd : (S.2.1 o).2 = (S.2.1 s).2 + 1) : eg two S s n = some o := by
  unfold eg
  rw [h]
  show @ite _ (∃ o, eg_P S s q o) (Classical.propDecidable _) _ _ = _
  have ex : ∃ o, eg_P S s q o := ⟨o, ho, hq, hd⟩
  rw [if_pos ex]
  have h1 : eg_P S s q (Classical.epsilon (eg_P S s q)) := Classical.epsilon_spec ex
  exact congrArg some (hi.2.2 _ _ h1.1 ho (h1.2.1.trans hq.symm))
theorem eg_n {two : Bool} {S : se_T} {s n o : Nat} {q : st_T} (hi : se_ok two S) (h : nx two (S.2.1 s).1 n = some q) (ho : o < S.1) (hq : (S.2.1 o).1 = q) (hd : (S.2.1 o).2 ≠ (S.2.1 s).2 + 1) : eg two S s n = none := by
  unfold eg
  rw [h]
  show @ite _ (∃ o, eg_P S s q o) (Classical.propDecidable _) _ _ = _
  refine if_neg (fun ⟨o', a, b, c⟩ => hd ?_)
  have := hi.2.2 o' o a ho (b.trans hq.symm)
  subst this
  exact c
theorem eg_P_of {two : Bool} {S : se_T} {s n o : Nat} (h : eg two S s n = some o) : ∃ q, nx two (S.2.1 s).1 n = some q ∧ eg_P S s q o := by
  unfold eg at h
  cases e : nx two (S.2.1 s).1 n with
  | none => rw [e] at h; cases h
  | some q =>
    rw [e] at h
    have h : @ite _ (∃ o, eg_P S s q o) (Classical.propDecidable _) (some (Classical.epsilon (eg_P S s q))) none = some o := h
    by_cases ex : ∃ o, eg_P S s q o
    · rw [if_pos ex] at h
      cases h
      exact ⟨q, rfl, Classical.epsilon_spec ex⟩
    · rw [if_neg ex] at h; cases h
theorem eg_le {two : Bool} {S S' : se_T} {s n : Nat} (hi : se_ok two S') (hs : s < S.1) (hl : se_le S S') (hc : se_in two S s n) : eg two S' s n = eg two S s n := by
  have hi0 : se_ok two S := ⟨Nat.le_trans hl.1 hi.1, fun o ho => by rw [← hl.2 o ho]; exact hi.2.1 o (Nat.lt_of_lt_of_le ho hl.1), fun o o' ho ho' he => hi.2.2 o o' (Nat.lt_of_lt_of_le ho hl.1) (Nat.lt_of_lt_of_le ho' hl.1) (by rw [hl.2 o ho, hl.2 o' ho']; exact he)⟩
  cases e : nx two (S.2.1 s).1 n with
  | none => rw [eg_z e, eg_z (by rw [hl.2 s hs]; exact e)]
  | some q =>
    obtain ⟨o, a, b⟩ := hc q e
    have a' := Nat.lt_of_lt_of_le a hl.1
    by_cases hd : (S.2.1 o).2 = (S.2.1 s).2 + 1
    · rw [eg_s hi0 e a b hd, eg_s hi (by rw [hl.2 s hs]; exact e) a' (by rw [hl.2 o a]; exact b) (by rw [hl.2 o a, hl.2 s hs]; exact hd)]
    · rw [eg_n hi0 e a b hd, eg_n hi (by rw [hl.2 s hs]; exact e) a' (by rw [hl.2 o a]; exact b) (by rw [hl.2 o a, hl.2 s hs]; exact hd)]
noncomputable def eg1 (two : Bool) (S : se_T) (s n : Nat) : List (Nat × Nat) := match eg two S s n with
  | none => []
  | some o => [(n, o)]
/-- the edges of a state, of the steps ahead of n; of all states ahead of s, too -/
noncomputable def el (two : Bool) (S : se_T) (s : Nat) : Nat → List (Nat × Nat)
  | 0 => []
  | n + 1 => el two S s n ++ eg1 two S s n
noncomputable def ea_l (two : Bool) (S : se_T) : Nat → List (Nat × Nat)
  | 0 => []
  | s + 1 => ea_l two S s ++ el two S s 504
theorem el_le {two : Bool} {S S' : se_T} {s : Nat} (hi : se_ok two S') (hs : s < S.1) (hl : se_le S S') : ∀ {n : Nat}, (∀ m, m < n → se_in two S s m) → el two S' s n = el two S s n := by
  intro n
  induction n with
  | zero => exact fun _ => rfl
  | succ n ih =>
    intro hc
    show el two S' s n ++ eg1 two S' s n = el two S s n ++ eg1 two S s n
    unfold eg1
    rw [ih (fun m hm => hc m (by omega)), eg_le hi hs hl (hc n (by omega))]
theorem ea_l_le {two : Bool} {S S' : se_T} (hi : se_ok two S') (hl : se_le S S') : ∀ {s : Nat}, s ≤ S.1 → (∀ s' m, s' < s → m < 504 → se_in two S s' m) → ea_l two S' s = ea_l two S s := by
  intro s
  induction s with
  | zero => exact fun _ _ => rfl
  | succ s ih =>
    intro hs hc
    show ea_l two S' s ++ el two S' s 504 = ea_l two S s ++ el two S s 504
    rw [ih (by omega) (fun s' m a b => hc s' m (by omega) b), el_le hi (by omega) hl (fun m hm => hc s m (by omega) hm)]
theorem el_len {two : Bool} {S : se_T} {s : Nat} (hi : se_ok two S) (hs : s < S.1) : ∀ {n : Nat}, n ≤ 504 → (el two S s n).length ≤ ecn n := by
  intro n
  induction n with
  | zero => exact fun _ => Nat.le_refl _
  | succ n ih =>
    intro hn
    show (el two S s n ++ eg1 two S s n).length ≤ ecn n + _
    rw [List.length_append]
    refine Nat.add_le_add (ih (by omega)) ?_
    unfold eg1
    cases e : eg two S s n with
    | none => exact Nat.zero_le _
    | some o =>
      obtain ⟨q, h1, _⟩ := eg_P_of e
      rw [if_pos (st_P_ea (by omega) (hi.2.1 s hs).1.1.1.2.2.2 (nx_P h1).1)]
      exact Nat.le_refl _
theorem ea_l_len {two : Bool} {S : se_T} (hi : se_ok two S) : ∀ {s : Nat}, s ≤ S.1 → (ea_l two S s).length ≤ 120 * s := by
  intro s
  induction s with
  | zero => exact fun _ => Nat.le_refl _
  | succ s ih =>
    intro hs
    show (ea_l two S s ++ el two S s 504).length ≤ _
    rw [List.length_append]
    have h1 := ih (by omega)
    have h2 := el_len hi (show s < S.1 by omega) (Nat.le_refl 504)
    have h3 := ecn_504
    omega
/-- an end: both tables fit the wished ones -/
def en (two : Bool) (U V : tb_T) (p : st_T) : Prop := ab_fit p.1 U ∧ (two = true → ab_fit p.2 V)
noncomputable def en_b (two : Bool) (U V : tb_T) (p : st_T) : Nat := @ite _ (en two U V p) (Classical.propDecidable _) 1 0
noncomputable def en_c (two : Bool) (U V : tb_T) (L : Nat → st_T × Nat) : Nat → Nat
  | 0 => 0
  | n + 1 => en_c two U V L n + en_b two U V (L n).1
theorem en_b_1 {two : Bool} {U V : tb_T} {p : st_T} : en_b two U V p ≤ 1 := by
  unfold en_b
  split <;> decide
theorem en_c_le {two : Bool} {U V : tb_T} {L : Nat → st_T × Nat} : ∀ n, en_c two U V L n ≤ n
  | 0 => Nat.le_refl _
  | n + 1 => Nat.add_le_add (en_c_le n) en_b_1
theorem en_c_eq {two : Bool} {U V : tb_T} {L L' : Nat → st_T × Nat} : ∀ {n : Nat}, (∀ o, o < n → L' o = L o) → en_c two U V L' n = en_c two U V L n := by
  intro n
  induction n with
  | zero => exact fun _ => rfl
  | succ n ih =>
    intro h
    show en_c two U V L' n + _ = en_c two U V L n + _
    rw [ih (fun o ho => h o (by omega)), h n (by omega)]
/-- the last state ahead of s that lies in bucket b -/
noncomputable def lh (h : st_T → Nat) (L : Nat → st_T × Nat) (b : Nat) : Nat → Int32
  | 0 => -1
  | s + 1 => if h (L s).1 = b then nI s else lh h L b s
theorem lh_eq {h : st_T → Nat} {L L' : Nat → st_T × Nat} {b : Nat} : ∀ {s : Nat}, (∀ o, o < s → L' o = L o) → lh h L' b s = lh h L b s := by
  intro s
  induction s with
  | zero => exact fun _ => rfl
  | succ s ih =>
    intro g
    show (if h (L' s).1 = b then _ else lh h L' b s) = if h (L s).1 = b then _ else lh h L b s
    rw [g s (by omega), ih (fun o ho => g o (by omega))]
theorem lh_c {h : st_T → Nat} {L : Nat → st_T × Nat} {b : Nat} : ∀ N, (lh h L b N = -1 ∧ ∀ o, o < N → h (L o).1 ≠ b) ∨ (∃ s, s < N ∧ lh h L b N = nI s ∧ h (L s).1 = b ∧ ∀ o, s < o → o < N → h (L o).1 ≠ b)
  | 0 => Or.inl ⟨rfl, fun o ho => absurd ho (Nat.not_lt_zero o)⟩
  | N + 1 => by
    show ((if h (L N).1 = b then nI N else lh h L b N) = -1 ∧ _) ∨ ∃ s, s < N + 1 ∧ (if h (L N).1 = b then nI N else lh h L b N) = nI s ∧ _
    by_cases e : h (L N).1 = b
    · rw [if_pos e]
      exact Or.inr ⟨N, Nat.lt_succ_self N, rfl, e, fun o h1 h2 => by omega⟩
    · rw [if_neg e]
      rcases lh_c (h := h) (L := L) (b := b) N with ⟨h1, h2⟩ | ⟨s, h1, h2, h3, h4⟩
      · refine Or.inl ⟨h1, fun o ho => ?_⟩
        by_cases e2 : o = N
        · rw [e2]; exact e
        · exact h2 o (by omega)
      · refine Or.inr ⟨s, by omega, h2, h3, fun o g1 g2 => ?_⟩
        by_cases e2 : o = N
        · rw [e2]; exact e
        · exact h4 o g1 (by omega)
