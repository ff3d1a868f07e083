/-! THE SEARCH as a plain thing: levels, ways -/
theorem gs_s {two : Bool} {S : se_T} {s : Nat} : gs two S (s + 1) = xpn two s (gs two S s) 504 := rfl
/-- where each level begins -/
noncomputable def lv (two : Bool) (S : se_T) : Nat → Nat
  | 0 => 0
  | d + 1 => (gs two S (lv two S d)).1
theorem gs_tt {two : Bool} {S : se_T} {n : Nat} (h : (gs two S n).2.2 = true) : ∀ {m : Nat}, n ≤ m → gs two S m = gs two S n := by
  intro m
  induction m with
  | zero => intro hm; cases Nat.le_zero.mp hm; rfl
  | succ m ih =>
    intro hm
    by_cases e : n = m + 1
    · subst e; rfl
    · show xpn two m (gs two S m) 504 = _
      rw [ih (by omega)]
      exact xpn_tt (n := 0) h (Nat.zero_le _)
theorem gs_ff {two : Bool} {S : se_T} {n m : Nat} (h : n ≤ m) (hf : (gs two S m).2.2 = false) : (gs two S n).2.2 = false := by
  cases e : (gs two S n).2.2 with
  | false => rfl
  | true => rw [gs_tt e h, e] at hf; cases hf
/-- the levels so far -/
def lvP (S : se_T) (f : Nat → Nat) (d : Nat) : Prop := ∀ x, x < S.1 → (S.2.1 x).2 ≤ d + 1 ∧ f (S.2.1 x).2 ≤ x ∧ ((S.2.1 x).2 ≤ d → x < f ((S.2.1 x).2 + 1))
theorem lvP.x1 {two : Bool} {S : se_T} {f : Nat → Nat} {d s n : Nat} (h : lvP S f d) (hd : (S.2.1 s).2 = d) (hf : f (d + 1) ≤ S.1) : lvP (xp1 two s n S) f d := by
  refine xp1_c (M := fun S' => lvP S' f d) (fun _ => h) (fun q _ _ _ _ => h) (fun q _ _ _ _ x hx => ?_)
  have hx : x < S.1 + 1 := hx
  show (ab_u S.2.1 S.1 (q, (S.2.1 s).2 + 1) x).2 ≤ d + 1 ∧ f (ab_u S.2.1 S.1 (q, (S.2.1 s).2 + 1) x).2 ≤ x ∧ ((ab_u S.2.1 S.1 (q, (S.2.1 s).2 + 1) x).2 ≤ d → x < f ((ab_u S.2.1 S.1 (q, (S.2.1 s).2 + 1) x).2 + 1))
  by_cases e : x = S.1
  · rw [e, ab_us, hd]
    exact ⟨Nat.le_refl _, hf, fun h => absurd h (Nat.not_succ_le_self d)⟩
  · rw [ab_un e]
    exact h x (by omega)
theorem lvP.xn {two : Bool} {S : se_T} {f : Nat → Nat} {d s : Nat} (h : lvP S f d) (hs : s < S.1) (hd : (S.2.1 s).2 = d) (hf : f (d + 1) ≤ S.1) : ∀ n, lvP (xpn two s S n) f d := by
  intro n
  induction n with
  | zero => exact h
  | succ n ih =>
    have hl := xpn_le (two := two) (s := s) (S := S) (Nat.zero_le n)
    refine ih.x1 ?_ (Nat.le_trans hf hl.1)
    rw [hl.2 s hs]
    exact hd
theorem lvP.up {S : se_T} {f : Nat → Nat} {d : Nat} (h : lvP S f d) (hf : f (d + 2) = S.1) : lvP S f (d + 1) := by
  intro x hx
  obtain ⟨h1, h2, h3⟩ := h x hx
  refine ⟨by omega, h2, fun h4 => ?_⟩
  by_cases e : (S.2.1 x).2 ≤ d
  · exact h3 e
  · rw [show (S.2.1 x).2 = d + 1 by omega, hf]
    exact hx
theorem lv_mono {f : Nat → Nat} {d : Nat} (hm : ∀ e, e ≤ d → f e ≤ f (e + 1)) : ∀ {a b : Nat}, a ≤ b → b ≤ d + 1 → f a ≤ f b := by
  intro a b h
  induction b with
  | zero => intro _; cases Nat.le_zero.mp h; exact Nat.le_refl _
  | succ b ih =>
    intro hb
    by_cases e : a = b + 1
    · subst e; exact Nat.le_refl _
    · exact Nat.le_trans (ih (by omega) (by omega)) (hm b (by omega))
theorem lvP.iff {S : se_T} {f : Nat → Nat} {d x l : Nat} (h : lvP S f d) (hm : ∀ e, e ≤ d → f e ≤ f (e + 1)) (hx : x < S.1) (hl : l ≤ d) : (S.2.1 x).2 = l ↔ f l ≤ x ∧ x < f (l + 1) := by
  obtain ⟨h1, h2, h3⟩ := h x hx
  refine ⟨fun e => ?_, fun e => ?_⟩
  · subst e; exact ⟨h2, h3 hl⟩
  · apply Decidable.byContradiction
    intro hne
    by_cases e1 : (S.2.1 x).2 < l
    · have := lv_mono hm (show (S.2.1 x).2 + 1 ≤ l by omega) (by omega)
      have := h3 (by omega)
      omega
    · have := lv_mono hm (show l + 1 ≤ (S.2.1 x).2 by omega) h1
      omega
theorem lv_le {two : Bool} {S : se_T} : ∀ d, lv two S d ≤ lv two S (d + 1)
  | 0 => Nat.zero_le _
  | d + 1 => (gs_le (lv_le d)).1
/-- the levels are as they should be while level d is at work, ahead of its state s -/
theorem lv_ok {two : Bool} {S : se_T} (h1 : S.1 = 1) (h0 : (S.2.1 0).2 = 0) : ∀ d s, lv two S d ≤ s → s ≤ lv two S (d + 1) → lvP (gs two S s) (lv two S) d := by
  have go : ∀ d, lvP (gs two S (lv two S d)) (lv two S) d → ∀ j, lv two S d + j ≤ lv two S (d + 1) → lvP (gs two S (lv two S d + j)) (lv two S) d := by
    intro d hd j
    induction j with
    | zero => exact fun _ => hd
    | succ j ih =>
      intro hj
      have h2 := ih (by omega)
      have hN : lv two S (d + 1) ≤ (gs two S (lv two S d + j)).1 := (gs_le (Nat.le_add_right _ _)).1
      show lvP (xpn two (lv two S d + j) (gs two S (lv two S d + j)) 504) (lv two S) d
      exact h2.xn (by omega) ((h2.iff (fun e _ => lv_le e) (by omega) (Nat.le_refl d)).mpr ⟨by omega, by omega⟩) hN 504
  have all : ∀ d, lvP (gs two S (lv two S d)) (lv two S) d := by
    intro d
    induction d with
    | zero =>
      intro x hx
      have hx : x < S.1 := hx
      rw [h1] at hx
      cases Nat.lt_one_iff.mp hx
      show (S.2.1 0).2 ≤ _ ∧ lv two S (S.2.1 0).2 ≤ 0 ∧ ((S.2.1 0).2 ≤ 0 → 0 < lv two S ((S.2.1 0).2 + 1))
      rw [h0]
      refine ⟨by decide, Nat.le_refl _, fun _ => ?_⟩
      show 0 < S.1
      omega
    | succ d ih =>
      have h2 := go d ih (lv two S (d + 1) - lv two S d) (by have := lv_le (two := two) (S := S) d; omega)
      rw [show lv two S d + (lv two S (d + 1) - lv two S d) = lv two S (d + 1) by have := lv_le (two := two) (S := S) d; omega] at h2
      exact h2.up rfl
  intro d s a b
  have := go d (all d) (s - lv two S d) (by omega)
  rwa [show lv two S d + (s - lv two S d) = s by omega] at this
theorem lv_sz {two : Bool} {S : se_T} {d s : Nat} (a : lv two S d ≤ s) : lv two S (d + 1) ≤ (gs two S s).1 := (gs_le a).1
theorem gs_ok {two : Bool} {S : se_T} (h : se_ok two S) (h1 : S.1 = 1) : ∀ d s, lv two S d ≤ s → s ≤ lv two S (d + 1) → se_ok two (gs two S s) := by
  have go : ∀ d, se_ok two (gs two S (lv two S d)) → ∀ j, lv two S d + j ≤ lv two S (d + 1) → se_ok two (gs two S (lv two S d + j)) := by
    intro d hd j
    induction j with
    | zero => exact fun _ => hd
    | succ j ih =>
      intro hj
      have hN := lv_sz (two := two) (S := S) (d := d) (s := lv two S d + j) (by omega)
      show se_ok two (xpn two (lv two S d + j) (gs two S (lv two S d + j)) 504)
      exact xpn_ok (by omega) (ih (by omega)) (Nat.le_refl _)
  have all : ∀ d, se_ok two (gs two S (lv two S d)) := by
    intro d
    induction d with
    | zero => exact h
    | succ d ih =>
      have hm := lv_le (two := two) (S := S) d
      have h2 := go d ih (lv two S (d + 1) - lv two S d) (by omega)
      rwa [show lv two S d + (lv two S (d + 1) - lv two S d) = lv two S (d + 1) by omega] at h2
  intro d s a b
  have := go d (all d) (s - lv two S d) (by omega)
  rwa [show lv two S d + (s - lv two S d) = s by omega] at this
/-- all steps of the states ahead of s are done -/
theorem gs_in {two : Bool} {S : se_T} (h1 : S.1 = 1) : ∀ d s, lv two S d ≤ s → s ≤ lv two S (d + 1) → (gs two S s).2.2 = false → ∀ s' m, s' < s → m < 504 → se_in two (gs two S s) s' m := by
  have one : ∀ d s, lv two S d ≤ s → s < lv two S (d + 1) → (gs two S (s + 1)).2.2 = false → ∀ m, m < 504 → se_in two (gs two S (s + 1)) s m := by
    intro d s a b hf m hm
    have h3 := lv_sz (two := two) (S := S) a
    rw [gs_s] at hf ⊢
    exact xpn_in (by omega) hf m hm
  have lev : ∀ d s', s' < lv two S (d + 1) → ∃ e, lv two S e ≤ s' ∧ s' < lv two S (e + 1) := by
    intro d
    induction d with
    | zero => exact fun s' hs' => ⟨0, Nat.zero_le _, hs'⟩
    | succ d ih =>
      intro s' hs'
      by_cases e : s' < lv two S (d + 1)
      · exact ih s' e
      · exact ⟨d + 1, by omega, hs'⟩
  intro d s a b hf s' m hs' hm
  obtain ⟨e, e1, e2⟩ := lev d s' (by omega)
  have hl := gs_le (two := two) (S := S) (show s' + 1 ≤ s by omega)
  refine (one e s' e1 e2 (gs_ff (by omega) hf) m hm).le ?_ hl
  have h3 := lv_sz (two := two) (S := S) (s := s' + 1) (show lv two S e ≤ s' + 1 by omega)
  omega
/-- how many ways lead on, at most a million; which -/
noncomputable def wn (two : Bool) (U V : tb_T) (S : se_T) : Nat → Nat → Nat
  | 0, s => en_b two U V (S.2.1 s).1
  | m + 1, s => (el two S s 504).foldl (fun a e => min 1000000 (a + wn two U V S m e.2)) 0
noncomputable def pth (two : Bool) (U V : tb_T) (S : se_T) : Nat → Nat → List (List Nat)
  | 0, s => List.replicate (en_b two U V (S.2.1 s).1) []
  | m + 1, s => (el two S s 504).flatMap (fun e => (pth two U V S m e.2).map (fun p => e.1 :: p))
theorem wn_fold {w : Nat → Nat} {g : Nat → List (List Nat)} (h : ∀ o, w o = min 1000000 (g o).length) : ∀ (l : List (Nat × Nat)) (a : Nat), l.foldl (fun a e => min 1000000 (a + w e.2)) (min 1000000 a) = min 1000000 (a + (l.flatMap (fun e => (g e.2).map (fun p => e.1 :: p))).length) := by
  intro l
  induction l with
  | nil => intro a; rfl
  | cons e l ih =>
    intro a
    rw [List.foldl_cons, List.flatMap_cons, List.length_append, List.length_map, h e.2]
    rw [show min 1000000 (min 1000000 a + min 1000000 (g e.2).length) = min 1000000 (a + (g e.2).length) by omega, ih, Nat.add_assoc]
theorem wn_p {two : Bool} {U V : tb_T} {S : se_T} : ∀ m s, wn two U V S m s = min 1000000 (pth two U V S m s).length
  | 0, s => by
    show en_b two U V (S.2.1 s).1 = min 1000000 (List.replicate _ _).length
    rw [List.length_replicate]
    have := en_b_1 (two := two) (U := U) (V := V) (p := (S.2.1 s).1)
    omega
  | m + 1, s => by
    have := wn_fold (w := wn two U V S m) (g := pth two U V S m) (fun o => wn_p m o) (el two S s 504) 0
    rw [Nat.zero_add] at this
    exact this
theorem pth_len {two : Bool} {U V : tb_T} {S : se_T} : ∀ m s p, p ∈ pth two U V S m s → p.length = m
  | 0, s, p, h => by
    cases List.eq_of_mem_replicate h
    rfl
  | m + 1, s, p, h => by
    obtain ⟨e, _, h2⟩ := List.mem_flatMap.mp h
    obtain ⟨p', h3, rfl⟩ := List.mem_map.mp h2
    rw [List.length_cons, pth_len m e.2 p' h3]
theorem el_mem {two : Bool} {S : se_T} {s : Nat} : ∀ {n : Nat} {e : Nat × Nat}, e ∈ el two S s n → e.1 < n ∧ eg two S s e.1 = some e.2 := by
  intro n
  induction n with
  | zero => intro e h; cases h
  | succ n ih =>
    intro e h
    rcases List.mem_append.mp h with h | h
    · have := ih h
      exact ⟨by omega, this.2⟩
    · unfold eg1 at h
      cases hq : eg two S s n with
      | none => rw [hq] at h; cases h
      | some o =>
        rw [hq] at h
        cases List.mem_singleton.mp h
        exact ⟨Nat.lt_succ_self n, hq⟩
theorem pth_lt {two : Bool} {U V : tb_T} {S : se_T} : ∀ m s p, p ∈ pth two U V S m s → ∀ x ∈ p, x < 504
  | 0, s, p, h => by
    cases List.eq_of_mem_replicate h
    intro x hx
    cases hx
  | m + 1, s, p, h => by
    obtain ⟨e, h1, h2⟩ := List.mem_flatMap.mp h
    obtain ⟨p', h3, rfl⟩ := List.mem_map.mp h2
    intro x hx
    rcases List.mem_cons.mp hx with rfl | hx
    · exact (el_mem h1).1
    · exact pth_lt m e.2 p' h3 x hx
/-- a way told by the numbers of its steps -/
def pw (D : Nat) (p : List Nat) : wy_T := (D, fun j => (p.getD j 0 / 36 + 1, p.getD j 0 / 6 % 6, p.getD j 0 % 6))
