/-! soundness: branches, fields, arrays, calls, ends -/
theorem am_vq_np {q : am_P} (h : am_vq q) (h1 : am_ak q.1 ≠ 0) (h2 : am_ak q.1 ≠ 7) : q.2 < am_np q.1 := by
  rcases h with h | ⟨h, -⟩ | ⟨h, -⟩ | ⟨h, -⟩ | ⟨h, -⟩
  · exact h
  · rw [h] at h1; exact absurd rfl h1
  · rw [h] at h1; exact absurd rfl h1
  · rw [h] at h2; exact absurd rfl h2
  · rw [h] at h1; exact absurd rfl h1
theorem am_vq_ob {q : am_P} (h : am_vq q) (h1 : q.1 < 6) : q.2 < am_np q.1 := by
  rcases h with h | ⟨h, -⟩ | ⟨h, -⟩ | ⟨h, -⟩ | ⟨h, -⟩
  · exact h
  · omega
  · omega
  · omega
  · omega
theorem am_ak_ob : ∀ t, t < 6 → am_ak t = 0 := am_t6 rfl rfl rfl rfl rfl rfl
theorem am_E0 (G : am_G) (σ : am_S) {q : am_P} (h : q.1 < 6) : am_E G σ q = .inr (q.1, (List.range (am_nf q.1)).map (am_fv G σ q.1 q.2)) := by
  unfold am_E
  rw [am_ak_ob _ h]
  rfl
theorem am_E1 (G : am_G) (σ : am_S) {q : am_P} (h : am_ak q.1 = 1) : am_E G σ q = .inl (am_dA G 1, am_al q.1, .inl (σ.1 q.1 q.2)) := by
  unfold am_E
  rw [h]
  rfl
theorem am_E2 (G : am_G) (σ : am_S) {q : am_P} (h : am_ak q.1 = 2) : am_E G σ q = .inl (am_dA G 2, am_al q.1, .inl (σ.1 q.1 q.2)) := by
  unfold am_E
  rw [h]
  rfl
theorem am_E3 (G : am_G) (σ : am_S) {q : am_P} (h : am_ak q.1 = 3) : am_E G σ q = .inl (am_dA G 3, am_al q.1, .inl (σ.1 q.1 q.2)) := by
  unfold am_E
  rw [h]
  rfl
theorem am_E4 (G : am_G) (σ : am_S) {q : am_P} (h : am_ak q.1 = 4) : am_E G σ q = .inl (am_dA G 4, am_al q.1, .inr (.inl (σ.2 q.1 q.2))) := by
  unfold am_E
  rw [h]
  rfl
theorem am_E5 (G : am_G) (σ : am_S) {q : am_P} (h : am_ak q.1 = 5) : am_E G σ q = .inl (am_dA G 5, am_al q.1, .inr (.inr (.inr (.inr (fun j => some (am_ad G (1, j))))))) := by
  unfold am_E
  rw [h]
  rfl
theorem am_E6 (G : am_G) (σ : am_S) {q : am_P} (h : am_ak q.1 = 6) : am_E G σ q = .inl (am_dA G 6, am_al q.1, .inr (.inr (.inr (.inr (fun j => some (am_ad G (2, j))))))) := by
  unfold am_E
  rw [h]
  rfl
theorem am_al56 : ∀ t, am_ak t = 5 ∨ am_ak t = 6 → am_al t ≤ 8 := by
  intro t h
  unfold am_ak at h
  split at h <;> first | (exact absurd h (by decide)) | (exact Nat.le_refl 8)
section AMS
variable {p : Program} {l : Launch} {e : Env} {R : Room} {s : State} {m : MethodId} {args : Array Value} {below : List Frame} {meth : Method} {c : Code} {G : am_G} {nL : Nat} {k : am_O → am_S → Prop}
variable {cc : ByteArray} {own : String} {ret : Option FieldType} {d pc : Nat} {σ : am_S} {ls : am_L} {st : List am_V} {next : am_S → am_L → List am_V → Prop}

theorem am_k7 : ∀ t, am_ak t = 7 → am_np t = 0 := by
  intro t h
  unfold am_ak at h
  split at h <;> first | (exact absurd h (by decide)) | rfl
theorem am_s_ifCond (F : am_Fx p R s m args meth c cc nL own ret G d) {b : Jvm.ClassFile.Cond} {off : Int} {t : Nat} (ht : (pc : Int) + off = (t : Int)) (hd : decode cc pc = .ok (.ifCond b off, 3)) (h : am_1i st fun v r => am_br b v 0 (am_K p l e R s m args below meth c G nL k t σ ls r) (next σ ls r)) (hn : ∀ σ ls st, next σ ls st → am_K p l e R s m args below meth c G nL k (pc + 3) σ ls st) : am_K p l e R s m args below meth c G nL k pc σ ls st := by
  obtain ⟨hx, hb, hml, hown, hts, hlk, hrt, hR, hK, -, hC, hN⟩ := id F
  obtain ⟨v, r, rfl, h⟩ := am_1i_s h
  intro h1 h2 h3 H locs arr hP hS hl
  cases b
  · exact lv_if_eq hx hb hd ht (fun f => h.1 f (am_vs_t h1) h2 h3 H locs arr hP hS hl) (fun f => hn _ _ _ (h.2 (f)) (am_vs_t h1) h2 h3 H locs arr hP hS hl)
  · exact lv_if_ne hx hb hd ht (fun f => h.1 f (am_vs_t h1) h2 h3 H locs arr hP hS hl) (fun f => hn _ _ _ (h.2 (f)) (am_vs_t h1) h2 h3 H locs arr hP hS hl)
  · exact lv_if_lt hx hb hd ht (fun f => h.1 f (am_vs_t h1) h2 h3 H locs arr hP hS hl) (fun f => hn _ _ _ (h.2 (Int32.not_lt.mp f)) (am_vs_t h1) h2 h3 H locs arr hP hS hl)
  · exact lv_if_ge hx hb hd ht (fun f => h.1 f (am_vs_t h1) h2 h3 H locs arr hP hS hl) (fun f => hn _ _ _ (h.2 (Int32.not_le.mp f)) (am_vs_t h1) h2 h3 H locs arr hP hS hl)
  · exact lv_if_gt hx hb hd ht (fun f => h.1 f (am_vs_t h1) h2 h3 H locs arr hP hS hl) (fun f => hn _ _ _ (h.2 (Int32.not_lt.mp f)) (am_vs_t h1) h2 h3 H locs arr hP hS hl)
  · exact lv_if_le hx hb hd ht (fun f => h.1 f (am_vs_t h1) h2 h3 H locs arr hP hS hl) (fun f => hn _ _ _ (h.2 (Int32.not_le.mp f)) (am_vs_t h1) h2 h3 H locs arr hP hS hl)
theorem am_s_if_icmp (F : am_Fx p R s m args meth c cc nL own ret G d) {b : Jvm.ClassFile.Cond} {off : Int} {t : Nat} (ht : (pc : Int) + off = (t : Int)) (hd : decode cc pc = .ok (.if_icmp b off, 3)) (h : am_2i st fun v w r => am_br b v w (am_K p l e R s m args below meth c G nL k t σ ls r) (next σ ls r)) (hn : ∀ σ ls st, next σ ls st → am_K p l e R s m args below meth c G nL k (pc + 3) σ ls st) : am_K p l e R s m args below meth c G nL k pc σ ls st := by
  obtain ⟨hx, hb, hml, hown, hts, hlk, hrt, hR, hK, -, hC, hN⟩ := id F
  obtain ⟨v, w, r, rfl, h⟩ := am_2i_s h
  intro h1 h2 h3 H locs arr hP hS hl
  cases b
  · exact lv_icmp_eq hx hb hd ht (fun f => h.1 f (am_vs_t (am_vs_t h1)) h2 h3 H locs arr hP hS hl) (fun f => hn _ _ _ (h.2 (f)) (am_vs_t (am_vs_t h1)) h2 h3 H locs arr hP hS hl)
  · exact lv_icmp_ne hx hb hd ht (fun f => h.1 f (am_vs_t (am_vs_t h1)) h2 h3 H locs arr hP hS hl) (fun f => hn _ _ _ (h.2 (f)) (am_vs_t (am_vs_t h1)) h2 h3 H locs arr hP hS hl)
  · exact lv_icmp_lt hx hb hd ht (fun f => h.1 f (am_vs_t (am_vs_t h1)) h2 h3 H locs arr hP hS hl) (fun f => hn _ _ _ (h.2 (Int32.not_lt.mp f)) (am_vs_t (am_vs_t h1)) h2 h3 H locs arr hP hS hl)
  · exact lv_icmp_ge hx hb hd ht (fun f => h.1 f (am_vs_t (am_vs_t h1)) h2 h3 H locs arr hP hS hl) (fun f => hn _ _ _ (h.2 (Int32.not_le.mp f)) (am_vs_t (am_vs_t h1)) h2 h3 H locs arr hP hS hl)
  · exact lv_icmp_gt hx hb hd ht (fun f => h.1 f (am_vs_t (am_vs_t h1)) h2 h3 H locs arr hP hS hl) (fun f => hn _ _ _ (h.2 (Int32.not_lt.mp f)) (am_vs_t (am_vs_t h1)) h2 h3 H locs arr hP hS hl)
  · exact lv_icmp_le hx hb hd ht (fun f => h.1 f (am_vs_t (am_vs_t h1)) h2 h3 H locs arr hP hS hl) (fun f => hn _ _ _ (h.2 (Int32.not_le.mp f)) (am_vs_t (am_vs_t h1)) h2 h3 H locs arr hP hS hl)
theorem am_s_goto (F : am_Fx p R s m args meth c cc nL own ret G d) {off : Int} {t : Nat} (ht : (pc : Int) + off = (t : Int)) (hd : decode cc pc = .ok (.goto off, 3)) (h : am_K p l e R s m args below meth c G nL k t σ ls st) : am_K p l e R s m args below meth c G nL k pc σ ls st := by
  obtain ⟨hx, hb, hml, hown, hts, hlk, hrt, hR, hK, -, hC, hN⟩ := id F
  intro h1 h2 h3 H locs arr hP hS hl
  exact lv_goto hx hb hd ht (h h1 h2 h3 H locs arr hP hS hl)
theorem am_s_tableswitch (F : am_Fx p R s m args meth c cc nL own ret G d) {df lo hi : Int} {offs : Array Int} {n : Nat} (h0 : 0 ≤ (pc : Int) + df) (hof : ∀ (j : Nat) (off : Int), offs[j]? = some off → 0 ≤ (pc : Int) + off) (hsz : hi - lo + 1 = (offs.size : Int)) (hd : decode cc pc = .ok (.tableswitch df lo hi offs, n)) (h : am_1i st fun v r => ((v.toInt < lo ∨ hi < v.toInt) → am_K p l e R s m args below meth c G nL k (am_tg pc df) σ ls r) ∧ ∀ (j : Nat) (off : Int), offs[j]? = some off → v.toInt = lo + (j : Int) → v.toInt ≤ hi → am_K p l e R s m args below meth c G nL k (am_tg pc off) σ ls r) : am_K p l e R s m args below meth c G nL k pc σ ls st := by
  obtain ⟨hx, hb, hml, hown, hts, hlk, hrt, hR, hK, -, hC, hN⟩ := id F
  obtain ⟨v, r, rfl, h⟩ := am_1i_s h
  intro h1 h2 h3 H locs arr hP hS hl
  by_cases hv : v.toInt < lo ∨ hi < v.toInt
  · exact lv_tableOut hx hb hd hv (by unfold am_tg; omega) (h.1 hv (am_vs_t h1) h2 h3 H locs arr hP hS hl)
  · have hlo : ¬ v.toInt < lo := fun z => hv (Or.inl z)
    have hhi : ¬ hi < v.toInt := fun z => hv (Or.inr z)
    have hj : (v.toInt - lo).toNat < offs.size := by omega
    have ho : offs[(v.toInt - lo).toNat]? = some offs[(v.toInt - lo).toNat] := Array.getElem?_eq_getElem hj
    exact lv_tableIn hx hb hd hlo hhi ho (by have := hof _ _ ho; unfold am_tg; omega) (h.2 _ _ ho (by omega) (by omega) (am_vs_t h1) h2 h3 H locs arr hP hS hl)
theorem am_s_dupI (F : am_Fx p R s m args meth c cc nL own ret G d) {v : Int32} {r : List am_V} (hd : decode cc pc = .ok (.dup, 1)) (h : next σ ls (.inl v :: .inl v :: r)) (hn : ∀ σ ls st, next σ ls st → am_K p l e R s m args below meth c G nL k (pc + 1) σ ls st) : am_K p l e R s m args below meth c G nL k pc σ ls (.inl v :: r) := by
  obtain ⟨hx, hb, hml, hown, hts, hlk, hrt, hR, hK, -, hC, hN⟩ := id F
  intro h1 h2 h3 H locs arr hP hS hl
  exact lv_dup (va := .int v) hx hb hd rfl (hn _ _ _ h (am_vs_i h1) h2 h3 H locs arr hP hS hl)
theorem am_s_dupR (F : am_Fx p R s m args meth c cc nL own ret G d) {v : am_P} {r : List am_V} (hd : decode cc pc = .ok (.dup, 1)) (h : next σ ls (.inr (.inr v) :: .inr (.inr v) :: r)) (hn : ∀ σ ls st, next σ ls st → am_K p l e R s m args below meth c G nL k (pc + 1) σ ls st) : am_K p l e R s m args below meth c G nL k pc σ ls (.inr (.inr v) :: r) := by
  obtain ⟨hx, hb, hml, hown, hts, hlk, hrt, hR, hK, -, hC, hN⟩ := id F
  intro h1 h2 h3 H locs arr hP hS hl
  exact lv_dup (va := .ref (am_ad G v)) hx hb hd rfl (hn _ _ _ h (am_vs_c (am_vs_h h1) h1) h2 h3 H locs arr hP hS hl)
theorem am_s_dup2I (F : am_Fx p R s m args meth c cc nL own ret G d) {v w : Int32} {r : List am_V} (hd : decode cc pc = .ok (.dup2, 1)) (h : next σ ls (.inl v :: .inl w :: .inl v :: .inl w :: r)) (hn : ∀ σ ls st, next σ ls st → am_K p l e R s m args below meth c G nL k (pc + 1) σ ls st) : am_K p l e R s m args below meth c G nL k pc σ ls (.inl v :: .inl w :: r) := by
  obtain ⟨hx, hb, hml, hown, hts, hlk, hrt, hR, hK, -, hC, hN⟩ := id F
  intro h1 h2 h3 H locs arr hP hS hl
  exact lv_dup2_11 (va := .int v) (vb := .int w) hx hb hd rfl rfl (hn _ _ _ h (am_vs_i (am_vs_i h1)) h2 h3 H locs arr hP hS hl)
theorem am_s_dup2R (F : am_Fx p R s m args meth c cc nL own ret G d) {v : Int32} {w : am_P} {r : List am_V} (hd : decode cc pc = .ok (.dup2, 1)) (h : next σ ls (.inl v :: .inr (.inr w) :: .inl v :: .inr (.inr w) :: r)) (hn : ∀ σ ls st, next σ ls st → am_K p l e R s m args below meth c G nL k (pc + 1) σ ls st) : am_K p l e R s m args below meth c G nL k pc σ ls (.inl v :: .inr (.inr w) :: r) := by
  obtain ⟨hx, hb, hml, hown, hts, hlk, hrt, hR, hK, -, hC, hN⟩ := id F
  intro h1 h2 h3 H locs arr hP hS hl
  exact lv_dup2_11 (va := .int v) (vb := .ref (am_ad G w)) hx hb hd rfl rfl (hn _ _ _ h (am_vs_i (am_vs_c (am_vs_h (am_vs_t h1)) h1)) h2 h3 H locs arr hP hS hl)
theorem am_s_pop (F : am_Fx p R s m args meth c cc nL own ret G d) {v : Int32} {r : List am_V} (hd : decode cc pc = .ok (.pop, 1)) (h : next σ ls r) (hn : ∀ σ ls st, next σ ls st → am_K p l e R s m args below meth c G nL k (pc + 1) σ ls st) : am_K p l e R s m args below meth c G nL k pc σ ls (.inl v :: r) := by
  obtain ⟨hx, hb, hml, hown, hts, hlk, hrt, hR, hK, -, hC, hN⟩ := id F
  intro h1 h2 h3 H locs arr hP hS hl
  exact lv_pop (va := .int v) hx hb hd rfl (hn _ _ _ h (am_vs_t h1) h2 h3 H locs arr hP hS hl)
theorem am_fv_at (G : am_G) (σ : am_S) (t i : Nat) {b : Nat} (hb : b < am_nf t) : ((List.range (am_nf t)).map (am_fv G σ t i))[b]? = some (am_fv G σ t i b) := by
  simp [hb]
theorem am_getf (F : am_Fx p R s m args meth c cc nL own ret G d) {a b index : Nat} {q : am_P} {r : List am_V} {v : am_V} (hq : q.1 = a) (ha : a < 6) (hb6 : b < am_nf a) (hw : Cond.fieldLink own index (am_TT a b).1 (am_TT a b).2.1 (am_TT a b).2.2.1 ∈ lw_all ∨ (own = "TableWays" ∧ a = 3 ∧ ((index = 232 ∧ b = 6) ∨ (index = 235 ∧ b = 7)))) (hv : am_fv G σ a q.2 b = am_ev G v) (hov : am_vq q → am_ok v) (hd : decode cc pc = .ok (.getfield index, 3)) (h : am_K p l e R s m args below meth c G nL k (pc + 3) σ ls (v :: r)) : am_K p l e R s m args below meth c G nL k pc σ ls (.inr (.inr q) :: r) := by
  obtain ⟨hx, hb, hml, hown, hts, hlk, hrt, hR, hK, -, hC, hN⟩ := id F
  intro h1 h2 h3 H locs arr hP hS hl
  have hvq : am_vq q := am_vs_h h1
  subst hq
  obtain ⟨n, -, hn2⟩ := am_at G σ (am_vq_ob hvq ha)
  rw [am_E0 G σ ha] at hn2
  have hg := h (am_vs_c (hov hvq) (am_vs_t h1)) h2 h3 H locs arr hP hS hl
  rcases hw with hw | ⟨e1, e2, hw⟩
  · exact va_get (D := am_D G) (ci := q.1) (v := am_ev G v) (C := am_R q.1) (T := am_TT q.1) (N := am_nf q.1) hx hb hts (am_inw _ ha) hown hK hP n hn2 (am_cl_at _ ha) b hb6 (hts _ hw) (fun _ h9 => h9) (by rw [am_fv_at _ _ _ _ hb6, hv]) hd hg
  · subst e1
    rcases hw with ⟨e3, e4⟩ | ⟨e3, e4⟩
    · subst e3; subst e4
      have hl2 : (Cond.fieldLinkNest "TableWays" 232 (am_TT q.1 6).1 (am_TT q.1 6).2.1 (am_TT q.1 6).2.2.1 "TableWays").before args s = true := by rw [e2]; exact hN.2.1.use rfl
      exact va_getN (D := am_D G) (ci := q.1) (v := am_ev G v) (C := am_R q.1) (T := am_TT q.1) (N := am_nf q.1) hx hb hts (am_inw _ ha) hown hK hP n hn2 (am_cl_at _ ha) 6 hb6 hl2 (fun _ h9 => h9) (by rw [am_fv_at _ _ _ _ hb6, hv]) hd hg
    · subst e3; subst e4
      have hl2 : (Cond.fieldLinkNest "TableWays" 235 (am_TT q.1 7).1 (am_TT q.1 7).2.1 (am_TT q.1 7).2.2.1 "TableWays").before args s = true := by rw [e2]; exact hN.2.2.1.use rfl
      exact va_getN (D := am_D G) (ci := q.1) (v := am_ev G v) (C := am_R q.1) (T := am_TT q.1) (N := am_nf q.1) hx hb hts (am_inw _ ha) hown hK hP n hn2 (am_cl_at _ ha) 7 hb6 hl2 (fun _ h9 => h9) (by rw [am_fv_at _ _ _ _ hb6, hv]) hd hg
theorem am_getk (F : am_Fx p R s m args meth c cc nL own ret G d) {b index : Nat} {q : am_P} {r : List am_V} (hq : q.1 = 6) (hw : Cond.fieldLink own index "TableWays$Kind" (if b = 0 then "first" else "second") "I" ∈ lw_all) (hd : decode cc pc = .ok (.getfield index, 3)) (h : am_K p l e R s m args below meth c G nL k (pc + 3) σ ls (.inl (am_kf q.2 b) :: r)) : am_K p l e R s m args below meth c G nL k pc σ ls (.inr (.inr q) :: r) := by
  obtain ⟨hx, hb, hml, hown, hts, hlk, hrt, hR, hK, -, hC, hN⟩ := id F
  intro h1 h2 h3 H locs arr hP hS hl
  have hvq : am_vq q := am_vs_h h1
  obtain ⟨t, i⟩ := q
  subst hq
  have hi : 1 ≤ i ∧ i ≤ 14 := by
    rcases hvq with g | ⟨-, g⟩ | ⟨g, -⟩ | ⟨g, -⟩ | ⟨g, -⟩
    · exact absurd g (Nat.not_lt_zero _)
    · exact g
    · exact absurd (show (6 : Nat) = 7 from g) (by decide)
    · exact absurd (show (6 : Nat) = 8 from g) (by decide)
    · exact absurd (show (6 : Nat) = 9 from g) (by decide)
  obtain ⟨-, -, k1, k2⟩ := hC.1 i hi.1 hi.2
  have hg := h (am_vs_i (am_vs_t h1)) h2 h3 H locs arr hP hS hl
  by_cases hb0 : b = 0
  · subst hb0
    exact vk_getf hx hb k1 hS hown (hts _ hw) (fun _ h9 => h9) hd hg
  · rw [if_neg hb0] at hw
    have e1 : am_kf i b = am_kf i 1 := by
      cases b with
      | zero => exact absurd rfl hb0
      | succ b => rfl
    exact vk_getf hx hb k2 hS hown (hts _ hw) (fun _ h9 => h9) hd (by rw [← e1]; exact hg)
theorem am_fit_int (v : Int32) : narrow .int (.int v) = .int v ∧ fits .int (.int v) = true := ⟨rfl, rfl⟩
theorem am_fit_bool {v : Int32} (h : v = nI 0 ∨ v = nI 1) : narrow .boolean (.int v) = .int v ∧ fits .boolean (.int v) = true := by
  rcases h with h | h
  · subst h; exact ⟨by decide +kernel, by decide +kernel⟩
  · subst h; exact ⟨by decide +kernel, by decide +kernel⟩
theorem am_fv_set {a i b : Nat} {v : Int32} (hb : b < am_nf a) (hf : (am_fr a b).1 = 0) : ((List.range (am_nf a)).map (am_fv G σ a i)).set b (.int v) = (List.range (am_nf a)).map (am_fv G (am_ri σ a i (upd (σ.1 a i) b v)) a i) := by
  apply List.ext_getElem?
  intro j
  by_cases hj : j = b
  · subst hj
    rw [List.getElem?_set_self (by simpa using hb)]
    simp [hb, am_fv, hf, am_ri_self, pk_us]
  · rw [List.getElem?_set_ne (Ne.symm hj)]
    simp only [List.getElem?_map, List.getElem?_range]
    by_cases hjn : j < am_nf a
    · simp [hjn, am_fv, am_ri_self, pk_un hj]
    · simp [hjn]
theorem am_putf (F : am_Fx p R s m args meth c cc nL own ret G d) {a b cz index : Nat} {q : am_P} {v : Int32} {r : List am_V} (hq : q.1 = a) (ha : a < 6) (hb6 : b < am_nf a) (hfr : (am_fr a b).1 = 0) (hfin : (am_TT a b).2.2.2 = false) (hty : am_ty a b = (if cz = 1 then .boolean else .int)) (hbit : am_bit cz v) (hw : Cond.fieldLink own index (am_TT a b).1 (am_TT a b).2.1 (am_TT a b).2.2.1 ∈ lw_all) (hd : decode cc pc = .ok (.putfield index, 3)) (h : am_K p l e R s m args below meth c G nL k (pc + 3) (am_ri σ a q.2 (upd (σ.1 a q.2) b v)) ls r) : am_K p l e R s m args below meth c G nL k pc σ ls (.inl v :: .inr (.inr q) :: r) := by
  obtain ⟨hx, hb, hml, hown, hts, hlk, hrt, hR, hK, -, hC, hN⟩ := id F
  intro h1 h2 h3 H locs arr hP hS hl
  have hvq : am_vq q := am_vs_h (am_vs_t h1)
  subst hq
  obtain ⟨n, hn1, hn2⟩ := am_at G σ (am_vq_ob hvq ha)
  rw [am_E0 G σ ha] at hn2
  have hnf : narrow (am_ty q.1 b) (.int v) = .int v ∧ fits (am_ty q.1 b) (.int v) = true := by
    rw [hty]
    by_cases hc : cz = 1
    · subst hc
      exact am_fit_bool hbit
    · rw [if_neg hc]
      exact am_fit_int v
  refine va_put (D := am_D G) (ci := q.1) (v := .int v) (ty := am_ty q.1 b) (C := am_R q.1) (T := am_TT q.1) (N := am_nf q.1) hx hb hts (am_inw _ ha) (am_ty q.1) (am_tyw _ ha) (am_nmw _ ha) hown hK hP (F.D σ) hS n hn2 (am_cl_at _ ha) b hb6 (hts _ hw) (fun _ h9 => h9) hfin (am_tyw _ ha b hb6) hnf.1 hnf.2 (by simpa using hb6) hd (fun H1 locs1 hP1 hD1 hS1 => ?_)
  rw [am_fv_set hb6 hfr] at hP1
  have hE := am_E0 G (am_ri σ q.1 q.2 (upd (σ.1 q.1 q.2) b v)) ha
  rw [← hE, am_w_set hn1 (fun q' hq' => am_E_ri hq')] at hP1
  exact h (am_vs_t (am_vs_t h1)) h2 h3 H1 locs1 arr hP1 hS1 hl

theorem am_s_getstK (F : am_Fx p R s m args meth c cc nL own ret G d) {b index : Nat} (hb1 : 1 ≤ b) (hb2 : b ≤ 14) (hw : Cond.fieldLink own index "TableWays$Kind" (am_kn b) "LTableWays$Kind;" ∈ lw_all) (hd : decode cc pc = .ok (.getstatic index, 3)) (h : next σ ls (.inr (.inr (6, b)) :: st)) (hn : ∀ σ ls st, next σ ls st → am_K p l e R s m args below meth c G nL k (pc + 3) σ ls st) : am_K p l e R s m args below meth c G nL k pc σ ls st := by
  obtain ⟨hx, hb, hml, hown, hts, hlk, hrt, hR, hK, -, hC, hN⟩ := id F
  intro h1 h2 h3 H locs arr hP hS hl
  exact va_gets hx hb (hC.1 b hb1 hb2).1 hS hown (hts _ hw) (fun _ h9 => h9) hd (hn _ _ _ h (am_vs_c (Or.inr (Or.inl ⟨rfl, hb1, hb2⟩)) h1) h2 h3 H locs arr hP hS hl)
theorem am_s_getstL (F : am_Fx p R s m args meth c cc nL own ret G d) {index : Nat} (hw : Cond.fieldLink own index "TableWaysModel" "LISTED" "[J" ∈ lw_all) (hd : decode cc pc = .ok (.getstatic index, 3)) (h : next σ ls (.inr (.inr (8, 0)) :: st)) (hn : ∀ σ ls st, next σ ls st → am_K p l e R s m args below meth c G nL k (pc + 3) σ ls st) : am_K p l e R s m args below meth c G nL k pc σ ls st := by
  obtain ⟨hx, hb, hml, hown, hts, hlk, hrt, hR, hK, -, hC, hN⟩ := id F
  intro h1 h2 h3 H locs arr hP hS hl
  exact va_gets hx hb hC.2.2.1.1 hS hown (hts _ hw) (fun _ h9 => h9) hd (hn _ _ _ h (am_vs_c (Or.inr (Or.inr (Or.inr (Or.inl ⟨rfl, rfl⟩)))) h1) h2 h3 H locs arr hP hS hl)
theorem am_s_iaload (F : am_Fx p R s m args meth c cc nL own ret G d)  (hd : decode cc pc = .ok (.iaload, 1)) (h : am_1i st fun j r => am_1r r fun q r => am_ak q.1 = 1 ∧ vp_in j (am_al q.1) ∧ next σ ls (.inl (σ.1 q.1 q.2 j.toNatClampNeg) :: r)) (hn : ∀ σ ls st, next σ ls st → am_K p l e R s m args below meth c G nL k (pc + 1) σ ls st) : am_K p l e R s m args below meth c G nL k pc σ ls st := by
  obtain ⟨hx, hb, hml, hown, hts, hlk, hrt, hR, hK, -, hC, hN⟩ := id F
  obtain ⟨j, r, rfl, h⟩ := am_1i_s h
  obtain ⟨q, r, rfl, h⟩ := am_1r_s h
  intro h1 h2 h3 H locs arr hP hS hl
  have hvq : am_vq q := am_vs_h (am_vs_t h1)
  obtain ⟨hk, hin, h⟩ := h
  obtain ⟨n, hn1, hn2⟩ := am_at G σ (am_vq_np hvq (by rw [hk]; decide) (by rw [hk]; decide))
  rw [am_E1 G σ hk] at hn2
  exact va_iald hx hb hK hP n 0 hn2 rfl hin hd (hn _ _ _ h (am_vs_i (am_vs_t (am_vs_t h1))) h2 h3 H locs arr hP hS hl)
theorem am_vq_s7 {i : Nat} (h : am_vq (7, i)) : i < 20 := by
  rcases h with g | ⟨g, -⟩ | ⟨-, g⟩ | ⟨g, -⟩ | ⟨g, -⟩
  · exact absurd g (Nat.not_lt_zero _)
  · exact absurd (show (7 : Nat) = 6 from g) (by decide)
  · exact g
  · exact absurd (show (7 : Nat) = 8 from g) (by decide)
  · exact absurd (show (7 : Nat) = 9 from g) (by decide)
theorem am_vq_s9 {i : Nat} (h : am_vq (9, i)) : i < 20 := by
  rcases h with g | ⟨g, -⟩ | ⟨g, -⟩ | ⟨g, -⟩ | ⟨-, g⟩
  · exact absurd g (Nat.not_lt_zero _)
  · exact absurd (show (9 : Nat) = 6 from g) (by decide)
  · exact absurd (show (9 : Nat) = 7 from g) (by decide)
  · exact absurd (show (9 : Nat) = 8 from g) (by decide)
  · exact g
theorem am_s_baload (F : am_Fx p R s m args meth c cc nL own ret G d)  (hd : decode cc pc = .ok (.baload, 1)) (h : am_1i st fun j r => am_1r r fun q r => ((am_ak q.1 = 2 ∨ am_ak q.1 = 3) ∧ vp_in j (am_al q.1) ∧ next σ ls (.inl (σ.1 q.1 q.2 j.toNatClampNeg) :: r)) ∨ (q.1 = 9 ∧ vp_in j (am_sb q.2).length ∧ next σ ls (.inl (nI ((am_sb q.2).getD j.toNatClampNeg 0)) :: r))) (hn : ∀ σ ls st, next σ ls st → am_K p l e R s m args below meth c G nL k (pc + 1) σ ls st) : am_K p l e R s m args below meth c G nL k pc σ ls st := by
  obtain ⟨hx, hb, hml, hown, hts, hlk, hrt, hR, hK, -, hC, hN⟩ := id F
  obtain ⟨j, r, rfl, h⟩ := am_1i_s h
  obtain ⟨q, r, rfl, h⟩ := am_1r_s h
  intro h1 h2 h3 H locs arr hP hS hl
  have hvq : am_vq q := am_vs_h (am_vs_t h1)
  rcases h with h | ⟨hq9, hin, h⟩
  · obtain ⟨hk, hin, h⟩ := h
    rcases hk with hk | hk
    · obtain ⟨n, hn1, hn2⟩ := am_at G σ (am_vq_np hvq (by rw [hk]; decide) (by rw [hk]; decide))
      rw [am_E2 G σ hk] at hn2
      exact va_bald hx hb hK hP n 1 hn2 rfl hin hd (hn _ _ _ h (am_vs_i (am_vs_t (am_vs_t h1))) h2 h3 H locs arr hP hS hl)
    · obtain ⟨n, hn1, hn2⟩ := am_at G σ (am_vq_np hvq (by rw [hk]; decide) (by rw [hk]; decide))
      rw [am_E3 G σ hk] at hn2
      exact va_zald hx hb hK hP n 2 hn2 rfl hin hd (hn _ _ _ h (am_vs_i (am_vs_t (am_vs_t h1))) h2 h3 H locs arr hP hS hl)
  · obtain ⟨t, i⟩ := q
    have hq9 : t = 9 := hq9
    subst hq9
    have hi := am_vq_s9 hvq
    exact va_tb hx hb (hC.2.1 i hi).2.2.2.2 hS hin rfl hd (hn _ _ _ h (am_vs_i (am_vs_t (am_vs_t h1))) h2 h3 H locs arr hP hS hl)
theorem am_s_laload (F : am_Fx p R s m args meth c cc nL own ret G d)  (hd : decode cc pc = .ok (.laload, 1)) (h : am_1i st fun j r => am_1r r fun q r => vp_in j (am_al q.1) ∧ ((am_ak q.1 = 4 ∧ next σ ls (.inr (.inl (σ.2 q.1 q.2 j.toNatClampNeg)) :: r)) ∨ (am_ak q.1 = 7 ∧ next σ ls (.inr (.inl (am_ls j.toNatClampNeg)) :: r)))) (hn : ∀ σ ls st, next σ ls st → am_K p l e R s m args below meth c G nL k (pc + 1) σ ls st) : am_K p l e R s m args below meth c G nL k pc σ ls st := by
  obtain ⟨hx, hb, hml, hown, hts, hlk, hrt, hR, hK, -, hC, hN⟩ := id F
  obtain ⟨j, r, rfl, h⟩ := am_1i_s h
  obtain ⟨q, r, rfl, h⟩ := am_1r_s h
  intro h1 h2 h3 H locs arr hP hS hl
  have hvq : am_vq q := am_vs_h (am_vs_t h1)
  obtain ⟨hin, ⟨hk, h9⟩ | ⟨hk, h9⟩⟩ := h
  · obtain ⟨n, hn1, hn2⟩ := am_at G σ (am_vq_np hvq (by rw [hk]; decide) (by rw [hk]; decide))
    rw [am_E4 G σ hk] at hn2
    exact va_lald hx hb hK hP n 3 hn2 rfl hin hd (hn _ _ _ h9 (am_vs_l (am_vs_t (am_vs_t h1))) h2 h3 H locs arr hP hS hl)
  · have hq : q = (8, 0) := by
      rcases hvq with g | ⟨g, -⟩ | ⟨g, -⟩ | ⟨g, g2⟩ | ⟨g, -⟩
      · exact absurd g (by rw [am_k7 _ hk]; omega)
      · rw [g] at hk; exact absurd hk (by decide)
      · rw [g] at hk; exact absurd hk (by decide)
      · exact Prod.ext g g2
      · rw [g] at hk; exact absurd hk (by decide)
    subst hq
    exact va_tl hx hb hC.2.2.1.2 hS hin rfl hd (hn _ _ _ h9 (am_vs_l (am_vs_t (am_vs_t h1))) h2 h3 H locs arr hP hS hl)
theorem am_s_aaload (F : am_Fx p R s m args meth c cc nL own ret G d)  (hd : decode cc pc = .ok (.aaload, 1)) (h : am_1i st fun j r => am_1r r fun q r => (am_ak q.1 = 5 ∨ am_ak q.1 = 6) ∧ vp_in j (am_al q.1) ∧ next σ ls (.inr (.inr (am_ak q.1 - 4, j.toNatClampNeg)) :: r)) (hn : ∀ σ ls st, next σ ls st → am_K p l e R s m args below meth c G nL k (pc + 1) σ ls st) : am_K p l e R s m args below meth c G nL k pc σ ls st := by
  obtain ⟨hx, hb, hml, hown, hts, hlk, hrt, hR, hK, -, hC, hN⟩ := id F
  obtain ⟨j, r, rfl, h⟩ := am_1i_s h
  obtain ⟨q, r, rfl, h⟩ := am_1r_s h
  intro h1 h2 h3 H locs arr hP hS hl
  have hvq : am_vq q := am_vs_h (am_vs_t h1)
  obtain ⟨hk, hin, h⟩ := h
  have hj : j.toNatClampNeg < 8 := Nat.lt_of_lt_of_le (Nat.not_le.mp fun z => hin (Or.inr z)) (am_al56 _ hk)
  rcases hk with hk | hk
  · obtain ⟨n, hn1, hn2⟩ := am_at G σ (am_vq_np hvq (by rw [hk]; decide) (by rw [hk]; decide))
    rw [am_E5 G σ hk] at hn2
    rw [hk] at h
    exact va_aldq hx hb hK hP n 4 hn2 rfl hin hd (hn _ _ _ h (am_vs_c (x := .inr (.inr (5 - 4, j.toNatClampNeg))) (Or.inl (show j.toNatClampNeg < 14 by omega)) (am_vs_t (am_vs_t h1))) h2 h3 H locs arr hP hS hl)
  · obtain ⟨n, hn1, hn2⟩ := am_at G σ (am_vq_np hvq (by rw [hk]; decide) (by rw [hk]; decide))
    rw [am_E6 G σ hk] at hn2
    rw [hk] at h
    exact va_aldq hx hb hK hP n 5 hn2 rfl hin hd (hn _ _ _ h (am_vs_c (x := .inr (.inr (6 - 4, j.toNatClampNeg))) (Or.inl (show j.toNatClampNeg < 9 by omega)) (am_vs_t (am_vs_t h1))) h2 h3 H locs arr hP hS hl)
theorem am_s_iastore (F : am_Fx p R s m args meth c cc nL own ret G d)  (hd : decode cc pc = .ok (.iastore, 1)) (h : am_2i st fun j v r => am_1r r fun q r => am_ak q.1 = 1 ∧ vp_in j (am_al q.1) ∧ next (am_ri σ q.1 q.2 (upd (σ.1 q.1 q.2) j.toNatClampNeg v)) ls r) (hn : ∀ σ ls st, next σ ls st → am_K p l e R s m args below meth c G nL k (pc + 1) σ ls st) : am_K p l e R s m args below meth c G nL k pc σ ls st := by
  obtain ⟨hx, hb, hml, hown, hts, hlk, hrt, hR, hK, -, hC, hN⟩ := id F
  obtain ⟨j, v, r, rfl, h⟩ := am_2i_s h
  obtain ⟨q, r, rfl, h⟩ := am_1r_s h
  intro h1 h2 h3 H locs arr hP hS hl
  have hvq : am_vq q := am_vs_h (am_vs_t (am_vs_t h1))
  obtain ⟨hk, hin, h⟩ := h
  obtain ⟨n, hn1, hn2⟩ := am_at G σ (am_vq_np hvq (by rw [hk]; decide) (by rw [hk]; decide))
  rw [am_E1 G σ hk] at hn2
  refine va_iast hx hb hK hP (F.D σ) hS n 0 hn2 rfl hin hd (fun H1 locs1 hP1 hD1 hS1 => ?_)
  have hE := am_E1 G (am_ri σ q.1 q.2 (upd (σ.1 q.1 q.2) j.toNatClampNeg (v))) hk
  rw [am_ri_self] at hE
  rw [← hE, am_w_set hn1 (fun q' hq' => am_E_ri hq')] at hP1
  exact hn _ _ _ h (am_vs_t (am_vs_t (am_vs_t h1))) h2 h3 H1 locs1 arr hP1 hS1 hl
theorem am_s_bastore (F : am_Fx p R s m args meth c cc nL own ret G d)  (hd : decode cc pc = .ok (.bastore, 1)) (h : am_2i st fun j v r => am_1r r fun q r => vp_in j (am_al q.1) ∧ ((am_ak q.1 = 2 ∧ next (am_ri σ q.1 q.2 (upd (σ.1 q.1 q.2) j.toNatClampNeg v.toInt8.toInt32)) ls r) ∨ (am_ak q.1 = 3 ∧ (v = nI 0 ∨ v = nI 1) ∧ next (am_ri σ q.1 q.2 (upd (σ.1 q.1 q.2) j.toNatClampNeg v)) ls r))) (hn : ∀ σ ls st, next σ ls st → am_K p l e R s m args below meth c G nL k (pc + 1) σ ls st) : am_K p l e R s m args below meth c G nL k pc σ ls st := by
  obtain ⟨hx, hb, hml, hown, hts, hlk, hrt, hR, hK, -, hC, hN⟩ := id F
  obtain ⟨j, v, r, rfl, h⟩ := am_2i_s h
  obtain ⟨q, r, rfl, h⟩ := am_1r_s h
  intro h1 h2 h3 H locs arr hP hS hl
  have hvq : am_vq q := am_vs_h (am_vs_t (am_vs_t h1))
  obtain ⟨hin, ⟨hk, h⟩ | ⟨hk, hbit, h⟩⟩ := h
  · obtain ⟨n, hn1, hn2⟩ := am_at G σ (am_vq_np hvq (by rw [hk]; decide) (by rw [hk]; decide))
    rw [am_E2 G σ hk] at hn2
    refine va_bast hx hb hK hP (F.D σ) hS n 1 hn2 rfl hin hd (fun H1 locs1 hP1 hD1 hS1 => ?_)
    have hE := am_E2 G (am_ri σ q.1 q.2 (upd (σ.1 q.1 q.2) j.toNatClampNeg (v.toInt8.toInt32))) hk
    rw [am_ri_self] at hE
    rw [vp_nar_byte, ← hE, am_w_set hn1 (fun q' hq' => am_E_ri hq')] at hP1
    exact hn _ _ _ h (am_vs_t (am_vs_t (am_vs_t h1))) h2 h3 H1 locs1 arr hP1 hS1 hl
  · obtain ⟨n, hn1, hn2⟩ := am_at G σ (am_vq_np hvq (by rw [hk]; decide) (by rw [hk]; decide))
    rw [am_E3 G σ hk] at hn2
    refine va_zast hx hb hK hP (F.D σ) hS n 2 hn2 rfl hin hd (fun H1 locs1 hP1 hD1 hS1 => ?_)
    have hE := am_E3 G (am_ri σ q.1 q.2 (upd (σ.1 q.1 q.2) j.toNatClampNeg (v))) hk
    rw [am_ri_self] at hE
    have hv2 : vp_nar .boolean v = v := by rcases hbit with g | g <;> (subst g; decide +kernel)
    rw [hv2, ← hE, am_w_set hn1 (fun q' hq' => am_E_ri hq')] at hP1
    exact hn _ _ _ h (am_vs_t (am_vs_t (am_vs_t h1))) h2 h3 H1 locs1 arr hP1 hS1 hl
theorem am_s_lastore (F : am_Fx p R s m args meth c cc nL own ret G d)  (hd : decode cc pc = .ok (.lastore, 1)) (h : am_1l st fun v r => am_1i r fun j r => am_1r r fun q r => am_ak q.1 = 4 ∧ vp_in j (am_al q.1) ∧ next (am_rl σ q.1 q.2 (vp_updL (σ.2 q.1 q.2) j.toNatClampNeg v)) ls r) (hn : ∀ σ ls st, next σ ls st → am_K p l e R s m args below meth c G nL k (pc + 1) σ ls st) : am_K p l e R s m args below meth c G nL k pc σ ls st := by
  obtain ⟨hx, hb, hml, hown, hts, hlk, hrt, hR, hK, -, hC, hN⟩ := id F
  obtain ⟨v, r, rfl, h⟩ := am_1l_s h
  obtain ⟨j, r, rfl, h⟩ := am_1i_s h
  obtain ⟨q, r, rfl, h⟩ := am_1r_s h
  intro h1 h2 h3 H locs arr hP hS hl
  have hvq : am_vq q := am_vs_h (am_vs_t (am_vs_t h1))
  obtain ⟨hk, hin, h⟩ := h
  obtain ⟨n, hn1, hn2⟩ := am_at G σ (am_vq_np hvq (by rw [hk]; decide) (by rw [hk]; decide))
  rw [am_E4 G σ hk] at hn2
  refine va_last hx hb hK hP (F.D σ) hS n 3 hn2 rfl hin hd (fun H1 locs1 hP1 hD1 hS1 => ?_)
  have hE := am_E4 G (am_rl σ q.1 q.2 (vp_updL (σ.2 q.1 q.2) j.toNatClampNeg v)) hk
  rw [am_rl_self] at hE
  rw [← hE, am_w_set hn1 (fun q' hq' => am_E_rl hq')] at hP1
  exact hn _ _ _ h (am_vs_t (am_vs_t (am_vs_t h1))) h2 h3 H1 locs1 arr hP1 hS1 hl
theorem am_s_arraylength (F : am_Fx p R s m args meth c cc nL own ret G d)  (hd : decode cc pc = .ok (.arraylength, 1)) (h : am_1r st fun q r => (am_ak q.1 = 1 ∧ next σ ls (.inl (nI (am_al q.1)) :: r)) ∨ (q.1 = 9 ∧ next σ ls (.inl (nI (am_sb q.2).length) :: r))) (hn : ∀ σ ls st, next σ ls st → am_K p l e R s m args below meth c G nL k (pc + 1) σ ls st) : am_K p l e R s m args below meth c G nL k pc σ ls st := by
  obtain ⟨hx, hb, hml, hown, hts, hlk, hrt, hR, hK, -, hC, hN⟩ := id F
  obtain ⟨q, r, rfl, h⟩ := am_1r_s h
  intro h1 h2 h3 H locs arr hP hS hl
  have hvq : am_vq q := am_vs_h h1
  rcases h with ⟨hk, h⟩ | ⟨hq9, h⟩
  · obtain ⟨n, hn1, hn2⟩ := am_at G σ (am_vq_np hvq (by rw [hk]; decide) (by rw [hk]; decide))
    rw [am_E1 G σ hk] at hn2
    exact va_alen (v := nI (am_al q.1)) hx hb hK hP n 0 hn2 rfl rfl hd (hn _ _ _ h (am_vs_i (am_vs_t h1)) h2 h3 H locs arr hP hS hl)
  · obtain ⟨t, i⟩ := q
    have hq9 : t = 9 := hq9
    subst hq9
    have hi := am_vq_s9 hvq
    exact va_tlen (v := nI (am_sb i).length) hx hb (hC.2.1 i hi).2.2.2.2 hS rfl hd (hn _ _ _ h (am_vs_i (am_vs_t h1)) h2 h3 H locs arr hP hS hl)
theorem am_s_i2c (F : am_Fx p R s m args meth c cc nL own ret G d)  (hd : decode cc pc = .ok (.i2c, 1)) (h : am_1i st fun v r => next σ ls (.inl (am_i2c v) :: r)) (hn : ∀ σ ls st, next σ ls st → am_K p l e R s m args below meth c G nL k (pc + 1) σ ls st) : am_K p l e R s m args below meth c G nL k pc σ ls st := by
  obtain ⟨hx, hb, hml, hown, hts, hlk, hrt, hR, hK, -, hC, hN⟩ := id F
  obtain ⟨v, r, rfl, h⟩ := am_1i_s h
  intro h1 h2 h3 H locs arr hP hS hl
  refine lv_i2c hx hb hd rfl ?_
  exact hn _ _ _ h (am_vs_i (am_vs_t h1)) h2 h3 H locs arr hP hS hl
theorem am_s_getstC (F : am_Fx p R s m args meth c cc nL own ret G d) {index : Nat} (hw : Cond.fieldLink own index "java/lang/String" "COMPACT_STRINGS" "Z" ∈ lw_all) (hd : decode cc pc = .ok (.getstatic index, 3)) (h : next σ ls (.inl (nI 1) :: st)) (hn : ∀ σ ls st, next σ ls st → am_K p l e R s m args below meth c G nL k (pc + 3) σ ls st) : am_K p l e R s m args below meth c G nL k pc σ ls st := by
  obtain ⟨hx, hb, hml, hown, hts, hlk, hrt, hR, hK, -, hC, hN⟩ := id F
  intro h1 h2 h3 H locs arr hP hS hl
  exact va_gets hx hb hC.2.2.2.1 hS hown (hts _ hw) (fun _ h9 => h9) hd (hn _ _ _ h (am_vs_i h1) h2 h3 H locs arr hP hS hl)
theorem am_getS (F : am_Fx p R s m args meth c cc nL own ret G d) {index : Nat} {q : am_P} {r : List am_V} (hq : q.1 = 7) (hw : Cond.fieldLink own index "java/lang/String" "value" "[B" ∈ lw_all) (hd : decode cc pc = .ok (.getfield index, 3)) (h : am_K p l e R s m args below meth c G nL k (pc + 3) σ ls (.inr (.inr (9, q.2)) :: r)) : am_K p l e R s m args below meth c G nL k pc σ ls (.inr (.inr q) :: r) := by
  obtain ⟨hx, hb, hml, hown, hts, hlk, hrt, hR, hK, -, hC, hN⟩ := id F
  intro h1 h2 h3 H locs arr hP hS hl
  have hvq : am_vq q := am_vs_h h1
  obtain ⟨t, i⟩ := q
  subst hq
  have hi := am_vq_s7 hvq
  exact vk_getf hx hb (hC.2.1 i hi).2.2.2.1 hS hown (hts _ hw) (fun _ h9 => h9) hd (h (am_vs_c (Or.inr (Or.inr (Or.inr (Or.inr ⟨rfl, hi⟩)))) (am_vs_t h1)) h2 h3 H locs arr hP hS hl)
theorem am_getC (F : am_Fx p R s m args meth c cc nL own ret G d) {index : Nat} {q : am_P} {r : List am_V} (hq : q.1 = 7) (hw : Cond.fieldLink own index "java/lang/String" "coder" "B" ∈ lw_all) (hd : decode cc pc = .ok (.getfield index, 3)) (h : am_K p l e R s m args below meth c G nL k (pc + 3) σ ls (.inl (nI 0) :: r)) : am_K p l e R s m args below meth c G nL k pc σ ls (.inr (.inr q) :: r) := by
  obtain ⟨hx, hb, hml, hown, hts, hlk, hrt, hR, hK, -, hC, hN⟩ := id F
  intro h1 h2 h3 H locs arr hP hS hl
  have hvq : am_vq q := am_vs_h h1
  obtain ⟨t, i⟩ := q
  subst hq
  have hi := am_vq_s7 hvq
  exact vk_getf hx hb (hC.2.1 i hi).2.2.1 hS hown (hts _ hw) (fun _ h9 => h9) hd (h (am_vs_i (am_vs_t h1)) h2 h3 H locs arr hP hS hl)
theorem am_fit_byte {v : Int32} (h : v = nI 0) : narrow .byte (.int v) = .int v := by
  subst h; decide +kernel
theorem am_fit_char {v : Int32} (h : ∃ j : Nat, j < 65536 ∧ v = nI j) : narrow .char (.int v) = .int v := by
  obtain ⟨j, hj, rfl⟩ := h
  exact (pk_charN hj).1
end AMS
