/-! SOUNDNESS: what the small machine comes to, the JVM comes to -/
theorem am_i_of (n : Int) : Int32.ofInt n = am_i n := by
  cases n with
  | ofNat n => rfl
  | negSucc n =>
    show Int32.ofInt (Int.negSucc n) = -Int32.ofNat (n + 1)
    rw [Int.negSucc_eq, Int32.ofInt_neg]
    rfl
def am_pr (G : am_G) (ls : am_L) : List (Nat × Value) := ls.zipIdx.filterMap (fun x => x.1.map (fun v => (x.2, am_ev G v)))
theorem am_pr_mem {G : am_G} {ls : am_L} {i : Nat} {w : Value} : (i, w) ∈ am_pr G ls ↔ ∃ v, ls[i]? = some (some v) ∧ w = am_ev G v := by
  unfold am_pr
  simp only [List.mem_filterMap, Option.map_eq_some_iff, Prod.exists, Prod.mk.injEq]
  constructor
  · rintro ⟨o, j, hm, v, rfl, rfl, rfl⟩
    exact ⟨v, List.mem_zipIdx_iff_getElem?.mp hm, rfl⟩
  · rintro ⟨v, h, rfl⟩
    exact ⟨some v, i, List.mem_zipIdx_iff_getElem?.mpr h, v, rfl, rfl, rfl⟩
theorem am_cat_ev (G : am_G) (v : am_V) : (am_ev G v).category = 2 ↔ ∃ x, v = .inr (.inl x) := by
  rcases v with x | x | x
  · simp [am_ev, Value.category]
  · simp [am_ev, Value.category]
  · simp [am_ev, Value.category]
def am_vs (st : List am_V) : Prop := ∀ v ∈ st, am_ok v
def am_vl (ls : am_L) : Prop := ∀ v, some v ∈ ls → am_ok v
theorem am_vs_i {x : Int32} {r : List am_V} (h : am_vs r) : am_vs (.inl x :: r) := fun v hv => by
  rcases List.mem_cons.mp hv with e | e
  · rw [e]; trivial
  · exact h v e
theorem am_vs_l {x : Int64} {r : List am_V} (h : am_vs r) : am_vs (.inr (.inl x) :: r) := fun v hv => by
  rcases List.mem_cons.mp hv with e | e
  · rw [e]; trivial
  · exact h v e
theorem am_vs_c {x : am_V} {r : List am_V} (hx : am_ok x) (h : am_vs r) : am_vs (x :: r) := fun v hv => by
  rcases List.mem_cons.mp hv with e | e
  · rw [e]; exact hx
  · exact h v e
theorem am_vs_t {x : am_V} {r : List am_V} (h : am_vs (x :: r)) : am_vs r := fun v hv => h v (List.mem_cons_of_mem _ hv)
theorem am_vs_h {x : am_V} {r : List am_V} (h : am_vs (x :: r)) : am_ok x := h x List.mem_cons_self
theorem am_vl_at {ls : am_L} (h : am_vl ls) {i : Nat} {v : am_V} (hi : ls[i]? = some (some v)) : am_ok v := h v (List.mem_of_getElem? hi)
theorem am_vl_set {ls : am_L} (h : am_vl ls) {i : Nat} {o : Option am_V} (ho : ∀ v, o = some v → am_ok v) : am_vl (ls.set i o) := fun v hv => by
  rcases List.mem_or_eq_of_mem_set hv with e | e
  · exact h v e
  · exact ho v e.symm
theorem am_vl_kill {ls : am_L} (h : am_vl ls) (i : Nat) : am_vl (am_kill ls i) := by
  unfold am_kill
  split
  · exact h
  · split
    · exact am_vl_set h (fun v hv => by cases hv)
    · exact h
theorem am_vl_put1 {ls : am_L} (h : am_vl ls) {i : Nat} {v : am_V} (hv : am_ok v) : am_vl (am_put1 ls i v) := am_vl_kill (am_vl_set h (fun w hw => by cases hw; exact hv)) i
theorem am_vl_put2 {ls : am_L} (h : am_vl ls) {i : Nat} {v : am_V} (hv : am_ok v) : am_vl (am_put2 ls i v) := am_vl_kill (am_vl_set (am_vl_set h (fun w hw => by cases hw; exact hv)) (fun w hw => by cases hw)) i
theorem am_len_kill (ls : am_L) (i : Nat) : (am_kill ls i).length = ls.length := by
  unfold am_kill
  split
  · rfl
  · split <;> simp
theorem am_len_put1 (ls : am_L) (i : Nat) (v : am_V) : (am_put1 ls i v).length = ls.length := by simp [am_put1, am_len_kill]
theorem am_len_put2 (ls : am_L) (i : Nat) (v : am_V) : (am_put2 ls i v).length = ls.length := by simp [am_put2, am_len_kill]
/-- what a killed list still holds -/
theorem am_kill_at {ls : am_L} {i j : Nat} {v : am_V} (h : (am_kill ls i)[j]? = some (some v)) : ls[j]? = some (some v) ∧ ¬ (j + 1 = i ∧ ∃ x, v = .inr (.inl x)) := by
  cases i with
  | zero => exact ⟨h, by omega⟩
  | succ n =>
    unfold am_kill at h
    split at h
    · cases ‹n + 1 = 0›
    · rename_i j' he
      cases he
      split at h
      · rename_i x hx
        by_cases hj : j = n
        · subst hj
          rw [List.getElem?_set_self (List.getElem?_eq_some_iff.mp hx).1] at h
          cases h
        · rw [List.getElem?_set_ne (Ne.symm hj)] at h
          exact ⟨h, by omega⟩
      · rename_i hx
        refine ⟨h, fun ⟨h1, x, h2⟩ => ?_⟩
        have : j = n := by omega
        subst this
        subst h2
        exact hx x h
theorem am_lv1 {G : am_G} {arr : Array Slot} {nL : Nat} {ls : am_L} {i : Nat} {v : am_V} (h : lv_has arr nL ((i, am_ev G v) :: (am_pr G ls).filter (fun q => !(q.1 == i) && !(q.1 + 1 == i && q.2.category == 2)))) : lv_has arr nL (am_pr G (am_put1 ls i v)) := by
  refine ⟨h.1, h.2.1, fun q hq => h.2.2 q ?_⟩
  obtain ⟨j, w⟩ := q
  obtain ⟨u, h1, rfl⟩ := am_pr_mem.mp hq
  obtain ⟨h2, h3⟩ := am_kill_at h1
  by_cases hj : j = i
  · subst hj
    rw [List.getElem?_set_self (by have := (List.getElem?_eq_some_iff.mp h2).1; simpa using this)] at h2
    cases h2
    exact List.mem_cons_self
  · rw [List.getElem?_set_ne (Ne.symm hj)] at h2
    refine List.mem_cons_of_mem _ (List.mem_filter.mpr ⟨am_pr_mem.mpr ⟨u, h2, rfl⟩, ?_⟩)
    by_cases hc : (am_ev G u).category = 2
    · have := (am_cat_ev G u).mp hc
      have hne : ¬ j + 1 = i := fun e => h3 ⟨e, this⟩
      simp [hj, hne]
    · simp [hj, hc]
theorem am_lv2 {G : am_G} {arr : Array Slot} {nL : Nat} {ls : am_L} {i : Nat} {v : am_V} (h : lv_has arr nL ((i, am_ev G v) :: (am_pr G ls).filter (fun q => !(q.1 == i) && (!(q.1 == i + 1) && !(q.1 + 1 == i && q.2.category == 2))))) : lv_has arr nL (am_pr G (am_put2 ls i v)) := by
  refine ⟨h.1, h.2.1, fun q hq => h.2.2 q ?_⟩
  obtain ⟨j, w⟩ := q
  obtain ⟨u, h1, rfl⟩ := am_pr_mem.mp hq
  obtain ⟨h2, h3⟩ := am_kill_at h1
  by_cases hj2 : j = i + 1
  · subst hj2
    rw [List.getElem?_set_self (by have := (List.getElem?_eq_some_iff.mp h2).1; simpa using this)] at h2
    cases h2
  · rw [List.getElem?_set_ne (Ne.symm hj2)] at h2
    by_cases hj : j = i
    · subst hj
      rw [List.getElem?_set_self (by have := (List.getElem?_eq_some_iff.mp h2).1; simpa using this)] at h2
      cases h2
      exact List.mem_cons_self
    · rw [List.getElem?_set_ne (Ne.symm hj)] at h2
      refine List.mem_cons_of_mem _ (List.mem_filter.mpr ⟨am_pr_mem.mpr ⟨u, h2, rfl⟩, ?_⟩)
      by_cases hc : (am_ev G u).category = 2
      · have := (am_cat_ev G u).mp hc
        have hne : ¬ j + 1 = i := fun e => h3 ⟨e, this⟩
        simp [hj, hj2, hne]
      · simp [hj, hj2, hc]
theorem am_1i_s {st : List am_V} {k : Int32 → List am_V → Prop} (h : am_1i st k) : ∃ x r, st = .inl x :: r ∧ k x r := by
  unfold am_1i at h
  split at h
  · exact ⟨_, _, rfl, h⟩
  · exact h.elim
theorem am_1l_s {st : List am_V} {k : Int64 → List am_V → Prop} (h : am_1l st k) : ∃ x r, st = .inr (.inl x) :: r ∧ k x r := by
  unfold am_1l at h
  split at h
  · exact ⟨_, _, rfl, h⟩
  · exact h.elim
theorem am_1r_s {st : List am_V} {k : am_P → List am_V → Prop} (h : am_1r st k) : ∃ x r, st = .inr (.inr x) :: r ∧ k x r := by
  unfold am_1r at h
  split at h
  · exact ⟨_, _, rfl, h⟩
  · exact h.elim
theorem am_2i_s {st : List am_V} {k : Int32 → Int32 → List am_V → Prop} (h : am_2i st k) : ∃ x y r, st = .inl y :: .inl x :: r ∧ k x y r := by
  unfold am_2i at h
  split at h
  · exact ⟨_, _, _, rfl, h⟩
  · exact h.elim
theorem am_2l_s {st : List am_V} {k : Int64 → Int64 → List am_V → Prop} (h : am_2l st k) : ∃ x y r, st = .inr (.inl y) :: .inr (.inl x) :: r ∧ k x y r := by
  unfold am_2l at h
  split at h
  · exact ⟨_, _, _, rfl, h⟩
  · exact h.elim
theorem am_li_s {st : List am_V} {k : Int64 → Int32 → List am_V → Prop} (h : am_li st k) : ∃ x y r, st = .inl y :: .inr (.inl x) :: r ∧ k x y r := by
  unfold am_li at h
  split at h
  · exact ⟨_, _, _, rfl, h⟩
  · exact h.elim
theorem am_gi_s {ls : am_L} {i : Nat} {k : Int32 → Prop} (h : am_gi ls i k) : ∃ x, ls[i]? = some (some (.inl x)) ∧ k x := by
  unfold am_gi at h
  split at h
  · exact ⟨_, ‹_›, h⟩
  · exact h.elim
theorem am_gl_s {ls : am_L} {i : Nat} {k : Int64 → Prop} (h : am_gl ls i k) : ∃ x, ls[i]? = some (some (.inr (.inl x))) ∧ k x := by
  unfold am_gl at h
  split at h
  · exact ⟨_, ‹_›, h⟩
  · exact h.elim
theorem am_gr_s {ls : am_L} {i : Nat} {k : am_P → Prop} (h : am_gr ls i k) : ∃ x, ls[i]? = some (some (.inr (.inr x))) ∧ k x := by
  unfold am_gr at h
  split at h
  · exact ⟨_, ‹_›, h⟩
  · exact h.elim
def am_Z (below : List Frame) (G : am_G) (k : am_O → am_S → Prop) (args : Array Value) (s : State) : State → Prop := fun t => ∃ o, t.status = .running ∧ Ended t below o ∧ am_Qc G k args s o t
def am_K (p : Program) (l : Launch) (e : Env) (R : Room) (s : State) (m : MethodId) (args : Array Value) (below : List Frame) (meth : Method) (c : Code) (G : am_G) (nL : Nat) (k : am_O → am_S → Prop) : Nat → am_S → am_L → List am_V → Prop := fun pc σ ls st => am_vs st → am_vl ls → ls.length = nL → ∀ (H : Heap) (locs : List Loc) (arr : Array Slot), va_P (am_D G) am_cl (am_w G σ) H → va_S (am_A G) s.heap H locs → lv_has arr nL (am_pr G ls) → W p l e R s m args below meth c H locs 0 0 (am_Z below G k args s) (F0 m pc arr (st.map (am_ev G)))
def am_Fx (p : Program) (R : Room) (s : State) (m : MethodId) (args : Array Value) (meth : Method) (c : Code) (cc : ByteArray) (nL : Nat) (own : String) (ret : Option FieldType) (G : am_G) (d : Nat) : Prop := p.tables.exec = Jvm.exec ∧ c.code = cc ∧ c.maxLocals = nL ∧ s.vm.findClass own = some m.cls ∧ (∀ w ∈ lw_all, w.before args s = true) ∧ meth.locks = false ∧ meth.sig.returnType = ret ∧ R = am_room d ∧ va_K (am_D G) am_cl (am_tys G) s ∧ (∃ σ0, va_D (am_A G) (am_w G σ0)) ∧ am_Cs G s s.heap ∧ am_Nw s
section AMK
variable {p : Program} {l : Launch} {e : Env} {R : Room} {s : State} {m : MethodId} {args : Array Value} {below : List Frame} {meth : Method} {c : Code} {G : am_G} {nL : Nat} {k : am_O → am_S → Prop}
variable {cc : ByteArray} {own : String} {ret : Option FieldType} {d pc : Nat} {σ : am_S} {ls : am_L} {st : List am_V} {next : am_S → am_L → List am_V → Prop}
theorem am_Fx.D (F : am_Fx p R s m args meth c cc nL own ret G d) (σ : am_S) : va_D (am_A G) (am_w G σ) := by
  obtain ⟨-, -, -, -, -, -, -, -, -, ⟨σ0, h⟩, -⟩ := F
  exact am_wD σ h
theorem am_Fx.U (F : am_Fx p R s m args meth c cc nL own ret G d) {H : Heap} {locs : List Loc} (hP : va_P (am_D G) am_cl (am_w G σ) H) (hS : va_S (am_A G) s.heap H locs) {t : State} (ht : t.heap = H) (hW : s.WarmedH t.vm) : am_U G σ t := by
  have hD := F.D σ
  obtain ⟨-, -, -, -, -, -, -, -, hK, -, hC, hN⟩ := F
  exact ⟨by rw [ht]; exact hP, va_K.moved hW.alike hK, hD, by rw [ht]; exact (hC.kept hS.2.1).warm hW, hN.warm hW⟩
theorem am_mono {Q Q' : State → Prop} (hQ : ∀ t, Q t → Q' t) {H : Heap} {locs : List Loc} {g : JFrame} (h : W p l e R s m args below meth c H locs 0 0 Q g) : W p l e R s m args below meth c H locs 0 0 Q' g := by
  intro T hT X
  obtain ⟨t, a, b⟩ := h T hT X
  exact ⟨t, a, hQ t b⟩
theorem am_endq (t : State) (h : MQ below (fun _ st oc t => (∃ (o : am_O) (σ' : am_S), oc = am_oc G o ∧ am_oo o ∧ k o σ' ∧ am_U G σ' t) ∧ va_F (am_A G) st t) args s 0 0 (am_A G) t) : am_Z below G k args s t := by
  obtain ⟨o, h1, h2, ⟨h3, h4⟩, L, ⟨-, h5, h6⟩, h7⟩ := h
  exact ⟨o, h1, h2, h3, h4, h5, L, h6, h7⟩

theorem am_s_iadd (F : am_Fx p R s m args meth c cc nL own ret G d)  (hd : decode cc pc = .ok (.iadd, 1)) (h : am_2i st fun v w r => next σ ls (.inl (v + w) :: r)) (hn : ∀ σ ls st, next σ ls st → am_K p l e R s m args below meth c G nL k (pc + 1) σ ls st) : am_K p l e R s m args below meth c G nL k pc σ ls st := by
  obtain ⟨hx, hb, hml, hown, hts, hlk, hrt, hR, hK, -, hC, hN⟩ := id F
  obtain ⟨v, w, r, rfl, h⟩ := am_2i_s h
  intro h1 h2 h3 H locs arr hP hS hl
  refine lv_iadd hx hb hd ?_
  exact hn _ _ _ h (am_vs_i (am_vs_t (am_vs_t h1))) h2 h3 H locs arr hP hS hl
theorem am_s_isub (F : am_Fx p R s m args meth c cc nL own ret G d)  (hd : decode cc pc = .ok (.isub, 1)) (h : am_2i st fun v w r => next σ ls (.inl (v - w) :: r)) (hn : ∀ σ ls st, next σ ls st → am_K p l e R s m args below meth c G nL k (pc + 1) σ ls st) : am_K p l e R s m args below meth c G nL k pc σ ls st := by
  obtain ⟨hx, hb, hml, hown, hts, hlk, hrt, hR, hK, -, hC, hN⟩ := id F
  obtain ⟨v, w, r, rfl, h⟩ := am_2i_s h
  intro h1 h2 h3 H locs arr hP hS hl
  refine lv_isub hx hb hd ?_
  exact hn _ _ _ h (am_vs_i (am_vs_t (am_vs_t h1))) h2 h3 H locs arr hP hS hl
theorem am_s_imul (F : am_Fx p R s m args meth c cc nL own ret G d)  (hd : decode cc pc = .ok (.imul, 1)) (h : am_2i st fun v w r => next σ ls (.inl (v * w) :: r)) (hn : ∀ σ ls st, next σ ls st → am_K p l e R s m args below meth c G nL k (pc + 1) σ ls st) : am_K p l e R s m args below meth c G nL k pc σ ls st := by
  obtain ⟨hx, hb, hml, hown, hts, hlk, hrt, hR, hK, -, hC, hN⟩ := id F
  obtain ⟨v, w, r, rfl, h⟩ := am_2i_s h
  intro h1 h2 h3 H locs arr hP hS hl
  refine lv_imul hx hb hd ?_
  exact hn _ _ _ h (am_vs_i (am_vs_t (am_vs_t h1))) h2 h3 H locs arr hP hS hl
theorem am_s_iand (F : am_Fx p R s m args meth c cc nL own ret G d)  (hd : decode cc pc = .ok (.iand, 1)) (h : am_2i st fun v w r => next σ ls (.inl (v &&& w) :: r)) (hn : ∀ σ ls st, next σ ls st → am_K p l e R s m args below meth c G nL k (pc + 1) σ ls st) : am_K p l e R s m args below meth c G nL k pc σ ls st := by
  obtain ⟨hx, hb, hml, hown, hts, hlk, hrt, hR, hK, -, hC, hN⟩ := id F
  obtain ⟨v, w, r, rfl, h⟩ := am_2i_s h
  intro h1 h2 h3 H locs arr hP hS hl
  refine lv_iand hx hb hd ?_
  exact hn _ _ _ h (am_vs_i (am_vs_t (am_vs_t h1))) h2 h3 H locs arr hP hS hl
theorem am_s_ishr (F : am_Fx p R s m args meth c cc nL own ret G d)  (hd : decode cc pc = .ok (.ishr, 1)) (h : am_2i st fun v w r => next σ ls (.inl (am_ishr v w) :: r)) (hn : ∀ σ ls st, next σ ls st → am_K p l e R s m args below meth c G nL k (pc + 1) σ ls st) : am_K p l e R s m args below meth c G nL k pc σ ls st := by
  obtain ⟨hx, hb, hml, hown, hts, hlk, hrt, hR, hK, -, hC, hN⟩ := id F
  obtain ⟨v, w, r, rfl, h⟩ := am_2i_s h
  intro h1 h2 h3 H locs arr hP hS hl
  refine lv_ishr hx hb hd ?_
  exact hn _ _ _ h (am_vs_i (am_vs_t (am_vs_t h1))) h2 h3 H locs arr hP hS hl
theorem am_s_idiv (F : am_Fx p R s m args meth c cc nL own ret G d)  (hd : decode cc pc = .ok (.idiv, 1)) (h : am_2i st fun v w r => ¬ w = 0 ∧ next σ ls (.inl (v / w) :: r)) (hn : ∀ σ ls st, next σ ls st → am_K p l e R s m args below meth c G nL k (pc + 1) σ ls st) : am_K p l e R s m args below meth c G nL k pc σ ls st := by
  obtain ⟨hx, hb, hml, hown, hts, hlk, hrt, hR, hK, -, hC, hN⟩ := id F
  obtain ⟨v, w, r, rfl, h⟩ := am_2i_s h
  intro h1 h2 h3 H locs arr hP hS hl
  refine lv_idiv hx hb hd h.1 ?_
  exact hn _ _ _ h.2 (am_vs_i (am_vs_t (am_vs_t h1))) h2 h3 H locs arr hP hS hl
theorem am_s_irem (F : am_Fx p R s m args meth c cc nL own ret G d)  (hd : decode cc pc = .ok (.irem, 1)) (h : am_2i st fun v w r => ¬ w = 0 ∧ next σ ls (.inl (am_irem v w) :: r)) (hn : ∀ σ ls st, next σ ls st → am_K p l e R s m args below meth c G nL k (pc + 1) σ ls st) : am_K p l e R s m args below meth c G nL k pc σ ls st := by
  obtain ⟨hx, hb, hml, hown, hts, hlk, hrt, hR, hK, -, hC, hN⟩ := id F
  obtain ⟨v, w, r, rfl, h⟩ := am_2i_s h
  intro h1 h2 h3 H locs arr hP hS hl
  refine lv_irem hx hb hd h.1 ?_
  exact hn _ _ _ h.2 (am_vs_i (am_vs_t (am_vs_t h1))) h2 h3 H locs arr hP hS hl
theorem am_s_ladd (F : am_Fx p R s m args meth c cc nL own ret G d)  (hd : decode cc pc = .ok (.ladd, 1)) (h : am_2l st fun v w r => next σ ls (.inr (.inl (v + w)) :: r)) (hn : ∀ σ ls st, next σ ls st → am_K p l e R s m args below meth c G nL k (pc + 1) σ ls st) : am_K p l e R s m args below meth c G nL k pc σ ls st := by
  obtain ⟨hx, hb, hml, hown, hts, hlk, hrt, hR, hK, -, hC, hN⟩ := id F
  obtain ⟨v, w, r, rfl, h⟩ := am_2l_s h
  intro h1 h2 h3 H locs arr hP hS hl
  refine lv_ladd hx hb hd ?_
  exact hn _ _ _ h (am_vs_l (am_vs_t (am_vs_t h1))) h2 h3 H locs arr hP hS hl
theorem am_s_lsub (F : am_Fx p R s m args meth c cc nL own ret G d)  (hd : decode cc pc = .ok (.lsub, 1)) (h : am_2l st fun v w r => next σ ls (.inr (.inl (v - w)) :: r)) (hn : ∀ σ ls st, next σ ls st → am_K p l e R s m args below meth c G nL k (pc + 1) σ ls st) : am_K p l e R s m args below meth c G nL k pc σ ls st := by
  obtain ⟨hx, hb, hml, hown, hts, hlk, hrt, hR, hK, -, hC, hN⟩ := id F
  obtain ⟨v, w, r, rfl, h⟩ := am_2l_s h
  intro h1 h2 h3 H locs arr hP hS hl
  refine lv_lsub hx hb hd ?_
  exact hn _ _ _ h (am_vs_l (am_vs_t (am_vs_t h1))) h2 h3 H locs arr hP hS hl
theorem am_s_lmul (F : am_Fx p R s m args meth c cc nL own ret G d)  (hd : decode cc pc = .ok (.lmul, 1)) (h : am_2l st fun v w r => next σ ls (.inr (.inl (v * w)) :: r)) (hn : ∀ σ ls st, next σ ls st → am_K p l e R s m args below meth c G nL k (pc + 1) σ ls st) : am_K p l e R s m args below meth c G nL k pc σ ls st := by
  obtain ⟨hx, hb, hml, hown, hts, hlk, hrt, hR, hK, -, hC, hN⟩ := id F
  obtain ⟨v, w, r, rfl, h⟩ := am_2l_s h
  intro h1 h2 h3 H locs arr hP hS hl
  refine lv_lmul hx hb hd ?_
  exact hn _ _ _ h (am_vs_l (am_vs_t (am_vs_t h1))) h2 h3 H locs arr hP hS hl
theorem am_s_land (F : am_Fx p R s m args meth c cc nL own ret G d)  (hd : decode cc pc = .ok (.land, 1)) (h : am_2l st fun v w r => next σ ls (.inr (.inl (v &&& w)) :: r)) (hn : ∀ σ ls st, next σ ls st → am_K p l e R s m args below meth c G nL k (pc + 1) σ ls st) : am_K p l e R s m args below meth c G nL k pc σ ls st := by
  obtain ⟨hx, hb, hml, hown, hts, hlk, hrt, hR, hK, -, hC, hN⟩ := id F
  obtain ⟨v, w, r, rfl, h⟩ := am_2l_s h
  intro h1 h2 h3 H locs arr hP hS hl
  refine lv_land hx hb hd ?_
  exact hn _ _ _ h (am_vs_l (am_vs_t (am_vs_t h1))) h2 h3 H locs arr hP hS hl
theorem am_s_lor (F : am_Fx p R s m args meth c cc nL own ret G d)  (hd : decode cc pc = .ok (.lor, 1)) (h : am_2l st fun v w r => next σ ls (.inr (.inl (v ||| w)) :: r)) (hn : ∀ σ ls st, next σ ls st → am_K p l e R s m args below meth c G nL k (pc + 1) σ ls st) : am_K p l e R s m args below meth c G nL k pc σ ls st := by
  obtain ⟨hx, hb, hml, hown, hts, hlk, hrt, hR, hK, -, hC, hN⟩ := id F
  obtain ⟨v, w, r, rfl, h⟩ := am_2l_s h
  intro h1 h2 h3 H locs arr hP hS hl
  refine lv_lor hx hb hd ?_
  exact hn _ _ _ h (am_vs_l (am_vs_t (am_vs_t h1))) h2 h3 H locs arr hP hS hl
theorem am_s_lxor (F : am_Fx p R s m args meth c cc nL own ret G d)  (hd : decode cc pc = .ok (.lxor, 1)) (h : am_2l st fun v w r => next σ ls (.inr (.inl (v ^^^ w)) :: r)) (hn : ∀ σ ls st, next σ ls st → am_K p l e R s m args below meth c G nL k (pc + 1) σ ls st) : am_K p l e R s m args below meth c G nL k pc σ ls st := by
  obtain ⟨hx, hb, hml, hown, hts, hlk, hrt, hR, hK, -, hC, hN⟩ := id F
  obtain ⟨v, w, r, rfl, h⟩ := am_2l_s h
  intro h1 h2 h3 H locs arr hP hS hl
  refine lv_lxor hx hb hd ?_
  exact hn _ _ _ h (am_vs_l (am_vs_t (am_vs_t h1))) h2 h3 H locs arr hP hS hl
theorem am_s_lrem (F : am_Fx p R s m args meth c cc nL own ret G d)  (hd : decode cc pc = .ok (.lrem, 1)) (h : am_2l st fun v w r => ¬ w = 0 ∧ next σ ls (.inr (.inl (am_lrem v w)) :: r)) (hn : ∀ σ ls st, next σ ls st → am_K p l e R s m args below meth c G nL k (pc + 1) σ ls st) : am_K p l e R s m args below meth c G nL k pc σ ls st := by
  obtain ⟨hx, hb, hml, hown, hts, hlk, hrt, hR, hK, -, hC, hN⟩ := id F
  obtain ⟨v, w, r, rfl, h⟩ := am_2l_s h
  intro h1 h2 h3 H locs arr hP hS hl
  refine lv_lrem hx hb hd h.1 ?_
  exact hn _ _ _ h.2 (am_vs_l (am_vs_t (am_vs_t h1))) h2 h3 H locs arr hP hS hl
theorem am_s_lshl (F : am_Fx p R s m args meth c cc nL own ret G d)  (hd : decode cc pc = .ok (.lshl, 1)) (h : am_li st fun v w r => next σ ls (.inr (.inl (am_lshl v w)) :: r)) (hn : ∀ σ ls st, next σ ls st → am_K p l e R s m args below meth c G nL k (pc + 1) σ ls st) : am_K p l e R s m args below meth c G nL k pc σ ls st := by
  obtain ⟨hx, hb, hml, hown, hts, hlk, hrt, hR, hK, -, hC, hN⟩ := id F
  obtain ⟨v, w, r, rfl, h⟩ := am_li_s h
  intro h1 h2 h3 H locs arr hP hS hl
  refine lv_lshl hx hb hd rfl ?_
  exact hn _ _ _ h (am_vs_l (am_vs_t (am_vs_t h1))) h2 h3 H locs arr hP hS hl
theorem am_s_lshr (F : am_Fx p R s m args meth c cc nL own ret G d)  (hd : decode cc pc = .ok (.lshr, 1)) (h : am_li st fun v w r => next σ ls (.inr (.inl (am_lshr v w)) :: r)) (hn : ∀ σ ls st, next σ ls st → am_K p l e R s m args below meth c G nL k (pc + 1) σ ls st) : am_K p l e R s m args below meth c G nL k pc σ ls st := by
  obtain ⟨hx, hb, hml, hown, hts, hlk, hrt, hR, hK, -, hC, hN⟩ := id F
  obtain ⟨v, w, r, rfl, h⟩ := am_li_s h
  intro h1 h2 h3 H locs arr hP hS hl
  refine lv_lshr hx hb hd rfl ?_
  exact hn _ _ _ h (am_vs_l (am_vs_t (am_vs_t h1))) h2 h3 H locs arr hP hS hl
theorem am_s_lushr (F : am_Fx p R s m args meth c cc nL own ret G d)  (hd : decode cc pc = .ok (.lushr, 1)) (h : am_li st fun v w r => next σ ls (.inr (.inl (am_lushr v w)) :: r)) (hn : ∀ σ ls st, next σ ls st → am_K p l e R s m args below meth c G nL k (pc + 1) σ ls st) : am_K p l e R s m args below meth c G nL k pc σ ls st := by
  obtain ⟨hx, hb, hml, hown, hts, hlk, hrt, hR, hK, -, hC, hN⟩ := id F
  obtain ⟨v, w, r, rfl, h⟩ := am_li_s h
  intro h1 h2 h3 H locs arr hP hS hl
  refine lv_lushr hx hb hd rfl ?_
  exact hn _ _ _ h (am_vs_l (am_vs_t (am_vs_t h1))) h2 h3 H locs arr hP hS hl
theorem am_s_lcmp (F : am_Fx p R s m args meth c cc nL own ret G d)  (hd : decode cc pc = .ok (.lcmp, 1)) (h : am_2l st fun v w r => next σ ls (.inl (lg_cmp v w) :: r)) (hn : ∀ σ ls st, next σ ls st → am_K p l e R s m args below meth c G nL k (pc + 1) σ ls st) : am_K p l e R s m args below meth c G nL k pc σ ls st := by
  obtain ⟨hx, hb, hml, hown, hts, hlk, hrt, hR, hK, -, hC, hN⟩ := id F
  obtain ⟨v, w, r, rfl, h⟩ := am_2l_s h
  intro h1 h2 h3 H locs arr hP hS hl
  refine W.lcmp hx hb hd ?_
  exact hn _ _ _ h (am_vs_i (am_vs_t (am_vs_t h1))) h2 h3 H locs arr hP hS hl
theorem am_s_i2l (F : am_Fx p R s m args meth c cc nL own ret G d)  (hd : decode cc pc = .ok (.i2l, 1)) (h : am_1i st fun v r => next σ ls (.inr (.inl v.toInt64) :: r)) (hn : ∀ σ ls st, next σ ls st → am_K p l e R s m args below meth c G nL k (pc + 1) σ ls st) : am_K p l e R s m args below meth c G nL k pc σ ls st := by
  obtain ⟨hx, hb, hml, hown, hts, hlk, hrt, hR, hK, -, hC, hN⟩ := id F
  obtain ⟨v, r, rfl, h⟩ := am_1i_s h
  intro h1 h2 h3 H locs arr hP hS hl
  refine lv_i2l hx hb hd rfl ?_
  exact hn _ _ _ h (am_vs_l (am_vs_t h1)) h2 h3 H locs arr hP hS hl
theorem am_s_i2b (F : am_Fx p R s m args meth c cc nL own ret G d)  (hd : decode cc pc = .ok (.i2b, 1)) (h : am_1i st fun v r => next σ ls (.inl v.toInt8.toInt32 :: r)) (hn : ∀ σ ls st, next σ ls st → am_K p l e R s m args below meth c G nL k (pc + 1) σ ls st) : am_K p l e R s m args below meth c G nL k pc σ ls st := by
  obtain ⟨hx, hb, hml, hown, hts, hlk, hrt, hR, hK, -, hC, hN⟩ := id F
  obtain ⟨v, r, rfl, h⟩ := am_1i_s h
  intro h1 h2 h3 H locs arr hP hS hl
  refine lv_i2b hx hb hd rfl ?_
  exact hn _ _ _ h (am_vs_i (am_vs_t h1)) h2 h3 H locs arr hP hS hl
theorem am_s_l2i (F : am_Fx p R s m args meth c cc nL own ret G d)  (hd : decode cc pc = .ok (.l2i, 1)) (h : am_1l st fun v r => next σ ls (.inl v.toInt32 :: r)) (hn : ∀ σ ls st, next σ ls st → am_K p l e R s m args below meth c G nL k (pc + 1) σ ls st) : am_K p l e R s m args below meth c G nL k pc σ ls st := by
  obtain ⟨hx, hb, hml, hown, hts, hlk, hrt, hR, hK, -, hC, hN⟩ := id F
  obtain ⟨v, r, rfl, h⟩ := am_1l_s h
  intro h1 h2 h3 H locs arr hP hS hl
  refine lv_l2i hx hb hd rfl ?_
  exact hn _ _ _ h (am_vs_i (am_vs_t h1)) h2 h3 H locs arr hP hS hl
theorem am_s_iconst (F : am_Fx p R s m args meth c cc nL own ret G d) {z : Int} (hd : decode cc pc = .ok (.iconst z, 1)) (h : next σ ls (.inl (am_i z) :: st)) (hn : ∀ σ ls st, next σ ls st → am_K p l e R s m args below meth c G nL k (pc + 1) σ ls st) : am_K p l e R s m args below meth c G nL k pc σ ls st := by
  obtain ⟨hx, hb, hml, hown, hts, hlk, hrt, hR, hK, -, hC, hN⟩ := id F
  intro h1 h2 h3 H locs arr hP hS hl
  refine lv_iconst hx hb hd (am_i_of z) ?_
  exact hn _ _ _ h (am_vs_i h1) h2 h3 H locs arr hP hS hl
theorem am_s_bipush (F : am_Fx p R s m args meth c cc nL own ret G d) {z : Int} (hz : (Int8.ofInt z).toInt32 = am_i z) (hd : decode cc pc = .ok (.bipush z, 2)) (h : next σ ls (.inl (am_i z) :: st)) (hn : ∀ σ ls st, next σ ls st → am_K p l e R s m args below meth c G nL k (pc + 2) σ ls st) : am_K p l e R s m args below meth c G nL k pc σ ls st := by
  obtain ⟨hx, hb, hml, hown, hts, hlk, hrt, hR, hK, -, hC, hN⟩ := id F
  intro h1 h2 h3 H locs arr hP hS hl
  refine lv_bipush hx hb hd hz ?_
  exact hn _ _ _ h (am_vs_i h1) h2 h3 H locs arr hP hS hl
theorem am_s_sipush (F : am_Fx p R s m args meth c cc nL own ret G d) {z : Int} (hz : (Int16.ofInt z).toInt32 = am_i z) (hd : decode cc pc = .ok (.sipush z, 3)) (h : next σ ls (.inl (am_i z) :: st)) (hn : ∀ σ ls st, next σ ls st → am_K p l e R s m args below meth c G nL k (pc + 3) σ ls st) : am_K p l e R s m args below meth c G nL k pc σ ls st := by
  obtain ⟨hx, hb, hml, hown, hts, hlk, hrt, hR, hK, -, hC, hN⟩ := id F
  intro h1 h2 h3 H locs arr hP hS hl
  refine lv_sipush hx hb hd hz ?_
  exact hn _ _ _ h (am_vs_i h1) h2 h3 H locs arr hP hS hl
theorem am_s_lconst (F : am_Fx p R s m args meth c cc nL own ret G d) {z : Fin 2} (hd : decode cc pc = .ok (.lconst z, 1)) (h : next σ ls (.inr (.inl (am_l ((z : Nat) : Int))) :: st)) (hn : ∀ σ ls st, next σ ls st → am_K p l e R s m args below meth c G nL k (pc + 1) σ ls st) : am_K p l e R s m args below meth c G nL k pc σ ls st := by
  obtain ⟨hx, hb, hml, hown, hts, hlk, hrt, hR, hK, -, hC, hN⟩ := id F
  intro h1 h2 h3 H locs arr hP hS hl
  refine lv_lconst (v := am_l ((z : Nat) : Int)) hx hb hd rfl ?_
  exact hn _ _ _ h (am_vs_l h1) h2 h3 H locs arr hP hS hl
theorem am_s_ldc2 (F : am_Fx p R s m args meth c cc nL own ret G d) {z : Int} {index : Nat} (hw : Cond.constantLong own index (am_l z) ∈ lw_all) (hd : decode cc pc = .ok (.ldc2_w index, 3)) (h : next σ ls (.inr (.inl (am_l z)) :: st)) (hn : ∀ σ ls st, next σ ls st → am_K p l e R s m args below meth c G nL k (pc + 3) σ ls st) : am_K p l e R s m args below meth c G nL k pc σ ls st := by
  obtain ⟨hx, hb, hml, hown, hts, hlk, hrt, hR, hK, -, hC, hN⟩ := id F
  intro h1 h2 h3 H locs arr hP hS hl
  refine lv_ldc2 hx hb hown (hts _ hw) hd ?_
  exact hn _ _ _ h (am_vs_l h1) h2 h3 H locs arr hP hS hl
theorem am_s_ldc (F : am_Fx p R s m args meth c cc nL own ret G d) {z : Int} {index : Nat} (hw : Cond.constant own index (am_i z) ∈ lw_all) (hd : decode cc pc = .ok (.ldc index, 2)) (h : next σ ls (.inl (am_i z) :: st)) (hn : ∀ σ ls st, next σ ls st → am_K p l e R s m args below meth c G nL k (pc + 2) σ ls st) : am_K p l e R s m args below meth c G nL k pc σ ls st := by
  obtain ⟨hx, hb, hml, hown, hts, hlk, hrt, hR, hK, -, hC, hN⟩ := id F
  intro h1 h2 h3 H locs arr hP hS hl
  refine lv_ldc hx hb hown (hts _ hw) hd ?_
  exact hn _ _ _ h (am_vs_i h1) h2 h3 H locs arr hP hS hl
theorem am_s_ldcw (F : am_Fx p R s m args meth c cc nL own ret G d) {z : Int} {index : Nat} (hw : Cond.constant own index (am_i z) ∈ lw_all) (hd : decode cc pc = .ok (.ldc_w index, 3)) (h : next σ ls (.inl (am_i z) :: st)) (hn : ∀ σ ls st, next σ ls st → am_K p l e R s m args below meth c G nL k (pc + 3) σ ls st) : am_K p l e R s m args below meth c G nL k pc σ ls st := by
  obtain ⟨hx, hb, hml, hown, hts, hlk, hrt, hR, hK, -, hC, hN⟩ := id F
  intro h1 h2 h3 H locs arr hP hS hl
  refine lv_ldcw hx hb hown (hts _ hw) hd ?_
  exact hn _ _ _ h (am_vs_i h1) h2 h3 H locs arr hP hS hl
theorem am_s_ldcS (F : am_Fx p R s m args meth c cc nL own ret G d) {b index : Nat} (hb20 : b < 20) (hw : am_sx b = (own, index, (am_sx b).2.2)) (hd : decode cc pc = .ok (.ldc index, 2)) (h : next σ ls (.inr (.inr (7, b)) :: st)) (hn : ∀ σ ls st, next σ ls st → am_K p l e R s m args below meth c G nL k (pc + 2) σ ls st) : am_K p l e R s m args below meth c G nL k pc σ ls st := by
  obtain ⟨hx, hb, hml, hown, hts, hlk, hrt, hR, hK, -, hC, hN⟩ := id F
  intro h1 h2 h3 H locs arr hP hS hl
  have hZ := (hC.2.1 b hb20).1
  rw [hw] at hZ
  refine va_ldcS hx hb hown hZ hd ?_
  exact hn _ _ _ h (am_vs_c (Or.inr (Or.inr (Or.inl ⟨rfl, hb20⟩))) h1) h2 h3 H locs arr hP hS hl
theorem am_s_iload (F : am_Fx p R s m args meth c cc nL own ret G d) {i : Nat} (hd : decode cc pc = .ok (.iload i, 2)) (h : am_gi ls i fun v => next σ ls (.inl v :: st)) (hn : ∀ σ ls st, next σ ls st → am_K p l e R s m args below meth c G nL k (pc + 2) σ ls st) : am_K p l e R s m args below meth c G nL k pc σ ls st := by
  obtain ⟨hx, hb, hml, hown, hts, hlk, hrt, hR, hK, -, hC, hN⟩ := id F
  obtain ⟨v, hv, h⟩ := am_gi_s h
  intro h1 h2 h3 H locs arr hP hS hl
  refine lv_iload hx hb hd (hl.2.2 _ (am_pr_mem.mpr ⟨_, hv, rfl⟩)) ?_
  exact hn _ _ _ h (am_vs_i h1) h2 h3 H locs arr hP hS hl
theorem am_s_iload_n (F : am_Fx p R s m args meth c cc nL own ret G d) {i : Fin 4} (hd : decode cc pc = .ok (.iload_n i, 1)) (h : am_gi ls (i : Nat) fun v => next σ ls (.inl v :: st)) (hn : ∀ σ ls st, next σ ls st → am_K p l e R s m args below meth c G nL k (pc + 1) σ ls st) : am_K p l e R s m args below meth c G nL k pc σ ls st := by
  obtain ⟨hx, hb, hml, hown, hts, hlk, hrt, hR, hK, -, hC, hN⟩ := id F
  obtain ⟨v, hv, h⟩ := am_gi_s h
  intro h1 h2 h3 H locs arr hP hS hl
  refine lv_iload_n hx hb hd rfl (hl.2.2 _ (am_pr_mem.mpr ⟨_, hv, rfl⟩)) ?_
  exact hn _ _ _ h (am_vs_i h1) h2 h3 H locs arr hP hS hl
theorem am_s_lload (F : am_Fx p R s m args meth c cc nL own ret G d) {i : Nat} (hd : decode cc pc = .ok (.lload i, 2)) (h : am_gl ls i fun v => next σ ls (.inr (.inl v) :: st)) (hn : ∀ σ ls st, next σ ls st → am_K p l e R s m args below meth c G nL k (pc + 2) σ ls st) : am_K p l e R s m args below meth c G nL k pc σ ls st := by
  obtain ⟨hx, hb, hml, hown, hts, hlk, hrt, hR, hK, -, hC, hN⟩ := id F
  obtain ⟨v, hv, h⟩ := am_gl_s h
  intro h1 h2 h3 H locs arr hP hS hl
  refine lv_lload hx hb hd (hl.2.2 _ (am_pr_mem.mpr ⟨_, hv, rfl⟩)) ?_
  exact hn _ _ _ h (am_vs_l h1) h2 h3 H locs arr hP hS hl
theorem am_s_lload_n (F : am_Fx p R s m args meth c cc nL own ret G d) {i : Fin 4} (hd : decode cc pc = .ok (.lload_n i, 1)) (h : am_gl ls (i : Nat) fun v => next σ ls (.inr (.inl v) :: st)) (hn : ∀ σ ls st, next σ ls st → am_K p l e R s m args below meth c G nL k (pc + 1) σ ls st) : am_K p l e R s m args below meth c G nL k pc σ ls st := by
  obtain ⟨hx, hb, hml, hown, hts, hlk, hrt, hR, hK, -, hC, hN⟩ := id F
  obtain ⟨v, hv, h⟩ := am_gl_s h
  intro h1 h2 h3 H locs arr hP hS hl
  refine lv_lload_n hx hb hd rfl (hl.2.2 _ (am_pr_mem.mpr ⟨_, hv, rfl⟩)) ?_
  exact hn _ _ _ h (am_vs_l h1) h2 h3 H locs arr hP hS hl
theorem am_s_aload (F : am_Fx p R s m args meth c cc nL own ret G d) {i : Nat} (hd : decode cc pc = .ok (.aload i, 2)) (h : am_gr ls i fun v => next σ ls (.inr (.inr v) :: st)) (hn : ∀ σ ls st, next σ ls st → am_K p l e R s m args below meth c G nL k (pc + 2) σ ls st) : am_K p l e R s m args below meth c G nL k pc σ ls st := by
  obtain ⟨hx, hb, hml, hown, hts, hlk, hrt, hR, hK, -, hC, hN⟩ := id F
  obtain ⟨v, hv, h⟩ := am_gr_s h
  intro h1 h2 h3 H locs arr hP hS hl
  refine lv_aload hx hb hd (hl.2.2 _ (am_pr_mem.mpr ⟨_, hv, rfl⟩)) ?_
  exact hn _ _ _ h (am_vs_c (am_vl_at h2 hv) h1) h2 h3 H locs arr hP hS hl
theorem am_s_aload_n (F : am_Fx p R s m args meth c cc nL own ret G d) {i : Fin 4} (hd : decode cc pc = .ok (.aload_n i, 1)) (h : am_gr ls (i : Nat) fun v => next σ ls (.inr (.inr v) :: st)) (hn : ∀ σ ls st, next σ ls st → am_K p l e R s m args below meth c G nL k (pc + 1) σ ls st) : am_K p l e R s m args below meth c G nL k pc σ ls st := by
  obtain ⟨hx, hb, hml, hown, hts, hlk, hrt, hR, hK, -, hC, hN⟩ := id F
  obtain ⟨v, hv, h⟩ := am_gr_s h
  intro h1 h2 h3 H locs arr hP hS hl
  refine lv_aload_n hx hb hd rfl (hl.2.2 _ (am_pr_mem.mpr ⟨_, hv, rfl⟩)) ?_
  exact hn _ _ _ h (am_vs_c (am_vl_at h2 hv) h1) h2 h3 H locs arr hP hS hl
theorem am_s_istore (F : am_Fx p R s m args meth c cc nL own ret G d) {i : Nat} (hi : i < nL) (hd : decode cc pc = .ok (.istore i, 2)) (h : am_1i st fun v r => next σ (am_put1 ls i (.inl v)) r) (hn : ∀ σ ls st, next σ ls st → am_K p l e R s m args below meth c G nL k (pc + 2) σ ls st) : am_K p l e R s m args below meth c G nL k pc σ ls st := by
  obtain ⟨hx, hb, hml, hown, hts, hlk, hrt, hR, hK, -, hC, hN⟩ := id F
  obtain ⟨v, r, rfl, h⟩ := am_1i_s h
  intro h1 h2 h3 H locs arr hP hS hl
  refine lv_istore hx hb hd hl hi rfl (fun arr hl => ?_)
  exact hn _ _ _ h (am_vs_t h1) (am_vl_put1 h2 (am_vs_h h1)) ((am_len_put1 _ _ _).trans h3) H locs arr hP hS (am_lv1 (v := .inl v) hl)
theorem am_s_istore_n (F : am_Fx p R s m args meth c cc nL own ret G d) {i : Fin 4} (hi : (i : Nat) < nL) (hd : decode cc pc = .ok (.istore_n i, 1)) (h : am_1i st fun v r => next σ (am_put1 ls (i : Nat) (.inl v)) r) (hn : ∀ σ ls st, next σ ls st → am_K p l e R s m args below meth c G nL k (pc + 1) σ ls st) : am_K p l e R s m args below meth c G nL k pc σ ls st := by
  obtain ⟨hx, hb, hml, hown, hts, hlk, hrt, hR, hK, -, hC, hN⟩ := id F
  obtain ⟨v, r, rfl, h⟩ := am_1i_s h
  intro h1 h2 h3 H locs arr hP hS hl
  refine lv_istore_n hx hb hd rfl hl hi rfl (fun arr hl => ?_)
  exact hn _ _ _ h (am_vs_t h1) (am_vl_put1 h2 (am_vs_h h1)) ((am_len_put1 _ _ _).trans h3) H locs arr hP hS (am_lv1 (v := .inl v) hl)
theorem am_s_lstore (F : am_Fx p R s m args meth c cc nL own ret G d) {i : Nat} (hi : i + 1 < nL) (hd : decode cc pc = .ok (.lstore i, 2)) (h : am_1l st fun v r => next σ (am_put2 ls i (.inr (.inl v))) r) (hn : ∀ σ ls st, next σ ls st → am_K p l e R s m args below meth c G nL k (pc + 2) σ ls st) : am_K p l e R s m args below meth c G nL k pc σ ls st := by
  obtain ⟨hx, hb, hml, hown, hts, hlk, hrt, hR, hK, -, hC, hN⟩ := id F
  obtain ⟨v, r, rfl, h⟩ := am_1l_s h
  intro h1 h2 h3 H locs arr hP hS hl
  refine lv_lstore hx hb hd hl hi rfl (fun arr hl => ?_)
  exact hn _ _ _ h (am_vs_t h1) (am_vl_put2 h2 (am_vs_h h1)) ((am_len_put2 _ _ _).trans h3) H locs arr hP hS (am_lv2 (v := .inr (.inl v)) hl)
theorem am_s_lstore_n (F : am_Fx p R s m args meth c cc nL own ret G d) {i : Fin 4} (hi : (i : Nat) + 1 < nL) (hd : decode cc pc = .ok (.lstore_n i, 1)) (h : am_1l st fun v r => next σ (am_put2 ls (i : Nat) (.inr (.inl v))) r) (hn : ∀ σ ls st, next σ ls st → am_K p l e R s m args below meth c G nL k (pc + 1) σ ls st) : am_K p l e R s m args below meth c G nL k pc σ ls st := by
  obtain ⟨hx, hb, hml, hown, hts, hlk, hrt, hR, hK, -, hC, hN⟩ := id F
  obtain ⟨v, r, rfl, h⟩ := am_1l_s h
  intro h1 h2 h3 H locs arr hP hS hl
  refine lv_lstore_n hx hb hd rfl hl hi rfl (fun arr hl => ?_)
  exact hn _ _ _ h (am_vs_t h1) (am_vl_put2 h2 (am_vs_h h1)) ((am_len_put2 _ _ _).trans h3) H locs arr hP hS (am_lv2 (v := .inr (.inl v)) hl)
theorem am_s_astore (F : am_Fx p R s m args meth c cc nL own ret G d) {i : Nat} (hi : i < nL) (hd : decode cc pc = .ok (.astore i, 2)) (h : am_1r st fun v r => next σ (am_put1 ls i (.inr (.inr v))) r) (hn : ∀ σ ls st, next σ ls st → am_K p l e R s m args below meth c G nL k (pc + 2) σ ls st) : am_K p l e R s m args below meth c G nL k pc σ ls st := by
  obtain ⟨hx, hb, hml, hown, hts, hlk, hrt, hR, hK, -, hC, hN⟩ := id F
  obtain ⟨v, r, rfl, h⟩ := am_1r_s h
  intro h1 h2 h3 H locs arr hP hS hl
  refine lv_astore hx hb hd hl hi rfl (fun arr hl => ?_)
  exact hn _ _ _ h (am_vs_t h1) (am_vl_put1 h2 (am_vs_h h1)) ((am_len_put1 _ _ _).trans h3) H locs arr hP hS (am_lv1 (v := .inr (.inr v)) hl)
theorem am_s_astore_n (F : am_Fx p R s m args meth c cc nL own ret G d) {i : Fin 4} (hi : (i : Nat) < nL) (hd : decode cc pc = .ok (.astore_n i, 1)) (h : am_1r st fun v r => next σ (am_put1 ls (i : Nat) (.inr (.inr v))) r) (hn : ∀ σ ls st, next σ ls st → am_K p l e R s m args below meth c G nL k (pc + 1) σ ls st) : am_K p l e R s m args below meth c G nL k pc σ ls st := by
  obtain ⟨hx, hb, hml, hown, hts, hlk, hrt, hR, hK, -, hC, hN⟩ := id F
  obtain ⟨v, r, rfl, h⟩ := am_1r_s h
  intro h1 h2 h3 H locs arr hP hS hl
  refine lv_astore_n hx hb hd rfl hl hi rfl (fun arr hl => ?_)
  exact hn _ _ _ h (am_vs_t h1) (am_vl_put1 h2 (am_vs_h h1)) ((am_len_put1 _ _ _).trans h3) H locs arr hP hS (am_lv1 (v := .inr (.inr v)) hl)
theorem am_s_iinc (F : am_Fx p R s m args meth c cc nL own ret G d) {i : Nat} {z : Int} (hi : i < nL) (hd : decode cc pc = .ok (.iinc i z, 3)) (h : am_gi ls i fun v => next σ (am_put1 ls i (.inl (v + am_i z))) st) (hn : ∀ σ ls st, next σ ls st → am_K p l e R s m args below meth c G nL k (pc + 3) σ ls st) : am_K p l e R s m args below meth c G nL k pc σ ls st := by
  obtain ⟨hx, hb, hml, hown, hts, hlk, hrt, hR, hK, -, hC, hN⟩ := id F
  obtain ⟨v, hv, h⟩ := am_gi_s h
  intro h1 h2 h3 H locs arr hP hS hl
  obtain ⟨n, hk⟩ := List.getElem?_of_mem (am_pr_mem (G := G).mpr ⟨_, hv, rfl⟩)
  refine lv_iinc (v := v + am_i z) hx hb hd hl hk (by rw [am_i_of]) hi rfl (fun arr hl => ?_)
  exact hn _ _ _ h h1 (am_vl_put1 h2 trivial) ((am_len_put1 _ _ _).trans h3) H locs arr hP hS (am_lv1 (v := .inl (v + am_i z)) hl)
end AMK
