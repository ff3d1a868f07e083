/-! soundness: copies, calls, throws, ends; the join -/
theorem am_cat_sum (G : am_G) (st : List am_V) : ((st.map (am_ev G)).map fun v => v.category).sum ≤ 2 * st.length := by
  induction st with
  | nil => simp
  | cons v r ih =>
    have h : (am_ev G v).category ≤ 2 := by rcases lv_cat (am_ev G v) with h | h <;> omega
    simp only [List.map_cons, List.sum_cons, List.length_cons]
    omega
theorem am_cat_eq (G : am_G) (st : List am_V) : ((st.map (am_ev G)).map fun v => v.category).sum = am_cat st := by
  induction st with
  | nil => rfl
  | cons v r ih =>
    simp only [List.map_cons, List.sum_cons, ih]
    rcases v with v | v | v
    · show 1 + am_cat r = am_cat r + 1; omega
    · show 2 + am_cat r = am_cat r + 2; omega
    · show 1 + am_cat r = am_cat r + 1; omega
theorem am_nfw : nativeFrameWords "java/lang/System" "arraycopy" 5 = 7 := by decide +kernel
/-- what a call site asks: the callee's contract, and that the calling instruction comes to it -/
def am_CO (l : Launch) (own : String) (i : Instr) (d b nl : Nat) (rt : List am_V → Prop) (sp : am_T) : Prop := ∀ (G : am_G) (a : List am_V) (σ : am_S) (k : am_O → am_S → Prop), a.length = b → (∀ x ∈ a, am_ok x) → rt a → sp a σ k → ∃ (y : MethodName) (cw : Cond) (dc maxL : Nat) (spc : am_T), am_Met l y cw dc maxL spc ∧ spc a σ k ∧ am_cw y cw maxL ∧ nl ≤ maxL ∧ cw ∈ lw_all ∧ dc + 1 ≤ d ∧ 8 + (maxL + 11) + 100 * dc ≤ 100 * d ∧
  ∀ (p : Program) (e : Env) (R : Room) (s : State) (m : MethodId) (args : Array Value) (below : List Frame) (meth : Method) (c : Code) (T : State) (locs : List Loc) (g : JFrame) (rest : List Value), Stand p l e R s m args below meth c T locs 0 0 → p.tables.exec = Jvm.exec → s.vm.findClass own = some m.cls → (∀ w ∈ lw_all, w.before args s = true) → va_K (am_D G) am_cl (am_tys G) s → va_P (am_D G) am_cl (am_w G σ) T.heap → am_Cs G s T.heap → am_Nw s → g.method = m → g.stack = (a.map (am_ev G)).reverse ++ rest → decode c.code g.pc = .ok (i, 3) → am_IS p l e R s m args below meth c locs 0 0 T g rest y (a.map (am_ev G))
theorem am_len_of {y : MethodName} {b : Nat} (h : (parseMethodDescriptor y.desc).map (fun d => d.parameters.length) = some b) : ∀ sig, parseMethodDescriptor y.desc = some sig → b = sig.parameters.length := by
  intro sig hs
  rw [hs] at h
  exact (Option.some.inj h).symm
theorem am_rt_s {t : Nat} {a : List am_V} (h : am_rt t a) : ∃ i r, a = .inr (.inr (t, i)) :: r := by
  unfold am_rt at h
  split at h
  · rename_i q r
    exact ⟨q.2, r, by rw [← h]⟩
  · exact h.elim
theorem am_vq_6 {i : Nat} (h : am_vq (6, i)) : 1 ≤ i ∧ i ≤ 14 := by
  rcases h with g | ⟨-, g⟩ | ⟨g, -⟩ | ⟨g, -⟩ | ⟨g, -⟩
  · exact absurd g (Nat.not_lt_zero _)
  · exact g
  · exact absurd (show (6 : Nat) = 7 from g) (by decide)
  · exact absurd (show (6 : Nat) = 8 from g) (by decide)
  · exact absurd (show (6 : Nat) = 9 from g) (by decide)
theorem am_vq_7 {i : Nat} (h : am_vq (7, i)) : i < 20 := am_vq_s7 h
/-- a static method of any class -/
theorem am_CO_S {l : Launch} {own : String} {idx d dc b nl maxL : Nat} {y : MethodName} {cw : Cond} {sp : am_T} (hM : am_Met l y cw dc maxL sp) (hcw : am_cw y cw maxL) (hnl : nl ≤ maxL) (hq : cw ∈ lw_all) (hi : Cond.initialized y.cls ∈ lw_all) (hl : Cond.methodLink own idx y ∈ lw_all) (hs : Cond.static y ∈ lw_all) (h1 : dc + 1 ≤ d) (h2 : 8 + (maxL + 11) + 100 * dc ≤ 100 * d)
    (hy : y.cls ≠ "java/lang/invoke/MethodHandle" ∧ y.cls ≠ "java/lang/invoke/VarHandle") (hlen : (parseMethodDescriptor y.desc).map (fun d => d.parameters.length) = some b) : am_CO l own (.invokestatic idx) d b nl (fun _ => True) sp := by
  intro G a σ k hb hav hrt hsp
  refine ⟨y, cw, dc, maxL, sp, hM, hsp, hcw, hnl, hq, h1, h2, ?_⟩
  intro p e R s m args below meth c T locs g rest X hx hown hts hK hP hC hN hg hst hd
  exact am_isS X hx hcw (hts _ hq) hown (hts _ hl) (hts _ hs) (hts _ hi) hy hg (fun sig h => by rw [List.length_map, hb]; exact am_len_of hlen sig h) hst hd
/-- a nest mate's private static method -/
theorem am_CO_N {l : Launch} {own host : String} {idx d dc b nl maxL : Nat} {y : MethodName} {cw : Cond} {sp : am_T} (hM : am_Met l y cw dc maxL sp) (hcw : am_cw y cw maxL) (hnl : nl ≤ maxL) (hq : cw ∈ lw_all) (hi : Cond.initialized y.cls ∈ lw_all) (hl : (own, idx, y, host) ∈ am_nm) (hs : Cond.static y ∈ lw_all) (h1 : dc + 1 ≤ d) (h2 : 8 + (maxL + 11) + 100 * dc ≤ 100 * d)
    (hy : y.cls ≠ "java/lang/invoke/MethodHandle" ∧ y.cls ≠ "java/lang/invoke/VarHandle") (hlen : (parseMethodDescriptor y.desc).map (fun d => d.parameters.length) = some b) : am_CO l own (.invokestatic idx) d b nl (fun _ => True) sp := by
  intro G a σ k hb hav hrt hsp
  refine ⟨y, cw, dc, maxL, sp, hM, hsp, hcw, hnl, hq, h1, h2, ?_⟩
  intro p e R s m args below meth c T locs g rest X hx hown hts hK hP hC hN hg hst hd
  exact am_isSN X hx hcw (hts _ hq) hown ((hN.1 _ hl).use rfl) (hts _ hs) (hts _ hi) hy hg (fun sig h => by rw [List.length_map, hb]; exact am_len_of hlen sig h) hst hd
/-- a method of an object of the world, its receiver first -/
theorem am_CO_V {l : Launch} {own : String} {idx d dc b nl maxL t : Nat} {y : MethodName} {cw : Cond} {sp : am_T} (hM : am_Met l y cw dc maxL sp) (hcw : am_cw y cw maxL) (hnl : nl ≤ maxL) (hq : cw ∈ lw_all) (hi : Cond.initialized y.cls ∈ lw_all) (hl : Cond.methodLink own idx y ∈ lw_all) (hs : Cond.instanceMethod y ∈ lw_all) (ht : t < 6) (hse : Cond.selects (am_R t) y y ∈ lw_all) (h1 : dc + 1 ≤ d) (h2 : 8 + (maxL + 11) + 100 * dc ≤ 100 * d)
    (hy : y.cls ≠ "java/lang/invoke/MethodHandle" ∧ y.cls ≠ "java/lang/invoke/VarHandle") (hlen : (parseMethodDescriptor y.desc).map (fun d => d.parameters.length) = some b) : am_CO l own (.invokevirtual idx) d (b + 1) nl (am_rt t) sp := by
  intro G a σ k hb hav hrt hsp
  refine ⟨y, cw, dc, maxL, sp, hM, hsp, hcw, hnl, hq, h1, h2, ?_⟩
  intro p e R s m args below meth c T locs g rest X hx hown hts hK hP hC hN hg hst hd
  obtain ⟨i, r, rfl⟩ := am_rt_s hrt
  have hvq : am_vq (t, i) := hav _ List.mem_cons_self
  obtain ⟨n, -, hn2⟩ := am_at (q := (t, i)) G σ (am_vq_ob hvq ht)
  rw [am_E0 (q := (t, i)) G σ ht] at hn2
  obtain ⟨cell, c1, c2, c3⟩ := va_recv hK hP (am_cl_at t ht) hn2
  refine am_isV (C := am_R t) (b := am_ad G (t, i)) (As := r.map (am_ev G)) X hx hcw (hts _ hq) hown (hts _ hl) (hts _ hs) (hts _ hse) hy c1 c2 c3 hg (fun sig h => ?_) ?_ hd
  · rw [List.length_map]
    have h3 : r.length = b := by simpa using hb
    rw [h3]
    exact am_len_of hlen sig h
  · rw [hst]
    simp [am_ev]
/-- a method of a String constant -/
theorem am_CO_T {l : Launch} {own : String} {idx d dc b nl maxL : Nat} {y : MethodName} {cw : Cond} {sp : am_T} (hM : am_Met l y cw dc maxL sp) (hcw : am_cw y cw maxL) (hnl : nl ≤ maxL) (hq : cw ∈ lw_all) (hi : Cond.initialized y.cls ∈ lw_all) (hl : Cond.methodLink own idx y ∈ lw_all) (hs : Cond.instanceMethod y ∈ lw_all) (hse : Cond.selects "java/lang/String" y y ∈ lw_all) (h1 : dc + 1 ≤ d) (h2 : 8 + (maxL + 11) + 100 * dc ≤ 100 * d)
    (hy : y.cls ≠ "java/lang/invoke/MethodHandle" ∧ y.cls ≠ "java/lang/invoke/VarHandle") (hlen : (parseMethodDescriptor y.desc).map (fun d => d.parameters.length) = some b) : am_CO l own (.invokevirtual idx) d (b + 1) nl (am_rt 7) sp := by
  intro G a σ k hb hav hrt hsp
  refine ⟨y, cw, dc, maxL, sp, hM, hsp, hcw, hnl, hq, h1, h2, ?_⟩
  intro p e R s m args below meth c T locs g rest X hx hown hts hK hP hC hN hg hst hd
  obtain ⟨i, r, rfl⟩ := am_rt_s hrt
  have hi20 := am_vq_7 (hav _ List.mem_cons_self)
  obtain ⟨-, ⟨cell, c1, c2, c3, -⟩, -⟩ := hC.2.1 i hi20
  refine am_isV (C := "java/lang/String") (b := am_ad G (7, i)) (As := r.map (am_ev G)) X hx hcw (hts _ hq) hown (hts _ hl) (hts _ hs) (hts _ hse) hy c1 c2 c3 hg (fun sig h => ?_) ?_ hd
  · rw [List.length_map]
    have h3 : r.length = b := by simpa using hb
    rw [h3]
    exact am_len_of hlen sig h
  · rw [hst]
    simp [am_ev]
/-- Kind.may, on any of the kinds -/
theorem am_CO_M {l : Launch} {own : String} {idx d dc b nl maxL : Nat} {y : MethodName} {cw : Cond} {sp : am_T} (hM : am_Met l y cw dc maxL sp) (hcw : am_cw y cw maxL) (hnl : nl ≤ maxL) (hq : cw ∈ lw_all) (hi : Cond.initialized y.cls ∈ lw_all) (hl : Cond.methodLink own idx y ∈ lw_all) (hsm : Cond.sameMethod y.cls y.cls y.name y.desc ∈ lw_all) (hs : Cond.instanceMethod y ∈ lw_all) (hse : ∀ i, 1 ≤ i → i ≤ 14 → Cond.selects (am_kc i) y y ∈ lw_all) (h1 : dc + 1 ≤ d) (h2 : 8 + (maxL + 11) + 100 * dc ≤ 100 * d)
    (hy : y.cls ≠ "java/lang/invoke/MethodHandle" ∧ y.cls ≠ "java/lang/invoke/VarHandle") (hlen : (parseMethodDescriptor y.desc).map (fun d => d.parameters.length) = some b) : am_CO l own (.invokevirtual idx) d (b + 1) nl (am_rt 6) sp := by
  intro G a σ k hb hav hrt hsp
  refine ⟨y, cw, dc, maxL, sp, hM, hsp, hcw, hnl, hq, h1, h2, ?_⟩
  intro p e R s m args below meth c T locs g rest X hx hown hts hK hP hC hN hg hst hd
  obtain ⟨i, r, rfl⟩ := am_rt_s hrt
  have hi14 := am_vq_6 (hav _ List.mem_cons_self)
  obtain ⟨-, ⟨cell, c1, c2, c3, -⟩, -⟩ := hC.1 i hi14.1 hi14.2
  have hdecl : va_Decl s ⟨y.cls, y.name, y.desc⟩ := by
    obtain ⟨r0, r', hn, hrm, hst, -⟩ := Cond.instanceMethod_spec (hts _ hs)
    obtain ⟨mk', methM', cM, hnamed', hmethM', -, -, hsigM⟩ := hcw args s (hts _ hq)
    cases hn.symm.trans hnamed'
    cases hrm.symm.trans hmethM'
    exact ⟨r0, r', hn, hrm, hst, hsigM⟩
  refine am_isU (C := am_kc i) (owner := y.cls) (x := y) (b := am_ad G (6, i)) (As := r.map (am_ev G)) X hx hown (hts _ hl) (hts _ hsm) hdecl hy (hts _ (hse i hi14.1 hi14.2)) (hts _ hs) c1 c2 c3 hg (fun sig h => ?_) ?_ hd
  · rw [List.length_map]
    have h3 : r.length = b := by simpa using hb
    rw [h3]
    exact am_len_of hlen sig h
  · rw [hst]
    simp [am_ev]
/-- Kind.of, each kind its own -/
theorem am_CO_K {l : Launch} {own : String} {idx d b nl : Nat} {x : MethodName} {sp : am_T} (hl : Cond.methodLink own idx x ∈ lw_all) (hsm : Cond.sameMethod x.cls x.cls x.name x.desc ∈ lw_all) (hdc : ∀ s, am_Nw s → va_Nw (.declares ⟨x.cls, x.name, x.desc⟩) s)
    (hy : x.cls ≠ "java/lang/invoke/MethodHandle" ∧ x.cls ≠ "java/lang/invoke/VarHandle") (hlen : (parseMethodDescriptor x.desc).map (fun d => d.parameters.length) = some b)
    (hrc : ∀ a σ k, sp a σ k → ∃ i r, (1 ≤ i ∧ i ≤ 14) ∧ a = .inr (.inr (6, i)) :: r ∧ ∃ (y : MethodName) (cw : Cond) (dc maxL : Nat) (spc : am_T), am_Met l y cw dc maxL spc ∧ spc a σ k ∧ am_cw y cw maxL ∧ nl ≤ maxL ∧ cw ∈ lw_all ∧ dc + 1 ≤ d ∧ 8 + (maxL + 11) + 100 * dc ≤ 100 * d ∧ Cond.selects (am_kc i) x y ∈ lw_all ∧ Cond.instanceMethod y ∈ lw_all) : am_CO l own (.invokevirtual idx) d (b + 1) nl (am_rt 6) sp := by
  intro G a σ k hb hav hrt hsp
  obtain ⟨i, r, hi14, rfl, y, cw, dc, maxL, spc, g1, g2, g3, g4, g5, g7, g8, g9, g10⟩ := hrc a σ k hsp
  refine ⟨y, cw, dc, maxL, spc, g1, g2, g3, g4, g5, g7, g8, ?_⟩
  intro p e R s m args below meth c T locs g rest X hx hown hts hK hP hC hN hg hst hd
  obtain ⟨-, ⟨cell, c1, c2, c3, -⟩, -⟩ := hC.1 i hi14.1 hi14.2
  refine am_isU (C := am_kc i) (owner := x.cls) (x := x) (b := am_ad G (6, i)) (As := r.map (am_ev G)) X hx hown (hts _ hl) (hts _ hsm) (va_Decl.abs (hdc s hN)) hy (hts _ g9) (hts _ g10) c1 c2 c3 hg (fun sig h => ?_) ?_ hd
  · rw [List.length_map]
    have h3 : r.length = b := by simpa using hb
    rw [h3]
    exact am_len_of hlen sig h
  · rw [hst]
    simp [am_ev]
/-- a private method of the kind UNFOLD -/
theorem am_CO_P {l : Launch} {own : String} {idx d dc b nl maxL : Nat} {y : MethodName} {cw : Cond} {sp : am_T} (hM : am_Met l y cw dc maxL sp) (hcw : am_cw y cw maxL) (hnl : nl ≤ maxL) (hq : cw ∈ lw_all) (hl : Cond.methodLink own idx y ∈ lw_all) (hs : Cond.instanceMethod y ∈ lw_all) (hse : Cond.selects (am_kc 7) y y ∈ lw_all) (h1 : dc + 1 ≤ d) (h2 : 8 + (maxL + 11) + 100 * dc ≤ 100 * d)
    (hy : y.cls ≠ "java/lang/invoke/MethodHandle" ∧ y.cls ≠ "java/lang/invoke/VarHandle") (hlen : (parseMethodDescriptor y.desc).map (fun d => d.parameters.length) = some b) (hrc : ∀ a σ k, sp a σ k → ∃ r, a = .inr (.inr (6, 7)) :: r) : am_CO l own (.invokevirtual idx) d (b + 1) nl (am_rt 6) sp := by
  intro G a σ k hb hav hrt hsp
  refine ⟨y, cw, dc, maxL, sp, hM, hsp, hcw, hnl, hq, h1, h2, ?_⟩
  intro p e R s m args below meth c T locs g rest X hx hown hts hK hP hC hN hg hst hd
  obtain ⟨r, rfl⟩ := hrc a σ k hsp
  obtain ⟨-, ⟨cell, c1, c2, c3, -⟩, -⟩ := hC.1 7 (by decide) (by decide)
  refine am_isV (C := am_kc 7) (b := am_ad G (6, 7)) (As := r.map (am_ev G)) X hx hcw (hts _ hq) hown (hts _ hl) (hts _ hs) (hts _ hse) hy c1 c2 c3 hg (fun sig h => ?_) ?_ hd
  · rw [List.length_map]
    have h3 : r.length = b := by simpa using hb
    rw [h3]
    exact am_len_of hlen sig h
  · rw [hst]
    simp [am_ev]
/-- what a thrown exception comes to -/
def am_TH (p : Program) (l : Launch) (e : Env) (R : Room) (s : State) (m : MethodId) (args : Array Value) (below : List Frame) (meth : Method) (c : Code) (G : am_G) (nL : Nat) (k : am_O → am_S → Prop) (hs : List (Nat × Nat × Nat)) : Prop := ∀ (pc : Nat) (q : am_P) (σ : am_S) (ls : am_L) (arr : Array Slot) (rst : List Value) (T : State) (locs : List Loc), am_vq q → am_vl ls → ls.length = nL → va_P (am_D G) am_cl (am_w G σ) T.heap → va_S (am_A G) s.heap T.heap locs → lv_has arr nL (am_pr G ls) → Stand p l e R s m args below meth c T locs 0 0 → am_thr hs k (am_K p l e R s m args below meth c G nL k) pc q σ ls → ∃ t, Steps p.tables e below ((T.setTop (F0 m pc arr rst)).pushFrame (.throwing (am_ad G q))) t ∧ am_Z below G k args s t
section AMT
variable {p : Program} {l : Launch} {e : Env} {R : Room} {s : State} {m : MethodId} {args : Array Value} {below : List Frame} {meth : Method} {c : Code} {G : am_G} {nL : Nat} {k : am_O → am_S → Prop}
variable {cc : ByteArray} {own : String} {ret : Option FieldType} {d pc : Nat} {σ : am_S} {ls : am_L} {st : List am_V} {next : am_S → am_L → List am_V → Prop} {hs : List (Nat × Nat × Nat)}
theorem am_TH_none (F : am_Fx p R s m args meth c cc nL own ret G d) (hc : c.exceptionTable.isEmpty = true) : am_TH p l e R s m args below meth c G nL k [] := by
  intro pc q σ ls arr rst T locs hq h2 h3 hP hS hl X h
  have hlk : meth.locks = false := F.2.2.2.2.2.1
  have hout : ∀ x ∈ c.exceptionTable.toList, covers x pc = false := by
    intro x hx
    have : c.exceptionTable = #[] := by simpa using hc
    rw [this] at hx
    cases hx
  obtain ⟨h5, h6, h7, h8, h9⟩ := X.leaveThrown (am_ad G q) (g := F0 m pc arr rst) rfl rfl rfl hout hlk
  refine ⟨_, h5, .threw (am_ad G q), h6, h7, ⟨.inr q, σ, rfl, hq, h, F.U hP hS rfl h8⟩, hS.F rfl, h8, locs, h9, hS.2.2⟩
theorem am_athrow {T : State} {locs : List Loc} (X : Stand p l e R s m args below meth c T locs 0 0) (hexec : p.tables.exec = Jvm.exec) {g : JFrame} (hg : g.method = m) {a : Addr} {rest : List Value} (hstack : g.stack = .ref a :: rest) (hdg : decode c.code g.pc = .ok (.athrow, 1)) {t : State} (h : Steps p.tables e below ((T.setTop { g with stack := rest }).pushFrame (.throwing a)) t) : Steps p.tables e below (T.setTop g) t := by
  subst hg
  jvm_step X.here [hexec, hdg, athrow.wp_sem, hstack]
  exact h
theorem am_s_athrow (F : am_Fx p R s m args meth c cc nL own ret G d) (hth : am_TH p l e R s m args below meth c G nL k hs) (hd : decode cc pc = .ok (.athrow, 1)) (h : am_1r st fun q _ => am_thr hs k (am_K p l e R s m args below meth c G nL k) pc q σ ls) : am_K p l e R s m args below meth c G nL k pc σ ls st := by
  obtain ⟨hx, hb, hml, hown, hts, hlk, hrt, hR, hK, -, hC, hN⟩ := id F
  obtain ⟨q, r, rfl, h⟩ := am_1r_s h
  intro h1 h2 h3 H locs arr hP hS hl T hT X
  subst hT
  obtain ⟨t, g1, g2⟩ := hth pc q σ ls arr (r.map (am_ev G)) T locs (am_vs_h h1) h2 h3 hP hS hl X h
  exact ⟨t, am_athrow X hx (g := F0 m pc arr (((.inr (.inr q) :: r : List am_V)).map (am_ev G))) rfl rfl (by rw [hb]; exact hd) g1, g2⟩
theorem am_s_call (F : am_Fx p R s m args meth c cc nL own ret G d) {i : Instr} {b nl : Nat} {sp : am_T} (hth : am_TH p l e R s m args below meth c G nL k hs) {rt : List am_V → Prop} (hco : am_CO l own i d b nl rt sp) (hd : decode cc pc = .ok (i, 3)) (hle : b ≤ st.length) (hle4 : (st.drop b).length ≤ 4 ∨ am_cat (st.drop b) ≤ 8) (hal : (am_args (st.take b).reverse).length ≤ nl) (hrt0 : rt (st.take b).reverse) (h : sp (st.take b).reverse σ (fun o σ' => match o with
        | .inl none => next σ' ls (st.drop b)
        | .inl (some v) => next σ' ls (v :: st.drop b)
        | .inr q => am_thr hs k (am_K p l e R s m args below meth c G nL k) pc q σ' ls)) (hn : ∀ σ ls st, next σ ls st → am_K p l e R s m args below meth c G nL k (pc + 3) σ ls st) : am_K p l e R s m args below meth c G nL k pc σ ls st := by
  obtain ⟨hx, hb, hml, hown, hts, hlk, hrt, hR, hK, -, hC, hN⟩ := id F
  intro h1 h2 h3 H locs arr hP hS hl T hT X
  subst hT
  have hav : ∀ x ∈ (st.take b).reverse, am_ok x := fun x hx => h1 x (List.mem_of_mem_take (List.mem_reverse.mp hx))
  have hdv : am_vs (st.drop b) := fun x hx => h1 x (List.mem_of_mem_drop hx)
  obtain ⟨y, cw, dc, maxL, spc, hM, hspc, hcw, hnl, hq, hf1, hf2, his⟩ := hco G (st.take b).reverse σ _ (by simp [hle]) hav hrt0 h
  have hstk : (F0 m pc arr (st.map (am_ev G))).stack = ((st.take b).reverse.map (am_ev G)).reverse ++ (st.drop b).map (am_ev G) := by
    show st.map (am_ev G) = _
    rw [List.map_reverse, List.reverse_reverse, ← List.map_append, List.take_append_drop]
  obtain ⟨vm₁, mk, X₁, hnm, hstep⟩ := his p e R s m args below meth c T locs (F0 m pc arr (st.map (am_ev G))) ((st.drop b).map (am_ev G)) X hx hown hts hK hP (hC.kept hS.2.1) hN rfl hstk (by rw [hb]; exact hd)
  have hgood : GoodIn lw_all (cw :: lw_all) := fun w hw => by
    rcases List.mem_cons.mp hw with e1 | e1
    · rw [e1]; exact lw_self _ hq
    · exact lw_self _ e1
  have hfr : dc + 1 ≤ R.frames := by rw [hR]; exact hf1
  have hlo : 8 + (maxL + 11) + 100 * dc ≤ R.locals := by rw [hR]; exact hf2
  have hUU : am_U G σ (T.setVm vm₁) := F.U hP hS rfl X₁.warmed
  obtain ⟨o, σ', B, L, hoo, hko, hUB, hF2, XB, hL, hret, hthr⟩ := am_back hM hcw (pay_in hts hgood) hfr hlo hspc (Nat.le_trans hal hnl) X₁ (g := F0 m pc arr ((st.drop b).map (am_ev G))) rfl (by show arr.size = _; rw [hml]; exact hl.1) (ig := i) (by rw [hb]; exact hd) (by show 2 * 0 + (((st.drop b).map (am_ev G)).map fun v => v.category).sum ≤ 8; have := am_cat_sum G (st.drop b); have := am_cat_eq G (st.drop b); omega) hnm hav hUU (Nat.zero_le _) (Nat.zero_le _)
  have hSB : va_S (am_A G) s.heap B.heap (locs ++ L) := by
    refine ⟨Nat.le_trans hS.1 hF2.1, fun q g1 g2 => ?_, fun q hq => ?_⟩
    · rw [hF2.2 q (Nat.lt_of_lt_of_le g1 hS.1) g2]
      exact hS.2.1 q g1 g2
    · rcases List.mem_append.mp hq with g | g
      · exact hS.2.2 q g
      · exact hL q g
  rcases o with o | q
  · have hst2 := hret o rfl
    have hK2 : am_K p l e R s m args below meth c G nL k (pc + 3) σ' ls (o.toList ++ st.drop b) := by
      cases o with
      | none => exact hn _ _ _ hko
      | some v => exact hn _ _ _ hko
    have hv2 : am_vs (o.toList ++ st.drop b) := by
      cases o with
      | none => exact hdv
      | some v => exact am_vs_c hoo hdv
    obtain ⟨t, g1, g2⟩ := hK2 hv2 h2 h3 B.heap (locs ++ L) arr hUB.1 hSB hl B rfl XB
    refine ⟨t, hstep _ (hst2.trans ?_), g2⟩
    have e1 : (o.map (am_ev G)).toList ++ (st.drop b).map (am_ev G) = (o.toList ++ st.drop b).map (am_ev G) := by cases o <;> simp
    show Steps p.tables e below (B.setTop (F0 m (pc + 3) arr ((o.map (am_ev G)).toList ++ (st.drop b).map (am_ev G)))) t
    rw [e1]
    exact g1
  · have hst2 := hthr q rfl
    obtain ⟨t, g1, g2⟩ := hth pc q σ' ls arr ((st.drop b).map (am_ev G)) B (locs ++ L) hoo h2 h3 hUB.1 hSB hl XB hko
    exact ⟨t, hstep _ (hst2.trans g1), g2⟩
theorem am_s_copy (F : am_Fx p R s m args meth c cc nL own ret G d) {index : Nat} (hd1 : 1 ≤ d) (hw : Cond.methodLink own index arraycopyName ∈ lw_all) (hd : decode cc pc = .ok (.invokestatic index, 3)) (h : am_cp σ st fun σ' r => r.length ≤ 4 ∧ next σ' ls r) (hn : ∀ σ ls st, next σ ls st → am_K p l e R s m args below meth c G nL k (pc + 3) σ ls st) : am_K p l e R s m args below meth c G nL k pc σ ls st := by
  obtain ⟨hx, hb, hml, hown, hts, hlk, hrt, hR, hK, -, hC, hN⟩ := id F
  unfold am_cp at h
  split at h
  · rename_i n dp qb sp qa r
    obtain ⟨⟨a1, a2, a3, a4, a5⟩, h⟩ := h
    intro h1 h2 h3 H locs arr hP hS hl
    have hvb : am_vq qb := am_vs_h (am_vs_t (am_vs_t h1))
    have hva : am_vq qa := am_vs_h (am_vs_t (am_vs_t (am_vs_t (am_vs_t h1))))
    have hvr : am_vs r := am_vs_t (am_vs_t (am_vs_t (am_vs_t (am_vs_t h1))))
    have hfr : 1 ≤ R.frames := by rw [hR]; exact hd1
    have hml2 : c.maxLocals = arr.size := hml.trans hl.1.symm
    have hsum := am_cat_sum G r
    rcases h with ⟨k1, k2, h4, h⟩ | ⟨k1, k2, h4, h⟩
    · obtain ⟨n0, -, g0⟩ := am_at G σ (am_vq_np hva (by rw [k1]; decide) (by rw [k1]; decide))
      obtain ⟨n1, e1, g1⟩ := am_at G σ (am_vq_np hvb (by rw [k2]; decide) (by rw [k2]; decide))
      rw [am_E1 G σ k1] at g0
      rw [am_E1 G σ k2] at g1
      refine va_copyi hx hb hml2 hown (hts _ hw) (hts _ q509) (hts _ q508) (hts _ q96) hK hP (F.D σ) hS n0 n1 0 0 g0 g1 rfl rfl rfl a1 a2 a3 a4 a5 (fun i hi => rfl) hfr (by rw [am_nfw, hR]; show _ ≤ 100 * d; omega) hd (fun H1 locs1 hP1 hD1 hS1 => ?_)
      have hE := am_E1 G (am_ri σ qb.1 qb.2 (va_cpy (σ.1 qa.1 qa.2) (σ.1 qb.1 qb.2) sp.toNatClampNeg dp.toNatClampNeg n.toNatClampNeg)) k2
      rw [am_ri_self] at hE
      rw [← hE, am_w_set e1 (fun q' hq' => am_E_ri hq')] at hP1
      exact hn _ _ _ h hvr h2 h3 H1 locs1 arr hP1 hS1 hl
    · obtain ⟨n0, -, g0⟩ := am_at G σ (am_vq_np hva (by rw [k1]; decide) (by rw [k1]; decide))
      obtain ⟨n1, e1, g1⟩ := am_at G σ (am_vq_np hvb (by rw [k2]; decide) (by rw [k2]; decide))
      rw [am_E4 G σ k1] at g0
      rw [am_E4 G σ k2] at g1
      refine va_copyl hx hb hml2 hown (hts _ hw) (hts _ q509) (hts _ q508) (hts _ q96) hK hP (F.D σ) hS n0 n1 3 3 g0 g1 rfl rfl rfl a1 a2 a3 a4 a5 (fun i hi => rfl) hfr (by rw [am_nfw, hR]; show _ ≤ 100 * d; omega) hd (fun H1 locs1 hP1 hD1 hS1 => ?_)
      have hE := am_E4 G (am_rl σ qb.1 qb.2 (va_cpy (σ.2 qa.1 qa.2) (σ.2 qb.1 qb.2) sp.toNatClampNeg dp.toNatClampNeg n.toNatClampNeg)) k2
      rw [am_rl_self] at hE
      rw [← hE, am_w_set e1 (fun q' hq' => am_E_rl hq')] at hP1
      exact hn _ _ _ h hvr h2 h3 H1 locs1 arr hP1 hS1 hl
  · exact h.elim
theorem am_s_ldcwS (F : am_Fx p R s m args meth c cc nL own ret G d) {b index : Nat} (hb20 : b < 20) (hw : am_sx b = (own, index, (am_sx b).2.2)) (hd : decode cc pc = .ok (.ldc_w index, 3)) (h : next σ ls (.inr (.inr (7, b)) :: st)) (hn : ∀ σ ls st, next σ ls st → am_K p l e R s m args below meth c G nL k (pc + 3) σ ls st) : am_K p l e R s m args below meth c G nL k pc σ ls st := by
  obtain ⟨hx, hb, hml, hown, hts, hlk, hrt, hR, hK, -, hC, hN⟩ := id F
  intro h1 h2 h3 H locs arr hP hS hl T hT X
  have hZ := (hC.2.1 b hb20).1
  rw [hw] at hZ
  obtain ⟨t, a1, b1⟩ := hn _ _ _ h (am_vs_c (Or.inr (Or.inr (Or.inl ⟨rfl, hb20⟩))) h1) h2 h3 H locs arr hP hS hl T hT X
  refine ⟨t, X.ldcStringW hx hown (text := (am_sx b).2.2) (a := am_ad G (7, b)) ?_ ?_ (g := F0 m pc arr (st.map (am_ev G))) rfl (by rw [hb]; exact hd) t a1, b1⟩
  · exact hZ.1
  · exact hZ.2
theorem am_s_vret (F : am_Fx p R s m args meth c cc nL own ret G d) (hret : ret = none) (hd : decode cc pc = .ok (.return_, 1)) (h : k (.inl none) σ) : am_K p l e R s m args below meth c G nL k pc σ ls [] := by
  obtain ⟨hx, hb, hml, hown, hts, hlk, hrt, hR, hK, -, hC, hN⟩ := id F
  intro h1 h2 h3 H locs arr hP hS hl
  refine am_mono am_endq (W.vret hx hb (hrt.trans hret) (fun t ht hW => ⟨⟨.inl none, σ, rfl, trivial, h, F.U hP hS ht hW⟩, hS.F ht⟩) hS.2.2 hd)
theorem am_s_iret (F : am_Fx p R s m args meth c cc nL own ret G d) {v : Int32} (hret : ret = some .int) (hd : decode cc pc = .ok (.ireturn, 1)) (h : k (.inl (some (.inl v))) σ) : am_K p l e R s m args below meth c G nL k pc σ ls [.inl v] := by
  obtain ⟨hx, hb, hml, hown, hts, hlk, hrt, hR, hK, -, hC, hN⟩ := id F
  intro h1 h2 h3 H locs arr hP hS hl
  refine am_mono am_endq (W.iret (v := v) hx hb (hrt.trans hret) (fun t ht hW => ⟨⟨.inl (some (.inl v)), σ, rfl, trivial, h, F.U hP hS ht hW⟩, hS.F ht⟩) hS.2.2 hd)
theorem am_s_zret (F : am_Fx p R s m args meth c cc nL own ret G d) {v : Int32} (hret : ret = some .boolean) (hv : v = nI 0 ∨ v = nI 1) (hd : decode cc pc = .ok (.ireturn, 1)) (h : k (.inl (some (.inl v))) σ) : am_K p l e R s m args below meth c G nL k pc σ ls [.inl v] := by
  obtain ⟨hx, hb, hml, hown, hts, hlk, hrt, hR, hK, -, hC, hN⟩ := id F
  intro h1 h2 h3 H locs arr hP hS hl
  refine am_mono am_endq (W.zret (v := v) hx hb (hrt.trans hret) (am_fit_bool hv).1 (fun t ht hW => ⟨⟨.inl (some (.inl v)), σ, rfl, trivial, h, F.U hP hS ht hW⟩, hS.F ht⟩) hS.2.2 hd)
theorem am_s_nret (F : am_Fx p R s m args meth c cc nL own ret G d) {v : Int32} {ty : FieldType} (hret : ret = some ty) (hv : narrow ty (.int v) = .int v) (hd : decode cc pc = .ok (.ireturn, 1)) (h : k (.inl (some (.inl v))) σ) : am_K p l e R s m args below meth c G nL k pc σ ls [.inl v] := by
  obtain ⟨hx, hb, hml, hown, hts, hlk, hrt, hR, hK, -, hC, hN⟩ := id F
  intro h1 h2 h3 H locs arr hP hS hl
  refine am_mono am_endq (W.zret (v := v) hx hb (hrt.trans hret) hv (fun t ht hW => ⟨⟨.inl (some (.inl v)), σ, rfl, trivial, h, F.U hP hS ht hW⟩, hS.F ht⟩) hS.2.2 hd)
theorem am_s_lret (F : am_Fx p R s m args meth c cc nL own ret G d) {v : Int64} (hret : ret = some .long) (hd : decode cc pc = .ok (.lreturn, 1)) (h : k (.inl (some (.inr (.inl v)))) σ) : am_K p l e R s m args below meth c G nL k pc σ ls [.inr (.inl v)] := by
  obtain ⟨hx, hb, hml, hown, hts, hlk, hrt, hR, hK, -, hC, hN⟩ := id F
  intro h1 h2 h3 H locs arr hP hS hl
  refine am_mono am_endq (W.lret (v := v) hx hb (hrt.trans hret) (fun t ht hW => ⟨⟨.inl (some (.inr (.inl v))), σ, rfl, trivial, h, F.U hP hS ht hW⟩, hS.F ht⟩) hS.2.2 hd)
theorem am_s_aret (F : am_Fx p R s m args meth c cc nL own ret G d) {q : am_P} (hret : ∃ n, ret = some (.object n)) (hd : decode cc pc = .ok (.areturn, 1)) (h : k (.inl (some (.inr (.inr q)))) σ) : am_K p l e R s m args below meth c G nL k pc σ ls [.inr (.inr q)] := by
  obtain ⟨hx, hb, hml, hown, hts, hlk, hrt, hR, hK, -, hC, hN⟩ := id F
  obtain ⟨n, hret⟩ := hret
  intro h1 h2 h3 H locs arr hP hS hl
  refine am_mono am_endq (W.aret (v := .ref (am_ad G q)) hx hb (hrt.trans hret) (Or.inl ⟨n, rfl⟩) (Or.inr ⟨_, rfl⟩) (fun t ht hW => ⟨⟨.inl (some (.inr (.inr q))), σ, rfl, am_vs_h h1, h, F.U hP hS ht hW⟩, hS.F ht⟩) hS.2.2 hd)
end AMT
