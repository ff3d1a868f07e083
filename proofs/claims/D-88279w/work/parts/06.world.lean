/-- what a field of a class holds: 0 an int, 1 the place (tag, off + its index), 2 null -/
def am_fr : Nat → Nat → Nat × Nat × Nat
  | 0, 0 => (1, 15, 0)
  | 0, 1 => (1, 16, 0)
  | 0, 5 => (1, 3, 0)
  | 0, 6 => (1, 1, 8)
  | 0, 7 => (1, 1, 9)
  | 0, 8 => (1, 17, 0)
  | 0, 9 => (1, 2, 8)
  | 0, 15 => (1, 18, 0)
  | 0, 16 => (1, 19, 0)
  | 0, 17 => (1, 20, 0)
  | 0, 18 => (1, 21, 0)
  | 0, 19 => (1, 22, 0)
  | 0, 20 => (1, 23, 0)
  | 0, 21 => (1, 24, 0)
  | 0, 22 => (1, 25, 0)
  | 0, 23 => (1, 26, 0)
  | 0, 24 => (1, 27, 0)
  | 0, 25 => (1, 28, 0)
  | 0, 32 => (1, 1, 10)
  | 0, 33 => (1, 1, 11)
  | 0, 34 => (1, 1, 12)
  | 0, 35 => (1, 1, 13)
  | 1, 2 => (1, 10, 0)
  | 1, 3 => (1, 11, 0)
  | 2, 1 => (1, 12, 0)
  | 2, 2 => (1, 13, 0)
  | 2, 3 => (1, 14, 0)
  | 3, 0 => (2, 0, 0)
  | 3, 1 => (2, 0, 0)
  | 3, 2 => (2, 0, 0)
  | 3, 3 => (2, 0, 0)
  | 3, 4 => (2, 0, 0)
  | 4, 0 => (1, 30, 0)
  | 4, 1 => (1, 31, 0)
  | 4, 2 => (1, 32, 0)
  | 4, 5 => (1, 33, 0)
  | 4, 6 => (1, 34, 0)
  | 4, 7 => (1, 35, 0)
  | 4, 8 => (1, 36, 0)
  | 4, 9 => (1, 37, 0)
  | 4, 10 => (1, 38, 0)
  | 4, 11 => (1, 39, 0)
  | 4, 12 => (1, 5, 0)
  | 4, 13 => (1, 40, 0)
  | 4, 22 => (1, 41, 0)
  | 4, 23 => (1, 42, 0)
  | 4, 24 => (1, 43, 0)
  | 4, 25 => (1, 44, 0)
  | 4, 26 => (1, 45, 0)
  | 4, 27 => (1, 46, 0)
  | 4, 28 => (1, 47, 0)
  | 4, 35 => (1, 48, 0)
  | 4, 36 => (1, 49, 0)
  | 4, 37 => (1, 50, 0)
  | 4, 38 => (1, 51, 0)
  | 4, 39 => (1, 52, 0)
  | 4, 40 => (1, 53, 0)
  | 5, 0 => (2, 0, 0)
  | 5, 1 => (2, 0, 0)
  | 5, 2 => (2, 0, 0)
  | 5, 3 => (2, 0, 0)
  | 5, 4 => (2, 0, 0)
  | _, _ => (0, 0, 0)
/-- nest mates' static methods: class, entry, method, host -/
def am_nm : List (String × Nat × MethodName × String) := [("TableWays$Kind", 77, ⟨"TableWays", "in", "(JJJ)Z"⟩, "TableWays"),
  ("TableWays$Kind$1", 16, ⟨"TableWays", "isSize", "(II)Z"⟩, "TableWays"),
  ("TableWays$Kind$10", 9, ⟨"TableWays", "grouped", "(LTableWays$Table;IILTableWays$Table;)Z"⟩, "TableWays"),
  ("TableWays$Kind$11", 19, ⟨"TableWays", "numberOf", "(J)I"⟩, "TableWays"),
  ("TableWays$Kind$11", 23, ⟨"TableWays", "grouped", "(LTableWays$Table;IILTableWays$Table;)Z"⟩, "TableWays"),
  ("TableWays$Kind$12", 21, ⟨"TableWays", "rowsOf", "(LTableWays$Table;[IILTableWays$Table;)Z"⟩, "TableWays"),
  ("TableWays$Kind$13", 17, ⟨"TableWays", "rowsOf", "(LTableWays$Table;[IILTableWays$Table;)Z"⟩, "TableWays"),
  ("TableWays$Kind$3", 38, ⟨"TableWays", "find", "(JI)I"⟩, "TableWays"),
  ("TableWays$Kind$3", 42, ⟨"TableWays", "part", "(JII)J"⟩, "TableWays"),
  ("TableWays$Kind$3", 46, ⟨"TableWays", "bytesOf", "(J)I"⟩, "TableWays"),
  ("TableWays$Kind$5", 30, ⟨"TableWays", "bytesOf", "(J)I"⟩, "TableWays"),
  ("TableWays$Kind$5", 42, ⟨"TableWays", "byteAt", "(JI)I"⟩, "TableWays"),
  ("TableWays$Kind$6", 16, ⟨"TableWays", "isSize", "(II)Z"⟩, "TableWays"),
  ("TableWays$Kind$7", 34, ⟨"TableWays", "isSize", "(II)Z"⟩, "TableWays"),
  ("TableWays$Kind$8", 21, ⟨"TableWays", "against", "(JJ)I"⟩, "TableWays"),
  ("TableWays$Kind$8", 27, ⟨"TableWays", "rowsOf", "(LTableWays$Table;[IILTableWays$Table;)Z"⟩, "TableWays"),
  ("TableWays$Kind$9", 24, ⟨"TableWays", "rowsOf", "(LTableWays$Table;[IILTableWays$Table;)Z"⟩, "TableWays")]
/-! THE WORLD of the small machine on the JVM's heap: every place at an address of its own -/
def am_cl : List vw_C := [(RX0, TX0, 36), (RX2, TX2, 4), (RX3, TX3, 4), (RX1, TX1, 8), (RX4, TX4, 43), (RX5, TX5, 6)]
def am_R : Nat → String | 0 => RX0 | 1 => RX2 | 2 => RX3 | 3 => RX1 | 4 => RX4 | _ => RX5
def am_TT : Nat → u_T | 0 => TX0 | 1 => TX2 | 2 => TX3 | 3 => TX1 | 4 => TX4 | _ => TX5
def am_nf : Nat → Nat | 0 => 36 | 1 => 4 | 2 => 4 | 3 => 8 | 4 => 43 | _ => 6
def am_ty : Nat → Nat → FieldType | 0 => tyX0 | 1 => tyX2 | 2 => tyX3 | 3 => tyX1 | 4 => tyX4 | _ => tyX5
theorem am_t6 {P : Nat → Prop} (h0 : P 0) (h1 : P 1) (h2 : P 2) (h3 : P 3) (h4 : P 4) (h5 : P 5) : ∀ t, t < 6 → P t := by
  intro t h
  match t, h with
  | 0, _ => exact h0
  | 1, _ => exact h1
  | 2, _ => exact h2
  | 3, _ => exact h3
  | 4, _ => exact h4
  | 5, _ => exact h5
theorem am_cl_at : ∀ t, t < 6 → am_cl[t]? = some (am_R t, am_TT t, am_nf t) := am_t6 rfl rfl rfl rfl rfl rfl
theorem am_inw : ∀ t, t < 6 → ∀ w ∈ u_ws (am_R t) (am_TT t) (am_nf t), w ∈ lw_all := am_t6 in_X0 in_X2 in_X3 in_X1 in_X4 in_X5
theorem am_nmw : ∀ t, t < 6 → ∀ a, a < am_nf t → ∀ b, b < am_nf t → a ≠ b → (am_TT t a).2.1 ≠ (am_TT t b).2.1 := am_t6 nmX0 nmX2 nmX3 nmX1 nmX4 nmX5
theorem am_tyw : ∀ t, t < 6 → ∀ k, k < am_nf t → parseFieldDescriptor (am_TT t k).2.2.1 = some (am_ty t k) := am_t6 tyX0_ok tyX2_ok tyX3_ok tyX1_ok tyX4_ok tyX5_ok
/-- class numbers and slots, array classes, addresses, the cells that may be written -/
abbrev am_G : Type := va_G × (Nat → ClassId) × (am_P → Nat) × (Nat → Prop)
abbrev am_D (G : am_G) : va_G := G.1
abbrev am_dA (G : am_G) : Nat → ClassId := G.2.1
abbrev am_ad (G : am_G) : am_P → Nat := G.2.2.1
abbrev am_A (G : am_G) : Nat → Prop := G.2.2.2
def am_ev (G : am_G) : am_V → Value
  | .inl x => .int x
  | .inr (.inl x) => .long x
  | .inr (.inr q) => .ref (am_ad G q)
def am_oc (G : am_G) : am_O → Outcome
  | .inl v => .returned (v.map (am_ev G))
  | .inr q => .threw (am_ad G q)
def am_fv (G : am_G) (σ : am_S) (t i k : Nat) : Value := match (am_fr t k).1 with
  | 0 => .int (σ.1 t i k)
  | 1 => .ref (am_ad G ((am_fr t k).2.1, (am_fr t k).2.2 + i))
  | _ => .null
def am_E (G : am_G) (σ : am_S) (q : am_P) : va_E := match am_ak q.1 with
  | 0 => .inr (q.1, (List.range (am_nf q.1)).map (am_fv G σ q.1 q.2))
  | 4 => .inl (am_dA G 4, am_al q.1, .inr (.inl (σ.2 q.1 q.2)))
  | 5 => .inl (am_dA G 5, am_al q.1, .inr (.inr (.inr (.inr (fun j => some (am_ad G (1, j)))))))
  | 6 => .inl (am_dA G 6, am_al q.1, .inr (.inr (.inr (.inr (fun j => some (am_ad G (2, j)))))))
  | n => .inl (am_dA G n, am_al q.1, .inl (σ.1 q.1 q.2))
def am_pl : List am_P := (List.range 54).flatMap fun t => (List.range (am_np t)).map fun i => (t, i)
def am_w (G : am_G) (σ : am_S) : va_W := am_pl.map fun q => (am_ad G q, am_E G σ q)
def am_tys (G : am_G) : List (ClassId × FieldType) := [(am_dA G 1, .int), (am_dA G 2, .byte), (am_dA G 3, .boolean), (am_dA G 4, .long), (am_dA G 5, .object "TableWays$Table"), (am_dA G 6, .object "TableWays$Way")]
theorem am_np_lt : ∀ t, 54 ≤ t → am_np t = 0 := by
  intro t h
  unfold am_np
  split <;> first | rfl | omega
theorem am_mem {q : am_P} (h : q.2 < am_np q.1) : q ∈ am_pl := by
  refine List.mem_flatMap.mpr ⟨q.1, List.mem_range.mpr ?_, List.mem_map.mpr ⟨q.2, List.mem_range.mpr h, rfl⟩⟩
  apply Decidable.byContradiction
  intro hc
  rw [am_np_lt _ (by omega)] at h
  omega
theorem am_pl_nd : am_pl.Nodup := by decide +kernel
theorem am_at {q : am_P} (G : am_G) (σ : am_S) (h : q.2 < am_np q.1) : ∃ n : Nat, am_pl[n]? = some q ∧ (am_w G σ)[n]? = some (am_ad G q, am_E G σ q) := by
  obtain ⟨n, hn⟩ := List.getElem?_of_mem (am_mem h)
  exact ⟨n, hn, by simp [am_w, hn]⟩
theorem am_w_set {G : am_G} {σ σ' : am_S} {q : am_P} {n : Nat} (hn : am_pl[n]? = some q) (hE : ∀ q', q' ≠ q → am_E G σ' q' = am_E G σ q') : (am_w G σ).set n (am_ad G q, am_E G σ' q) = am_w G σ' := by
  apply List.ext_getElem?
  intro j
  have hl := (List.getElem?_eq_some_iff.mp hn).1
  by_cases hj : j = n
  · subst hj
    rw [List.getElem?_set_self (by simpa [am_w] using hl)]
    simp [am_w, hn]
  · rw [List.getElem?_set_ne (Ne.symm hj)]
    simp only [am_w, List.getElem?_map]
    cases hq : am_pl[j]? with
    | none => rfl
    | some q' =>
      have : q' ≠ q := by
        intro e
        subst e
        exact hj ((List.getElem?_inj (List.getElem?_eq_some_iff.mp hq).1 am_pl_nd).mp (hq.trans hn.symm))
      simp [hE q' this]
theorem am_w_addr (G : am_G) (σ σ' : am_S) (n : Nat) (p : Nat × va_E) (h : (am_w G σ)[n]? = some p) : ∃ e, (am_w G σ')[n]? = some (p.1, e) := by
  simp only [am_w, List.getElem?_map, Option.map_eq_some_iff] at h ⊢
  obtain ⟨q, h1, h2⟩ := h
  exact ⟨am_E G σ' q, q, h1, by rw [← h2]⟩
theorem am_wD {G : am_G} {σ : am_S} (σ' : am_S) (h : va_D (am_A G) (am_w G σ)) : va_D (am_A G) (am_w G σ') := by
  refine ⟨fun i j p q hi hj e => ?_, fun k q hk => ?_⟩
  · obtain ⟨e1, h1⟩ := am_w_addr G σ' σ i p hi
    obtain ⟨e2, h2⟩ := am_w_addr G σ' σ j q hj
    exact h.1 i j _ _ h1 h2 e
  · obtain ⟨e1, h1⟩ := am_w_addr G σ' σ k q hk
    exact h.2 k (q.1, e1) h1
theorem am_E_ri {G : am_G} {σ : am_S} {t i : Nat} {f : Nat → Int32} {q : am_P} (h : q ≠ (t, i)) : am_E G (am_ri σ t i f) q = am_E G σ q := by
  have h1 : (am_ri σ t i f).1 q.1 q.2 = σ.1 q.1 q.2 := by
    simp only [am_ri]
    rw [if_neg]
    intro e
    exact h (Prod.ext e.1 e.2)
  unfold am_E am_fv
  simp only [h1, am_ri_2]
theorem am_E_rl {G : am_G} {σ : am_S} {t i : Nat} {f : Nat → Int64} {q : am_P} (h : q ≠ (t, i)) : am_E G (am_rl σ t i f) q = am_E G σ q := by
  have h1 : (am_rl σ t i f).2 q.1 q.2 = σ.2 q.1 q.2 := by
    simp only [am_rl]
    rw [if_neg]
    intro e
    exact h (Prod.ext e.1 e.2)
  unfold am_E am_fv
  simp only [h1, am_rl_1]
/-- places and constants that are there -/
def am_vq (q : am_P) : Prop := q.2 < am_np q.1 ∨ (q.1 = 6 ∧ 1 ≤ q.2 ∧ q.2 ≤ 14) ∨ (q.1 = 7 ∧ q.2 < 20) ∨ (q.1 = 8 ∧ q.2 = 0) ∨ (q.1 = 9 ∧ q.2 < 20)
def am_ok : am_V → Prop
  | .inr (.inr q) => am_vq q
  | _ => True
def am_oo : am_O → Prop
  | .inl (some v) => am_ok v
  | .inl none => True
  | .inr q => am_vq q
/-- the constants: the kinds of steps, the Strings, LISTED -/
def am_kn (k : Nat) : String := ["", "TURN", "DROP", "SPLIT", "FILL", "JOIN", "FOLD", "UNFOLD", "SORT", "SINGLE", "COUNT", "SUM", "KEEP", "HEAD", "SWAP"].getD k ""
def am_kc (k : Nat) : String := ["", "TableWays$Kind$1", "TableWays$Kind$2", "TableWays$Kind$3", "TableWays$Kind$4", "TableWays$Kind$5", "TableWays$Kind$6", "TableWays$Kind$7", "TableWays$Kind$8", "TableWays$Kind$9", "TableWays$Kind$10", "TableWays$Kind$11", "TableWays$Kind$12", "TableWays$Kind$13", "TableWays$Kind$14"].getD k ""
def am_Kd (G : am_G) (U : State) (H : Heap) (k : Nat) : Prop := va_Z "TableWays$Kind" (am_kn k) "LTableWays$Kind;" (.ref (am_ad G (6, k))) (am_A G) U H ∧ va_O (am_kc k) (am_ad G (6, k)) (am_A G) U H ∧ va_OF "TableWays$Kind" "first" "I" (.int (am_kf k 0)) (am_ad G (6, k)) (am_A G) U H ∧ va_OF "TableWays$Kind" "second" "I" (.int (am_kf k 1)) (am_ad G (6, k)) (am_A G) U H
def am_St (G : am_G) (U : State) (H : Heap) (n : Nat) : Prop := vk_R (am_sx n).1 (am_sx n).2.1 (am_sx n).2.2 (am_ad G (7, n)) U ∧ va_O "java/lang/String" (am_ad G (7, n)) (am_A G) U H ∧ va_OF "java/lang/String" "coder" "B" (.int 0) (am_ad G (7, n)) (am_A G) U H ∧ va_OF "java/lang/String" "value" "[B" (.ref (am_ad G (9, n))) (am_ad G (7, n)) (am_A G) U H ∧ va_T .byte (am_ad G (9, n)) (am_sb n).length (fun j => .int (nI ((am_sb n).getD j 0))) (am_A G) U H
def am_Ls (G : am_G) (U : State) (H : Heap) : Prop := va_Z "TableWaysModel" "LISTED" "[J" (.ref (am_ad G (8, 0))) (am_A G) U H ∧ va_T .long (am_ad G (8, 0)) 6 (fun j => .long (am_ls j)) (am_A G) U H
/-- what the JDK hands on to its check of an index -/
def am_Fm (G : am_G) (U : State) (H : Heap) : Prop := ∃ v : Value, va_Z "jdk/internal/util/Preconditions" "SIOOBE_FORMATTER" "Ljava/util/function/BiFunction;" v (am_A G) U H ∧ (v = .null ∨ ∃ b, v = .ref b)
def am_Cs (G : am_G) (U : State) (H : Heap) : Prop := (∀ k, 1 ≤ k → k ≤ 14 → am_Kd G U H k) ∧ (∀ n, n < 20 → am_St G U H n) ∧ am_Ls G U H ∧ va_Z "java/lang/String" "COMPACT_STRINGS" "Z" (.int 1) (am_A G) U H ∧ am_Fm G U H
/-- words that don't ride in the lists -/
def am_Nw (U : State) : Prop := (∀ x ∈ am_nm, va_Nw (.methodLinkNest x.1 x.2.1 x.2.2.1 x.2.2.2) U) ∧ va_Nw (.fieldLinkNest "TableWays" 232 "TableWays$Wrong" "kind" "I" "TableWays") U ∧ va_Nw (.fieldLinkNest "TableWays" 235 "TableWays$Wrong" "place" "I" "TableWays") U ∧ va_Nw (.declares ⟨"TableWays$Kind", "of", "(LTableWays$Table;IILTableWays$Table;)Z"⟩) U ∧ va_Nw (.castable "TableWays$Wrong" "TableWays$Wrong") U ∧ va_Nw (.castable "TableWaysModel$Stop" "TableWaysModel$Stop") U
def am_U (G : am_G) (σ : am_S) (U : State) : Prop := va_P (am_D G) am_cl (am_w G σ) U.heap ∧ va_K (am_D G) am_cl (am_tys G) U ∧ va_D (am_A G) (am_w G σ) ∧ am_Cs G U U.heap ∧ am_Nw U
theorem am_Nw.warm {s U : State} (hW : s.WarmedH U.vm) (h : am_Nw s) : am_Nw U := ⟨fun x hx => (h.1 x hx).warmM hW, h.2.1.warmF hW, h.2.2.1.warmF hW, h.2.2.2.1.warmD hW, h.2.2.2.2.1.warmC hW, h.2.2.2.2.2.warmC hW⟩
theorem am_Nw.same {s U : State} (hv : s.vm = U.vm) (h : am_Nw s) : am_Nw U := ⟨fun x hx => (h.1 x hx).same rfl hv, h.2.1.same rfl hv, h.2.2.1.same rfl hv, h.2.2.2.1.same rfl hv, h.2.2.2.2.1.same rfl hv, h.2.2.2.2.2.same rfl hv⟩
theorem am_Cs.warm {G : am_G} {s U : State} {H : Heap} (hW : s.WarmedH U.vm) (h : am_Cs G s H) : am_Cs G U H := by
  have ha := hW.alike
  refine ⟨fun k h1 h2 => ?_, fun n hn => ?_, ⟨h.2.2.1.1.moved ha, h.2.2.1.2.moved ha⟩, h.2.2.2.1.moved ha, h.2.2.2.2.elim fun v hv => ⟨v, hv.1.moved ha, hv.2⟩⟩
  · obtain ⟨a, b, c, d⟩ := h.1 k h1 h2
    exact ⟨a.moved ha, b.moved ha, c.moved ha, d.moved ha⟩
  · obtain ⟨a, b, c, d, e⟩ := h.2.1 n hn
    exact ⟨a.warm hW, b.moved ha, c.moved ha, d.moved ha, e.moved ha⟩
theorem am_Cs.same {G : am_G} {s U : State} {H : Heap} (hv : U.vm = s.vm) (h : am_Cs G s H) : am_Cs G U H := by
  have ha : s.vm.Alike U.vm := by rw [hv]; exact Vm.Alike.refl _
  refine ⟨fun k h1 h2 => ?_, fun n hn => ?_, ⟨h.2.2.1.1.moved ha, h.2.2.1.2.moved ha⟩, h.2.2.2.1.moved ha, h.2.2.2.2.elim fun v hv => ⟨v, hv.1.moved ha, hv.2⟩⟩
  · obtain ⟨a, b, c, d⟩ := h.1 k h1 h2
    exact ⟨a.moved ha, b.moved ha, c.moved ha, d.moved ha⟩
  · obtain ⟨a, b, c, d, e⟩ := h.2.1 n hn
    exact ⟨a.same hv, b.moved ha, c.moved ha, d.moved ha, e.moved ha⟩
theorem am_Cs.kept {G : am_G} {U : State} {H H1 : Heap} (h : am_Cs G U H) (hq : ∀ a : Nat, a < H.size → ¬ am_A G a → H1[a]? = H[a]?) : am_Cs G U H1 := by
  refine ⟨fun k h1 h2 => ?_, fun n hn => ?_, ⟨h.2.2.1.1.kept hq, h.2.2.1.2.kept hq⟩, h.2.2.2.1.kept hq, h.2.2.2.2.elim fun v hv => ⟨v, hv.1.kept hq, hv.2⟩⟩
  · obtain ⟨a, b, c, d⟩ := h.1 k h1 h2
    exact ⟨a.kept hq, b.kept hq, c.kept hq, d.kept hq⟩
  · obtain ⟨a, b, c, d, e⟩ := h.2.1 n hn
    exact ⟨a, b.kept hq, c.kept hq, d.kept hq, e.kept hq⟩
theorem am_U.calling {G : am_G} {σ : am_S} {U : State} (g : JFrame) (mk : MethodId) (a : Array Value) (h : am_U G σ U) : am_U G σ (U.calling g mk a) := by
  obtain ⟨h1, h2, h3, h4, h5⟩ := h
  exact ⟨h1, va_K.moved (u := U) (U := U.calling g mk a) (Vm.Alike.refl U.vm) h2, h3, am_Cs.same (s := U) rfl h4, am_Nw.same (s := U) rfl h5⟩
