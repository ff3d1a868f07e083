/-! CONTRACTS of the small machine, and calls (they return, or throw) -/
def am_room (d : Nat) : Room := { frames := d, cells := 0, slots := 0, locals := 100 * d }
def am_Pc (G : am_G) (a : List am_V) (σ : am_S) : Array Value → State → Prop := fun v U => v = (a.map (am_ev G)).toArray ∧ (∀ x ∈ a, am_ok x) ∧ am_U G σ U
def am_Qc (G : am_G) (k : am_O → am_S → Prop) : Array Value → State → Outcome → State → Prop := fun _ st oc t => (∃ (o : am_O) (σ' : am_S), oc = am_oc G o ∧ am_oo o ∧ k o σ' ∧ am_U G σ' t) ∧ va_F (am_A G) st t ∧ st.WarmedH t.vm ∧ ∃ L : List Loc, st.sameButNew ({ t with vm := st.vm } : State) L 0 0 ∧ ∀ q ∈ L, am_A G q.base
/-- a contract applies: as appliesLoose, but nothing is asked of the class's initialisation (a kind of step's own class isn't said to be initialised) -/
def am_ap (S : Spec) (x : MethodName) (pl : Platform) (s : State) (m : MethodId) (args : Array Value) (below : List Frame) : Prop := s.status = .running ∧ s.curStatus? = some .runnable ∧ s.alone = true ∧ s.methodNamed? x = some m ∧ s.hears m below = true ∧ s.hasRoom pl S.room = true ∧ S.pre.before args s = true
def am_MF (l : Launch) (x : MethodName) (S : Spec) (P : Array Value → State → Prop) (Q : Array Value → State → Outcome → State → Prop) : Prop :=
  ∀ (p : Program) e, l.admits e → FairCas e.choices → FairClock e.choices → ∀ s m args below,
    s.frames = .invoking m args :: below → am_ap S x e.platform s m args below → P args s →
    ∃ n o, (∀ k, k < n → Within (stepsAlone p.tables e k s) below) ∧ (stepsAlone p.tables e n s).status = .running ∧ Ended (stepsAlone p.tables e n s) below o ∧ Q args s o (stepsAlone p.tables e n s)
theorem am_MF.of_free {l : Launch} {x : MethodName} {S : Spec} {P : Array Value → State → Prop} {Q : Array Value → State → Outcome → State → Prop} (h : MetFree l x S P (fun _ _ _ _ _ => True) Q) (hr : ∀ args (s : State) m, S.pre.before args s = true → s.methodNamed? x = some m → s.classRipe m = true) : am_MF l x S P Q := by
  intro p e ha hc hk s m args below hf ⟨h1, h2, h3, h4, h5, h6, h7⟩ hP
  exact h p e ha hc hk s m args below hf ((Spec.appliesLoose_iff hf).mpr ⟨h1, h2, h3, h4, h5, hr args s m h7 h4, h6, h7⟩) hP trivial
theorem am_MF.call {l : Launch} {x : MethodName} {S : Spec} {P : Array Value → State → Prop} {Q : Array Value → State → Outcome → State → Prop} {e : Env} (hM : am_MF l x S P Q) (p : Program) (ha : l.admits e) (hc : FairCas e.choices) (hk : FairClock e.choices)
    {s : State} {m : MethodId} {args : Array Value} {acts : List Action} {mid below : List Frame} (hlt : s.cur < s.threads.size)
    (hfr : s.frames = mid ++ below) (happ : am_ap S x e.platform (s.pushFrame (.invoking m args)) m args s.frames) (hP : P args (s.pushFrame (.invoking m args))) :
    ∃ o s₂, Steps p.tables e below (doInvoke e s acts m args).1 s₂ ∧ s₂.status = .running ∧ Ended s₂ s.frames o ∧ Q args (s.pushFrame (.invoking m args)) o s₂ := by
  have ht : s.threads[s.cur]? = some s.threads[s.cur] := Array.getElem?_eq_getElem hlt
  have hf' : (s.pushFrame (.invoking m args)).frames = .invoking m args :: s.frames := State.frames_setFrames _ hlt
  obtain ⟨hrun, hable, halone, -⟩ := id happ
  have hgo : (s.pushFrame (.invoking m args)).goesOn := ⟨hrun, hable, halone⟩
  obtain ⟨n, o, hw, hr, he, hp⟩ := hM p e ha hc hk (s.pushFrame (.invoking m args)) m args s.frames hf' happ hP
  have hstep : (stepThread p.tables e (s.pushFrame (.invoking m args))).1 = (doInvoke e s acts m args).1 := by
    rw [stepThread_invoking hf', doInvoke_state e s acts, State.pushFrame, State.setFrames_setFrames, State.setFrames_self ht]
  cases n with
  | zero => exact absurd ⟨[.invoking m args], hf', by simp, by simp⟩ he.not_within
  | succ k =>
    rw [stepsAlone_succ _ hgo, hstep] at hr he hp
    refine ⟨o, _, ⟨k, rfl, fun j hj => ?_⟩, hr, he, hp⟩
    have := hw (j + 1) (by omega)
    rw [stepsAlone_succ _ hgo, hstep, hfr] at this
    exact this.weaken
/-- method y (its code word cw) meets sp with d frames -/
def am_Met (l : Launch) (y : MethodName) (cw : Cond) (d maxL : Nat) (sp : am_T) : Prop := ∀ (G : am_G) (a : List am_V) (σ : am_S) (k : am_O → am_S → Prop), sp a σ k → (am_args a).length ≤ maxL → am_MF l y (headSpec (cw :: lw_all) (am_room d)) (am_Pc G a σ) (am_Qc G k)
/-- what a code word says -/
def am_cw (y : MethodName) (cw : Cond) (maxL : Nat) : Prop := ∀ (a : Array Value) (U : State), cw.before a U = true → ∃ (mk : MethodId) (methY : Method) (cY : Code), U.methodNamed? y = some mk ∧ U.vm.method? mk = some methY ∧ methY.code = some cY ∧ cY.maxLocals = maxL ∧ parseMethodDescriptor y.desc = some methY.sig
theorem am_cw_code (y : MethodName) (b : ByteArray) (maxL : Nat) (r : Option FieldType) : am_cw y (.code y b maxL r) maxL := by
  intro a U h
  obtain ⟨mk, hn⟩ := Cond.code_named h
  obtain ⟨methY, cY, h1, h2, -, h4, -, -, -, h8⟩ := Cond.code_spec hn h
  exact ⟨mk, methY, cY, hn, h1, h2, h4, h8⟩
theorem am_cw_with (y : MethodName) (b : ByteArray) (maxL : Nat) (r : Option FieldType) (hh : List (Nat × Nat × Nat × Nat)) : am_cw y (.codeWith y b maxL r hh) maxL := by
  intro a U h
  obtain ⟨mk, methY, cY, hn, h1, h2, -, h4, -, -, -, h8⟩ := Cond.codeWith_spec h
  exact ⟨mk, methY, cY, hn, h1, h2, h4, h8⟩
theorem am_U.same {G : am_G} {σ : am_S} {s U : State} (hh : U.heap = s.heap) (hv : U.vm = s.vm) (h : am_U G σ s) : am_U G σ U := by
  obtain ⟨h1, h2, h3, h4, h5⟩ := h
  exact ⟨by rw [hh]; exact h1, va_K.moved (u := s) (U := U) (by rw [hv]; exact Vm.Alike.refl _) h2, h3, by rw [hh]; exact am_Cs.same hv h4, am_Nw.same hv.symm h5⟩
section AMC
variable {p : Program} {l : Launch} {e : Env} {R : Room} {s : State} {m : MethodId} {args : Array Value} {below : List Frame} {meth : Method} {c : Code} {locs : List Loc} {cells slots : Nat}
theorem am_back0 {y : MethodName} {cw : Cond} {d maxL : Nat} {P : Array Value → State → Prop} {G : am_G} {k : am_O → am_S → Prop} (hM : am_MF l y (headSpec (cw :: lw_all) (am_room d)) P (am_Qc G k)) (hcw : am_cw y cw maxL) (hws : ∀ w ∈ cw :: lw_all, ∀ (a' : Array Value) (U : State), s.WarmedH U.vm → w.before a' U = true) (hfr : d + 1 ≤ R.frames) (hlo : 8 + (maxL + 11) + 100 * d ≤ R.locals)
    {vals : List Value} {U : State} (X : Stand p l e R s m args below meth c U locs cells slots) {g : JFrame} (hg : g.method = m) (hsize : g.locals.size = c.maxLocals) {ig : Instr} (hdg : decode c.code g.pc = .ok (ig, 3)) (hW : 2 * g.monitorRoom + (g.stack.map fun v => v.category).sum ≤ 8) {mk : MethodId} (hn : U.methodNamed? y = some mk) (hP : P vals.toArray (U.calling g mk vals.toArray)) (hc0 : cells ≤ R.cells) (hs0 : slots ≤ R.slots) :
    ∃ (o : am_O) (σ' : am_S) (B : State) (L : List Loc), am_oo o ∧ k o σ' ∧ am_U G σ' B ∧ va_F (am_A G) U B ∧ Stand p l e R s m args below meth c B (locs ++ L) cells slots ∧ (∀ q ∈ L, am_A G q.base) ∧
      (∀ v, o = .inl v → Steps p.tables e below (doInvoke e (U.setTop g) [] mk vals.toArray).1 (B.setTop { g with pc := g.pc + 3, stack := (v.map (am_ev G)).toList ++ g.stack })) ∧
      (∀ q, o = .inr q → Steps p.tables e below (doInvoke e (U.setTop g) [] mk vals.toArray).1 ((B.setTop g).pushFrame (.throwing (am_ad G q)))) := by
  obtain ⟨mk', methY, cY, hn', hmY, hcY, hlY, -⟩ := hcw vals.toArray U (hws _ List.mem_cons_self _ _ X.warmed)
  cases hn.symm.trans hn'
  have h : At U g.method c below := by rw [hg]; exact X.here
  have hcode : (U.calling g mk vals.toArray).code? g.method = some c := by
    have := h.code
    rw [State.code?_eq] at this ⊢
    simpa [State.calling, State.pushFrame, State.setFrames] using this
  obtain ⟨mid, hmid⟩ := h.above
  have hfr2 : (U.setTop g).frames = (.java g :: mid) ++ below := by rw [State.frames_setTop' g h.top, hmid]; rfl
  have hhears : (U.calling g mk vals.toArray).hears mk (.java g :: U.frames.tail) = true := by
    simp [State.hears, hcode, hdg, Except.toOption]
  have happ : am_ap (headSpec (cw :: lw_all) (am_room d)) y e.platform (U.calling g mk vals.toArray) mk vals.toArray (U.setTop g).frames := by
    refine ⟨h.running, by simpa [State.calling] using h.runnable, by simpa [State.calling] using h.alone, hn, ?_, X.room_calling (g := g) (R' := am_room d) hsize hmY hcY hfr (by rw [hlY]; show _ + (100 * d) ≤ _; omega) (by show cells + 0 ≤ _; omega) (by show slots + 0 ≤ _; omega), ?_⟩
    · rw [State.frames_setTop' g h.top]
      exact hhears
    · rw [State.calling_eq h.top, Cond.before_setFrames]
      exact atoms_intro fun w hw => hws w hw _ _ X.warmed
  obtain ⟨oc, s₂, hsteps, -, hend, hq⟩ := hM.call p X.admits X.cas X.clock (acts := []) (m := mk) (args := vals.toArray) (State.cur_lt_of_frames hfr2) hfr2 happ hP
  rw [State.frames_setTop' g h.top] at hend
  obtain ⟨⟨o, σ', hoc, hoo, hk, hU2⟩, hF, hW₂, L, hsb, hL⟩ := hq
  obtain ⟨e2, q2, q3, q4, q5, q6⟩ := id hsb
  have hW' : U.WarmedH s₂.vm := hW₂
  have e3 : s₂ = ({ (U.calling g mk vals.toArray).setFrames s₂.frames with heap := s₂.heap, slotsUsed := s₂.slotsUsed } : State).setVm s₂.vm := by
    have : s₂ = ({ s₂ with vm := (U.calling g mk vals.toArray).vm } : State).setVm s₂.vm := rfl
    have e2' : ({ s₂ with vm := (U.calling g mk vals.toArray).vm } : State) = ({ (U.calling g mk vals.toArray).setFrames s₂.frames with heap := s₂.heap, slotsUsed := s₂.slotsUsed } : State) := e2
    rw [e2'] at this
    exact this
  obtain ⟨g₀, hg0⟩ := Option.isSome_iff_exists.mp h.top
  obtain ⟨r, hr⟩ := State.topJava?_eq_some.mp hg0
  have hr' : (({ U with heap := s₂.heap, slotsUsed := s₂.slotsUsed } : State).setVm s₂.vm).frames = .java g₀ :: r := hr
  have hsame : U.sameButNew ({ U with heap := s₂.heap, slotsUsed := s₂.slotsUsed } : State) L 0 0 := by
    refine ⟨?_, q2, q3, q4, q5, q6⟩
    obtain ⟨t, ht, -⟩ := State.frames_cons hr
    show ({ U with heap := s₂.heap, slotsUsed := s₂.slotsUsed } : State) = { U.setFrames U.frames with heap := s₂.heap, slotsUsed := s₂.slotsUsed }
    rw [State.setFrames_self ht]
  subst hg
  refine ⟨o, σ', (({ U with heap := s₂.heap, slotsUsed := s₂.slotsUsed } : State).setVm s₂.vm), L, hoo, hk, am_U.same (s := s₂) rfl rfl hU2, hF,
    ⟨X.admits, X.cas, X.clock, X.frames, X.room, X.hears, X.method, X.code, (X.here.setHeapUsed s₂.heap s₂.slotsUsed).setVm hW'.alike, X.tail, State.WarmedH.trans X.warmed hW', X.limits, X.bytes, X.same.trans (hsame.setVm s.vm)⟩, hL, ?_, ?_⟩
  · intro v hv
    subst hv
    subst hoc
    obtain ⟨c₂, i₂, len₂, hc₂, hd₂, hf₂⟩ := hend
    have hcc : c₂ = c := by
      have h1 : s₂.code? g.method = U.code? g.method := by
        rw [State.code?_eq, State.code?_eq, hW'.alike.method?]
      exact Option.some.inj (hc₂.symm.trans (h1.trans h.code))
    subst hcc
    have hlen : len₂ = 3 := by rw [hdg] at hd₂; cases hd₂; rfl
    subst hlen
    have hs₂ : s₂ = (({ U with heap := s₂.heap, slotsUsed := s₂.slotsUsed } : State).setVm s₂.vm).setTop { g with pc := g.pc + 3, stack := (v.map (am_ev G)).toList ++ g.stack } := by
      refine e3.trans ?_
      rw [hf₂, State.calling_eq h.top, State.setFrames_setFrames, State.setTop_of_frames _ hr', hr]
      rfl
    rw [← hs₂]
    exact hsteps
  · intro q hv
    subst hv
    subst hoc
    have hf₂ : s₂.frames = .throwing (am_ad G q) :: .java g :: U.frames.tail := hend
    have hs₂ : s₂ = ((({ U with heap := s₂.heap, slotsUsed := s₂.slotsUsed } : State).setVm s₂.vm).setTop g).pushFrame (.throwing (am_ad G q)) := by
      refine e3.trans ?_
      have hr2 : U.frames = .java g₀ :: r := hr
      rw [hf₂, State.calling_eq h.top, State.setFrames_setFrames, State.pushFrame, State.setTop_of_frames _ hr', State.setFrames_setFrames]
      rw [State.frames_setFrames _ (State.cur_lt_of_frames hr'), hr2]
      rfl
    rw [← hs₂]
    exact hsteps
theorem am_back {y : MethodName} {cw : Cond} {d maxL : Nat} {sp : am_T} (hM : am_Met l y cw d maxL sp) (hcw : am_cw y cw maxL) (hws : ∀ w ∈ cw :: lw_all, ∀ (a' : Array Value) (U : State), s.WarmedH U.vm → w.before a' U = true) (hfr : d + 1 ≤ R.frames) (hlo : 8 + (maxL + 11) + 100 * d ≤ R.locals)
    {G : am_G} {a : List am_V} {σ : am_S} {k : am_O → am_S → Prop} (hsp : sp a σ k) (hal : (am_args a).length ≤ maxL) {U : State} (X : Stand p l e R s m args below meth c U locs cells slots) {g : JFrame} (hg : g.method = m) (hsize : g.locals.size = c.maxLocals) {ig : Instr} (hdg : decode c.code g.pc = .ok (ig, 3)) (hW : 2 * g.monitorRoom + (g.stack.map fun v => v.category).sum ≤ 8) {mk : MethodId} (hn : U.methodNamed? y = some mk) (hav : ∀ x ∈ a, am_ok x) (hU : am_U G σ U) (hc0 : cells ≤ R.cells) (hs0 : slots ≤ R.slots) :
    ∃ (o : am_O) (σ' : am_S) (B : State) (L : List Loc), am_oo o ∧ k o σ' ∧ am_U G σ' B ∧ va_F (am_A G) U B ∧ Stand p l e R s m args below meth c B (locs ++ L) cells slots ∧ (∀ q ∈ L, am_A G q.base) ∧
      (∀ v, o = .inl v → Steps p.tables e below (doInvoke e (U.setTop g) [] mk (a.map (am_ev G)).toArray).1 (B.setTop { g with pc := g.pc + 3, stack := (v.map (am_ev G)).toList ++ g.stack })) ∧
      (∀ q, o = .inr q → Steps p.tables e below (doInvoke e (U.setTop g) [] mk (a.map (am_ev G)).toArray).1 ((B.setTop g).pushFrame (.throwing (am_ad G q)))) :=
  am_back0 (hM G a σ k hsp hal) hcw hws hfr hlo X hg hsize hdg hW hn ⟨rfl, hav, hU.calling g mk _⟩ hc0 hs0
/-- the calling instruction itself: the machine stands at the callee's entry -/
def am_IS (p : Program) (l : Launch) (e : Env) (R : Room) (s : State) (m : MethodId) (args : Array Value) (below : List Frame) (meth : Method) (c : Code) (locs : List Loc) (cells slots : Nat) (T : State) (g : JFrame) (rest : List Value) (y : MethodName) (vals : List Value) : Prop :=
  ∃ (vm₁ : Vm) (mk : MethodId), Stand p l e R s m args below meth c (T.setVm vm₁) locs cells slots ∧ (T.setVm vm₁).methodNamed? y = some mk ∧ ∀ target, Steps p.tables e below (doInvoke e ((T.setVm vm₁).setTop { g with stack := rest }) [] mk vals.toArray).1 target → Steps p.tables e below (T.setTop g) target
theorem am_isS {T : State} (X : Stand p l e R s m args below meth c T locs cells slots) (hexec : p.tables.exec = Jvm.exec) {own : String} {index : Nat} {y : MethodName} {cw : Cond} {maxL : Nat} (hcw : am_cw y cw maxL) (hcode : cw.before args s = true)
    (hown : s.vm.findClass own = some m.cls) (hlink : (Cond.methodLink own index y).before args s = true) (hstat : (Cond.static y).before args s = true) (hinit : (Cond.initialized y.cls).before args s = true)
    (hy : y.cls ≠ "java/lang/invoke/MethodHandle" ∧ y.cls ≠ "java/lang/invoke/VarHandle") {g : JFrame} (hg : g.method = m) {As rest : List Value} (hlen : ∀ sig, parseMethodDescriptor y.desc = some sig → As.length = sig.parameters.length)
    (hstack : g.stack = As.reverse ++ rest) (hdg : decode c.code g.pc = .ok (.invokestatic index, 3)) : am_IS p l e R s m args below meth c locs cells slots T g rest y As := by
  obtain ⟨mk, methM, cM, hnamed, hmethM, -, -, hsigM⟩ := hcw args s hcode
  have hstatic : methM.isStatic = true := Cond.static_spec hnamed hmethM hstat
  obtain ⟨kP, hkP, -⟩ := className_of_methodNamed hnamed
  have hinitP : kP.init = .initialized := Cond.initialized_spec (findClass_of_methodNamed hnamed) hkP hinit
  obtain ⟨vm₁, X₁, hstep₁⟩ := X.invokestatic hexec hown hlink hnamed hmethM hstatic hkP hinitP hy (g := g) hg (argsL := As) (rest := rest) (hlen _ hsigM) hstack hdg
  exact ⟨vm₁, mk, X₁, X₁.named hnamed, fun target h => hstep₁ _ fun acts => by rw [doInvoke_state]; exact h⟩
theorem am_isSN {T : State} (X : Stand p l e R s m args below meth c T locs cells slots) (hexec : p.tables.exec = Jvm.exec) {own host : String} {index : Nat} {y : MethodName} {cw : Cond} {maxL : Nat} (hcw : am_cw y cw maxL) (hcode : cw.before args s = true)
    (hown : s.vm.findClass own = some m.cls) (hlink : (Cond.methodLinkNest own index y host).before args s = true) (hstat : (Cond.static y).before args s = true) (hinit : (Cond.initialized y.cls).before args s = true)
    (hy : y.cls ≠ "java/lang/invoke/MethodHandle" ∧ y.cls ≠ "java/lang/invoke/VarHandle") {g : JFrame} (hg : g.method = m) {As rest : List Value} (hlen : ∀ sig, parseMethodDescriptor y.desc = some sig → As.length = sig.parameters.length)
    (hstack : g.stack = As.reverse ++ rest) (hdg : decode c.code g.pc = .ok (.invokestatic index, 3)) : am_IS p l e R s m args below meth c locs cells slots T g rest y As := by
  obtain ⟨mk, methM, cM, hnamed, hmethM, -, -, hsigM⟩ := hcw args s hcode
  have hstatic : methM.isStatic = true := Cond.static_spec hnamed hmethM hstat
  obtain ⟨kP, hkP, -⟩ := className_of_methodNamed hnamed
  have hinitP : kP.init = .initialized := Cond.initialized_spec (findClass_of_methodNamed hnamed) hkP hinit
  obtain ⟨vm₁, X₁, hstep₁⟩ := X.invokestaticNest hexec hown hlink hnamed hmethM hstatic hkP hinitP hy (g := g) hg (argsL := As) (rest := rest) (hlen _ hsigM) hstack hdg
  exact ⟨vm₁, mk, X₁, X₁.named hnamed, fun target h => hstep₁ _ fun acts => by rw [doInvoke_state]; exact h⟩
theorem am_isV {T : State} (X : Stand p l e R s m args below meth c T locs cells slots) (hexec : p.tables.exec = Jvm.exec) {own C : String} {index : Nat} {y : MethodName} {cw : Cond} {maxL : Nat} (hcw : am_cw y cw maxL) (hcode : cw.before args s = true)
    (hown : s.vm.findClass own = some m.cls) (hlink : (Cond.methodLink own index y).before args s = true) (hinst : (Cond.instanceMethod y).before args s = true) (hsel : (Cond.selects C y y).before args s = true)
    (hy : y.cls ≠ "java/lang/invoke/MethodHandle" ∧ y.cls ≠ "java/lang/invoke/VarHandle") {b : Addr} {cellB : Cell} (hcell : T.heap[b]? = some cellB) (hobj : cellB.vm.isStatics = false) (hcls : s.vm.findClass C = some cellB.cls)
    {g : JFrame} (hg : g.method = m) {As rest : List Value} (hlen : ∀ sig, parseMethodDescriptor y.desc = some sig → As.length = sig.parameters.length)
    (hstack : g.stack = As.reverse ++ .ref b :: rest) (hdg : decode c.code g.pc = .ok (.invokevirtual index, 3)) : am_IS p l e R s m args below meth c locs cells slots T g rest y (.ref b :: As) := by
  obtain ⟨mk, methM, hnamed, hmethM, hstM, habM⟩ := Cond.instanceMethod_spec hinst
  obtain ⟨mk', methM', cM, hnamed', hmethM', -, -, hsigM⟩ := hcw args s hcode
  cases hnamed.symm.trans hnamed'
  cases hmethM.symm.trans hmethM'
  obtain ⟨c2, r2, m2, q1, q2, q3, q4, kP, hkP, hkPi⟩ := Cond.selects_spec hsel
  cases hcls.symm.trans q1
  cases (State.methodFound?_of_named hnamed hy).symm.trans q2
  cases hnamed.symm.trans q3
  have hselP : selectMethod e.platform s.vm cellB.cls mk = .method mk := by rw [Launch.admits_selectMethod X.admits]; exact q4
  obtain ⟨vm₁, X₁, hstep₁⟩ := X.invokevirtual hexec hown hlink hnamed hmethM hstM hkP hkPi hy (a := b) (cell := cellB) hcell
    (fun z h => by rw [h] at hobj; cases hobj) hselP hmethM habM hkP hkPi (g := g) hg (argsL := As) (rest := rest) (hlen _ hsigM) hstack hdg
  exact ⟨vm₁, mk, X₁, X₁.named hnamed, fun target h => hstep₁ _ fun acts => by rw [doInvoke_state]; exact h⟩
theorem am_isU {T : State} (X : Stand p l e R s m args below meth c T locs cells slots) (hexec : p.tables.exec = Jvm.exec) {own C owner : String} {index : Nat} {x y : MethodName}
    (hown : s.vm.findClass own = some m.cls) (hlink : (Cond.methodLink own index x).before args s = true) (hsame : (Cond.sameMethod x.cls owner x.name x.desc).before args s = true)
    (hd0 : va_Decl s ⟨owner, x.name, x.desc⟩) (howner : owner ≠ "java/lang/invoke/MethodHandle" ∧ owner ≠ "java/lang/invoke/VarHandle")
    (hsel : (Cond.selects C x y).before args s = true) (hinst : (Cond.instanceMethod y).before args s = true)
    {b : Addr} {cellB : Cell} (hcell : T.heap[b]? = some cellB) (hobj : cellB.vm.isStatics = false) (hcls : s.vm.findClass C = some cellB.cls)
    {g : JFrame} (hg : g.method = m) {As rest : List Value} (hlen : ∀ sig, parseMethodDescriptor x.desc = some sig → As.length = sig.parameters.length)
    (hstack : g.stack = As.reverse ++ .ref b :: rest) (hdg : decode c.code g.pc = .ok (.invokevirtual index, 3)) : am_IS p l e R s m args below meth c locs cells slots T g rest y (.ref b :: As) := by
  obtain ⟨r0, r, hn, hrm, hstR, hsigR⟩ := hd0
  obtain ⟨cn, ck, r1, hcn, hck, hni, hf, hn1⟩ := Cond.sameMethod_found hsame
  cases hn.symm.trans hn1
  obtain ⟨mk, methM, hnamed, hmethM, -, habM⟩ := Cond.instanceMethod_spec hinst
  obtain ⟨c2, r2, m2, q1, q2, q3, q4, kP, hkP, hkPi⟩ := Cond.selects_spec hsel
  cases hcls.symm.trans q1
  cases hf.symm.trans q2
  cases hnamed.symm.trans q3
  have hselP : selectMethod e.platform s.vm cellB.cls r0 = .method mk := by rw [Launch.admits_selectMethod X.admits]; exact q4
  obtain ⟨vm₁, X₁, hstep₁⟩ := X.invokevirtualUp hexec hown hlink hsame howner hn hrm hstR (a := b) (cell := cellB) hcell
    (fun z h => by rw [h] at hobj; cases hobj) hselP hmethM habM hkP hkPi (g := g) hg (argsL := As) (rest := rest) (hlen _ hsigR) hstack hdg
  exact ⟨vm₁, mk, X₁, X₁.named hnamed, fun target h => hstep₁ _ fun acts => by rw [doInvoke_state]; exact h⟩
end AMC
