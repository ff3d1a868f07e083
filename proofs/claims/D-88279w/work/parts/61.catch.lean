/-! soundness: an exception that is caught, the class of the catch perhaps not yet resolved -/
theorem am_ct_f {e : Env} {s : State} {a : Addr} {f : JFrame} {meth : Method} {code : Code} {x : ExceptionTableEntry} {c : ClassId} {cell : Cell} {vm' : Vm} (hm : s.vm.method? f.method = some meth) (hc : meth.code = some code) (ht : code.exceptionTable.toList = [x]) (hx : covers x f.pc = true) (h0 : x.catchType ≠ 0) (hg : (resolveClass f.method.cls x.catchType).Gives e.toSetting s.vm (.ok c) vm') (hsz : vm'.classes.size ≤ s.vm.classes.size) (hcell : s.heap[a]? = some cell) (hobj : ∀ k, cell.vm ≠ .statics k) (hk : ∃ k, vm'.classes[cell.cls]? = some k) (hcl : ∃ k, vm'.classes[c]? = some k) (hfit : vm'.assignable cell.cls c = true) : ∀ (Q : Handler → Pre) (E : CtlPost) (d : Bool) (acts : List Action), Sem.wp (findHandler f a) Q E e d acts s ↔ Q (.found x.handlerPc) d acts (s.setVm vm') := by
  simp only [covers] at hx
  obtain ⟨k1, hk⟩ := hk
  obtain ⟨k2, hcl⟩ := hcl
  obtain ⟨ha, htb⟩ := hg.op (op := VmOp.resolveClass f.method.cls x.catchType) rfl
  intro Q E d acts
  rw [W.findHandler_eq hm hc, ht]
  simp [findHandler.go, hx, h0, ha, htb, hsz, hcell, hobj, hk, hcl, hfit, VmOp.dirties, VmOp.acts]
theorem am_ct_step {e : Env} {s : State} {a : Addr} {f : JFrame} {r : List Frame} {meth : Method} {code : Code} {x : ExceptionTableEntry} {c : ClassId} {cell : Cell} {vm' : Vm} (hm : s.vm.method? f.method = some meth) (hc : meth.code = some code) (ht : code.exceptionTable.toList = [x]) (hx : covers x f.pc = true) (h0 : x.catchType ≠ 0) (hg : (resolveClass f.method.cls x.catchType).Gives e.toSetting s.vm (.ok c) vm') (hsz : vm'.classes.size ≤ s.vm.classes.size) (hcell : s.heap[a]? = some cell) (hobj : ∀ k, cell.vm ≠ .statics k) (hk : ∃ k, vm'.classes[cell.cls]? = some k) (hcl : ∃ k, vm'.classes[c]? = some k) (hfit : vm'.assignable cell.cls c = true) : (stepThrowing e s a (.java f :: r)).Is ((s.setVm vm').setFrames (.java { f with pc := x.handlerPc, stack := [.ref a] } :: r)) [] := by
  have hf := am_ct_f hm hc ht hx h0 hg hsz hcell hobj hk hcl hfit
  simp only [stepThrowing, searchFrame, vmDo]
  generalize hr : Sem.go _ e false [] s = res
  obtain ⟨as, rfl, ha⟩ := Sem.eq_ok_of hr (a := Handler.found x.handlerPc) (s' := s.setVm vm') (acts' := []) (by simp [hf _ _ _ _])
  exact ⟨rfl, ha⟩
theorem am_svf (u : State) (vm' : Vm) (F G : List Frame) : ((u.setFrames F).setVm vm').setFrames G = (u.setVm vm').setFrames G := by
  show ((u.setVm vm').setFrames F).setFrames G = _
  rw [State.setFrames_setFrames]
theorem am_caught {p : Program} {l : Launch} {e : Env} {R : Room} {s : State} {m : MethodId} {args : Array Value} {below : List Frame} {meth : Method} {c : Code} {T : State} {locs : List Loc} {cells slots : Nat} (X : Stand p l e R s m args below meth c T locs cells slots) (a : Addr) {g : JFrame} (hg : g.method = m) {cell : Cell} (hcell : T.heap[a]? = some cell) (hobj : cell.vm.isStatics = false) {x : ExceptionTableEntry} (ht : c.exceptionTable.toList = [x]) (hx : covers x g.pc = true) (h0 : x.catchType ≠ 0) {own name : String} (hown : s.vm.findClass own = some m.cls) (hlink : (Cond.classLink own x.catchType name).before args s = true) {cT : ClassId} (hcT : s.vm.findClass name = some cT) (hfit : s.vm.assignable cell.cls cT = true) :
    ∃ vm', Stand p l e R s m args below meth c (T.setVm vm') locs cells slots ∧ ∀ target, Steps p.tables e below ((T.setVm vm').setTop { g with pc := x.handlerPc, stack := [.ref a] }) target → Steps p.tables e below ((T.setTop g).pushFrame (.throwing a)) target := by
  subst hg
  have hpl : e.platform.magicAccessors = ({} : Platform).magicAccessors := by rw [X.admits.platform]
  obtain ⟨c', hc', hcl⟩ := Cond.classLink_spec hown hlink e.platform hpl
  cases hcT.symm.trans hc'
  obtain ⟨dk, _, _, kt, hd, _, _, _, _, hkt, _, hopen⟩ := hcl.here
  have hk0 : ∃ k, s.vm.classes[cell.cls]? = some k := Vm.classAt_of_assignable hfit ⟨kt, hkt⟩
  have hW := X.warmed.noted hd hopen (State.rightAt_cls hcl)
  obtain ⟨k0, hk0⟩ := hk0
  obtain ⟨k0', hk0', -⟩ := hW.alike.2.2 _ _ hk0
  obtain ⟨kt', hkt', -⟩ := hW.alike.2.2 _ _ hkt
  refine ⟨_, X.noted hW, fun target hrest => ?_⟩
  have h := X.here
  obtain ⟨hgo, hw⟩ := h.throwing a
  refine Steps.head hgo hw ?_
  rw [stepThread_throwing (frames_entered h.top _), (am_ct_step (s := (T.setTop g).pushFrame (.throwing a)) (meth := meth) (code := c) (x := x) (c := cT) (cell := cell) X.method' X.code ht hx h0 (resolveClass_links e.toSetting (X.warmed.classLinks hcl)) (by show (T.vm.noted g.method.cls x.catchType (.cls cT)).classes.size ≤ T.vm.classes.size; rw [Vm.size_noted]; exact Nat.le_refl _) hcell (VmData.ne_statics_of hobj) ⟨k0', hk0'⟩ ⟨kt', hkt'⟩ (by show (T.vm.noted g.method.cls x.catchType (.cls cT)).assignable cell.cls cT = true; rw [hW.alike.assignable]; exact hfit)).1]
  obtain ⟨g₀, hg⟩ := Option.isSome_iff_exists.mp h.top
  obtain ⟨r, hr⟩ := State.topJava?_eq_some.mp hg
  have hr' : (T.setVm (T.vm.noted g.method.cls x.catchType (.cls cT))).frames = .java g₀ :: r := hr
  rw [State.setTop_of_frames _ hr'] at hrest
  rw [hr, List.tail_cons, State.pushFrame, am_svf, State.setTop_of_frames _ hr, am_svf]
  exact hrest
section AMH
variable {p : Program} {l : Launch} {e : Env} {R : Room} {s : State} {m : MethodId} {args : Array Value} {below : List Frame} {meth : Method} {c : Code} {G : am_G} {nL : Nat} {k : am_O → am_S → Prop}
variable {cc : ByteArray} {own : String} {ret : Option FieldType} {d : Nat}
theorem am_TH_one (F : am_Fx p R s m args meth c cc nL own ret G d) {x : ExceptionTableEntry} (ht : c.exceptionTable.toList = [x]) {t : Nat} (htt : t < 6) (h0 : x.catchType ≠ 0) (hpc : x.handlerPc < 1000) (hl : Cond.classLink own x.catchType (am_R t) ∈ lw_all) (hcast : va_Nw (.castable (am_R t) (am_R t)) s) : am_TH p l e R s m args below meth c G nL k [(x.startPc, x.endPc, 1000 * t + x.handlerPc)] := by
  obtain ⟨hx, hb, hml, hown, hts, hlk, hrt, hR, hK, -, hC, hN⟩ := id F
  intro pc q σ ls arr rst T locs hq h2 h3 hP hS hlv X h
  by_cases hcov : covers x pc = true
  · have hcv : (decide (x.startPc ≤ pc) && decide (pc < x.endPc)) = true := hcov
    unfold am_thr at h
    simp only [List.find?_cons, hcv] at h
    obtain ⟨hqq, hj⟩ := h
    have e1 : (1000 * t + x.handlerPc) / 1000 = t := by omega
    have e2 : (1000 * t + x.handlerPc) % 1000 = x.handlerPc := by omega
    rw [e1] at hqq
    rw [e2] at hj
    subst hqq
    obtain ⟨n, -, hn2⟩ := am_at (q := (t, 0)) G σ (am_vq_ob hq htt)
    rw [am_E0 (q := (t, 0)) G σ htt] at hn2
    obtain ⟨cell, c1, c2, c3⟩ := va_recv hK hP (am_cl_at t htt) hn2
    obtain ⟨ca, cb, w1, w2, w3⟩ := Cond.castable_spec hcast
    cases w1.symm.trans w2
    cases w1.symm.trans c3
    obtain ⟨vm', XV, st⟩ := am_caught X (am_ad G (t, 0)) (g := F0 m pc arr rst) rfl c1 c2 ht hcov h0 hown (hts _ hl) c3 w3
    obtain ⟨u, g1, g2⟩ := hj (fun v hv => by cases List.mem_singleton.mp hv; exact hq) h2 h3 T.heap locs arr hP hS hlv (T.setVm vm') rfl XV
    exact ⟨u, st _ g1, g2⟩
  · have hcv : (decide (x.startPc ≤ pc) && decide (pc < x.endPc)) = false := by simpa using hcov
    unfold am_thr at h
    simp only [List.find?_cons, hcv, List.find?_nil] at h
    have hout : ∀ y ∈ c.exceptionTable.toList, covers y pc = false := by
      intro y hy
      rw [ht] at hy
      cases List.mem_singleton.mp hy
      simpa using hcov
    obtain ⟨h5, h6, h7, h8, h9⟩ := X.leaveThrown (am_ad G q) (g := F0 m pc arr rst) rfl rfl rfl hout hlk
    exact ⟨_, h5, .threw (am_ad G q), h6, h7, ⟨.inr q, σ, rfl, hq, h, F.U hP hS rfl h8⟩, hS.F rfl, h8, locs, h9, hS.2.2⟩
end AMH
/-- A METHOD's CONTRACT, with one catch -/
theorem am_soundH {l : Launch} {y : MethodName} {cc : ByteArray} {maxL d : Nat} {ret : Option FieldType} {cs : List am_T} {bl : List (Nat × List am_I)} {sp : am_T} {ha hz hp ct t : Nat} (hy : plainFor y = true) (htt : t < 6) (hct : ct ≠ 0) (hpc : hp < 1000) (hl : Cond.classLink y.cls ct (am_R t) ∈ lw_all) (hcast : ∀ s, am_Nw s → va_Nw (.castable (am_R t) (am_R t)) s) (hok : am_Ok cs [(ha, hz, 1000 * t + hp)] bl maxL sp) (hb : (bl.all fun q => am_blk cc y.cls ret maxL q.2 q.1) = true) (hw : ∀ q ∈ bl, ∀ z ∈ q.2, am_wd l y.cls d cs z.1 z.2.2) : am_Met l y (.codeWith y cc maxL ret [(ha, hz, hp, ct)]) d maxL sp := by
  intro G a σ k hsp hal
  refine am_body (code := cc) (maxLocals := maxL) (ret := ret) hy ?_ ?_
  · intro args s m h hn
    obtain ⟨m', meth, c, h0, h1, h2, h3, h4, h5, h6, h7, -⟩ := Cond.codeWith_spec (atoms_spec (ws := Cond.codeWith y cc maxL ret [(ha, hz, hp, ct)] :: lw_all) h _ List.mem_cons_self)
    cases hn.symm.trans h0
    exact ⟨meth, c, h1, h2, h3, h4, h6, h7⟩
  · intro p e s m args below meth c s₁ X hexec hbytes hret hlocks hstate hnamed hpre hml hP
    obtain ⟨rfl, hav, hU⟩ := hP
    have hh0 : s₁.heap = s.heap := by rw [hstate]; rfl
    have hts0 := atoms_spec (ws := Cond.codeWith y cc maxL ret [(ha, hz, hp, ct)] :: lw_all) hpre
    have hcode := hts0 _ List.mem_cons_self
    have hts : ∀ w ∈ lw_all, w.before _ s = true := fun w h => hts0 w (List.mem_cons_of_mem _ h)
    have F : am_Fx p (am_room d) s m (a.map (am_ev G)).toArray meth c cc maxL y.cls ret G d := ⟨hexec, hbytes, hml, findClass_of_methodNamed hnamed, hts, hlocks, hret, rfl, hU.2.1, ⟨σ, hU.2.2.1⟩, hU.2.2.2.1, hU.2.2.2.2⟩
    have hnh : ∃ x, c.exceptionTable.toList = [x] ∧ x.startPc = ha ∧ x.endPc = hz ∧ x.handlerPc = hp ∧ x.catchType = ct := by
      obtain ⟨m', meth', c', h0, h1, h2, -, -, h7, -⟩ := Cond.codeWith_spec hcode
      cases hnamed.symm.trans h0
      cases X.method.symm.trans h1
      cases X.code.symm.trans h2
      cases hq : c.exceptionTable.toList with
      | nil => rw [hq] at h7; cases h7
      | cons x r =>
        rw [hq] at h7
        cases r with
        | nil =>
          simp only [List.map_cons, List.map_nil, List.cons.injEq, Prod.mk.injEq, and_true] at h7
          exact ⟨x, rfl, h7.1, h7.2.1, h7.2.2.1, h7.2.2.2⟩
        | cons x' r' => cases h7
    obtain ⟨x, hx1, rfl, rfl, rfl, rfl⟩ := hnh
    have hth : am_TH p l e (am_room d) s m (a.map (am_ev G)).toArray below meth c G maxL k [(x.startPc, x.endPc, 1000 * t + x.handlerPc)] := am_TH_one F hx1 htt hct hpc hl (hcast s hU.2.2.2.2)
    have hK := hok a σ k hsp (am_K p l e (am_room d) s m (a.map (am_ev G)).toArray below meth c G maxL k) (fun q hq σ ls st h => am_run_ok F hth q.2 q.1 σ ls st (List.all_eq_true.mp hb q hq) (hw q hq) h)
    have hWW := hK (fun v h => by cases h) (am_ent_ok hav) (am_ent_len hal) s.heap [] _ hU.1 va_S.rf (am_entry G hal)
    rw [← hh0] at hWW
    have hWW2 : W p l e (am_room d) s m (a.map (am_ev G)).toArray below meth c s₁.heap [] 0 0 (am_Z below G k (a.map (am_ev G)).toArray s) (entryFrame m (a.map (am_ev G)).toArray maxL) := by
      rw [lg_entry_eq]
      exact hWW
    obtain ⟨t, a1, o, b1, b2, b3⟩ := hWW2 s₁ rfl X
    exact ⟨t, o, a1, b1, b2, b3⟩
