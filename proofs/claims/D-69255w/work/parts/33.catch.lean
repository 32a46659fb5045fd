/-! SOUNDNESS, 10: an exception comes back to a method with one entry in its table, which covers the call: it goes on at the handler; the entry's class may be resolved there first -/
section Ct
variable {e : Env} {s : State} {f : JFrame} {a : Addr}
theorem ct_find {meth : Method} {code : Code} (hm : s.vm.method? f.method = some meth) (hc : meth.code = some code) {x : ExceptionTableEntry} (ht : code.exceptionTable.toList = [x]) (hx : covers x f.pc = true) (h0 : x.catchType ≠ 0) {k : ClassId} {cell : Cell}
    (hl : s.vm.ClassLinks e.platform f.method.cls x.catchType k) (hcell : s.heap[a]? = some cell) (hobj : ∀ z, cell.vm ≠ .statics z) (h1 : ∃ z, s.vm.classes[cell.cls]? = some z) (h2 : ∃ z, s.vm.classes[k]? = some z) (hfit : s.vm.assignable cell.cls k = true)
    (Q : Handler → Pre) (E : CtlPost) (d : Bool) (acts : List Action) : wp (findHandler f a) Q E e d acts s ↔ Q (.found x.handlerPc) d acts (s.setVm (s.vm.noted f.method.cls x.catchType (.cls k))) := by
  rw [W.findHandler_eq hm hc, ht]
  have hal : s.vm.Alike (s.vm.noted f.method.cls x.catchType (.cls k)) := (Vm.Alike.refl s.vm).noted _ _ _
  obtain ⟨r1, r2⟩ := (resolveClass_links e.toSetting hl).op (op := VmOp.resolveClass f.method.cls x.catchType) rfl
  obtain ⟨z1, hz1⟩ := h1
  obtain ⟨z2, hz2⟩ := h2
  obtain ⟨y1, hy1, -⟩ := hal.2.2 _ _ hz1
  obtain ⟨y2, hy2, -⟩ := hal.2.2 _ _ hz2
  have hfit2 : (s.vm.noted f.method.cls x.catchType (.cls k)).assignable cell.cls k = true := by rw [hal.assignable]; exact hfit
  simp only [covers] at hx
  simp [findHandler.go, hx, h0, r1, r2, hcell, hobj, hy1, hy2, hfit2, VmOp.dirties, VmOp.acts]
theorem ct_step {r : List Frame} {pc : Nat} {vm' : Vm} (h : ∀ (Q : Handler → Pre) (E : CtlPost) (d : Bool) (acts : List Action), wp (findHandler f a) Q E e d acts s ↔ Q (.found pc) d acts (s.setVm vm')) :
    (stepThrowing e s a (.java f :: r)).Is ((s.setVm vm').setFrames (.java { f with pc := pc, stack := [.ref a] } :: r)) [] := by
  simp only [stepThrowing, searchFrame, vmDo]
  generalize hr : Sem.go _ e false [] s = rr
  obtain ⟨as, rfl, ha⟩ := Sem.eq_ok_of hr (a := Handler.found pc) (s' := s.setVm vm') (acts' := []) (by simp [h _ _ _ _])
  exact ⟨rfl, ha⟩
end Ct
theorem ct_walk {p : Program} {l : Launch} {e : Env} {R : Room} {s : State} {m : MethodId} {args : Array Value} {below : List Frame} {meth : Method} {c : Code} {T : State} {locs : List Loc} {cells slots : Nat} (X : Stand p l e R s m args below meth c T locs cells slots) {a : Addr} {g : JFrame} (hg : g.method = m)
    {own name : String} (hown : s.vm.findClass own = some m.cls) {x : ExceptionTableEntry} (ht : c.exceptionTable.toList = [x]) (hx : covers x g.pc = true) (h0 : x.catchType ≠ 0) (hlink : (Cond.classLink own x.catchType name).before args s = true)
    {k : ClassId} {cell : Cell} (hk : s.vm.findClass name = some k) (hcell : T.heap[a]? = some cell) (hobj : cell.vm.isStatics = false) (hfit : s.vm.assignable cell.cls k = true) :
    ∃ vm', Stand p l e R s m args below meth c (T.setVm vm') locs cells slots ∧ ∀ target, Steps p.tables e below ((T.setVm vm').setTop { g with pc := x.handlerPc, stack := [.ref a] }) target → Steps p.tables e below ((T.setTop g).pushFrame (.throwing a)) target := by
  have hpl : e.platform.magicAccessors = ({} : Platform).magicAccessors := by rw [X.admits.platform]
  obtain ⟨k', hk', hcl⟩ := Cond.classLink_spec hown hlink e.platform hpl
  cases hk.symm.trans hk'
  obtain ⟨dk, _, _, kt, hd, _, _, _, _, hkt, _, hopen⟩ := hcl.here
  have hcl2 := X.warmed.classLinks hcl
  have hal := X.warmed.alike
  obtain ⟨kt', hkt', -⟩ := hal.2.2 _ _ hkt
  have hfit2 : T.vm.assignable cell.cls k = true := by rw [hal.assignable]; exact hfit
  refine ⟨_, X.noted (X.warmed.noted hd hopen (State.rightAt_cls hcl)), fun target hrest => ?_⟩
  subst hg
  obtain ⟨hgo, hw⟩ := X.here.throwing a
  refine Steps.head hgo hw ?_
  have hf := ct_find (e := e) (s := (T.setTop g).pushFrame (.throwing a)) (f := g) (a := a) (meth := meth) (code := c) X.method' X.code ht hx h0 (k := k) (cell := cell) hcl2 hcell (VmData.ne_statics_of hobj) (Vm.classAt_of_assignable hfit2 ⟨kt', hkt'⟩) ⟨kt', hkt'⟩ hfit2
  rw [stepThread_throwing (frames_entered X.here.top _), (ct_step hf).1]
  obtain ⟨g₀, hg₀⟩ := X.frames_eq
  have hr' : (T.setVm (T.vm.noted g.method.cls x.catchType (.cls k))).frames = .java g₀ :: below := hg₀
  rw [State.setTop_of_frames _ hr'] at hrest
  rw [hg₀, List.tail_cons, State.pushFrame, State.setTop_of_frames _ hg₀]
  have e1 : ∀ (u : State) (vm' : Vm) (F Gs : List Frame), ((u.setFrames F).setVm vm').setFrames Gs = (u.setVm vm').setFrames Gs := by
    intro u vm' F Gs
    show ((u.setVm vm').setFrames F).setFrames Gs = _
    rw [State.setFrames_setFrames]
  rw [e1, e1]
  exact hrest
