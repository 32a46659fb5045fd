/-! SOUNDNESS, 12: from the words to the callee -/
set_option maxRecDepth 100000
/-- what is known of a method by its words -/
def Mf (s : State) (x : Nat) (mk : MethodId) (methk : Method) (ck : Code) : Prop :=
  s.methodNamed? (mnm x) = some mk ∧ s.vm.method? mk = some methk ∧ methk.code = some ck ∧ ck.code = mby x ∧ ck.maxLocals = mxl x ∧ methk.sig.returnType = mrt x ∧ methk.locks = false ∧ ck.exceptionTable.toList.map (fun h => (h.startPc, h.endPc, h.handlerPc, h.catchType)) = mht x ∧ parseMethodDescriptor (mds x) = some methk.sig
def cdo (x : Nat) : Bool := (cdk.any (fun y => Nat.beq y x) && (mht x).isEmpty) || cwk.any (fun q => Nat.beq q.1 x && decide (q.2 = mht x))
theorem any_nat {l : List Nat} {x : Nat} (h : l.any (fun y => Nat.beq y x) = true) : x ∈ l := by
  obtain ⟨y, h1, h2⟩ := List.any_eq_true.mp h
  rw [← Nat.eq_of_beq_eq_true h2]; exact h1
theorem mf_of {s : State} (h : Wds s) {x : Nat} (hx : cdo x = true) : ∃ mk methk ck, Mf s x mk methk ck := by
  rcases Bool.or_eq_true_iff.mp hx with hx | hx
  · obtain ⟨h1, h2⟩ := Bool.and_eq_true_iff.mp hx
    have hw := h.w (cdk_ok x (any_nat h1)) #[]
    obtain ⟨mk, hn⟩ := Cond.code_named hw
    obtain ⟨methk, ck, a1, a2, a3, a4, a5, a6, a7, a8⟩ := Cond.code_spec hn hw
    refine ⟨mk, methk, ck, hn, a1, a2, a3, a4, a5, a6, ?_, a8⟩
    have e1 : ck.exceptionTable = #[] := by simpa using a7
    have e2 : mht x = [] := by simpa using h2
    rw [e1, e2]; rfl
  · obtain ⟨q, h1, h2⟩ := List.any_eq_true.mp hx
    obtain ⟨h3, h4⟩ := Bool.and_eq_true_iff.mp h2
    have h3 := Nat.eq_of_beq_eq_true h3
    have h4 := of_decide_eq_true h4
    have hw := h.w (cwk_ok q h1) #[]
    rw [h3, h4] at hw
    obtain ⟨mk, methk, ck, a1, a2, a3, a4, a5, a6, a7, a8, a9⟩ := Cond.codeWith_spec hw
    exact ⟨mk, methk, ck, a1, a2, a3, a4, a5, a7, a8, a6, a9⟩
def dlo (x n : Nat) : Bool := match parseMethodDescriptor (mds x) with
  | some sig => Nat.beq sig.parameters.length n
  | none => false
theorem dlo_sp {x n : Nat} (h : dlo x n = true) {sig : _} (hs : parseMethodDescriptor (mds x) = some sig) : n = sig.parameters.length := by
  unfold dlo at h
  rw [hs] at h
  exact (Nat.eq_of_beq_eq_true h).symm
def nmo (x : Nat) : Bool := decide (cn (own x) ≠ "java/lang/invoke/MethodHandle" ∧ cn (own x) ≠ "java/lang/invoke/VarHandle")
def rco (x : Nat) : Bool := match prm x with
  | [] => false
  | t :: r => Nat.ble 10 t && (Nat.blt t 60 && dlo x r.length)
def slo (k x : Nat) : Bool := slk.any (fun q => Nat.beq q.1 k && (Nat.beq q.2.1 x && Nat.beq q.2.2 x))
/-- every method has the words of its kind -/
def mck (x : Nat) : Bool := match mkd x with
  | 0 => cdo x && (nmo x && (smk.any (fun y => Nat.beq y x) && (ink.any (fun y => Nat.beq y (own x)) && dlo x (prm x).length)))
  | 1 => cdo x && (nmo x && (imk.any (fun y => Nat.beq y x) && (rco x && (decide (mnn x = "<init>") && decide (mrt x = none) && (mht x).isEmpty && cdk.any (fun y => Nat.beq y x)))))
  | 2 => cdo x && (nmo x && (imk.any (fun y => Nat.beq y x) && (rco x && kl.all (fun k => !(sb ((prm x).headD 0) k) || slo k x))))
  | 3 => cdo x && (nmo x && (imk.any (fun y => Nat.beq y x) && rco x))
  | _ => Nat.beq x 466
theorem mck_all : ∀ x, x < 467 → mck x = true := by decide +kernel
section Links
variable {G : va_G} {aC : Nat → ClassId} {p : Program} {l : Launch} {e : Env} {R : Room} {s : State} {m : MethodId} {args : Array Value} {below : List Frame} {meth : Method} {c : Code} {mi : Nat} {T : State} {locs : List Loc} {cells slots pc idx x : Nat} {ls : Array Slot} {mk : MethodId} {methk : Method} {ck : Code}
/-- the machine goes into the callee -/
def Lnk (p : Program) (l : Launch) (e : Env) (R : Room) (s : State) (m : MethodId) (args : Array Value) (below : List Frame) (meth : Method) (c : Code) (T : State) (locs : List Loc) (cells slots pc : Nat) (ls : Array Slot) (vs rest : List Value) (mk : MethodId) (va : List Value) : Prop :=
  ∃ vm1, Stand p l e R s m args below meth c (T.setVm vm1) locs cells slots ∧ ∀ target, (∀ acts, Steps p.tables e below (doInvoke e ((T.setVm vm1).setTop (F0 m pc ls rest)) acts mk va.toArray).1 target) → Steps p.tables e below (T.setTop (F0 m pc ls vs)) target
theorem nmo_sp {x : Nat} (h : nmo x = true) : (mnm x).cls ≠ "java/lang/invoke/MethodHandle" ∧ (mnm x).cls ≠ "java/lang/invoke/VarHandle" := of_decide_eq_true h
theorem mck0 (hx : x < 467) (h : mkd x = 0) : cdo x = true ∧ nmo x = true ∧ x ∈ smk ∧ own x ∈ ink ∧ dlo x (prm x).length = true := by
  have := mck_all x hx
  unfold mck at this
  rw [h] at this
  simp only [Bool.and_eq_true] at this
  exact ⟨this.1, this.2.1, any_nat this.2.2.1, any_nat this.2.2.2.1, this.2.2.2.2⟩
theorem mck1 (hx : x < 467) (h : mkd x = 1) : cdo x = true ∧ nmo x = true ∧ x ∈ imk ∧ rco x = true ∧ mnn x = "<init>" ∧ mrt x = none ∧ mht x = [] ∧ x ∈ cdk := by
  have := mck_all x hx
  unfold mck at this
  rw [h] at this
  simp only [Bool.and_eq_true, decide_eq_true_eq] at this
  exact ⟨this.1, this.2.1, any_nat this.2.2.1, this.2.2.2.1, this.2.2.2.2.1.1.1, this.2.2.2.2.1.1.2, by simpa using this.2.2.2.2.1.2, any_nat this.2.2.2.2.2⟩
theorem mck2 (hx : x < 467) (h : mkd x = 2) : cdo x = true ∧ nmo x = true ∧ x ∈ imk ∧ rco x = true ∧ ∀ k ∈ kl, sb ((prm x).headD 0) k = true → (k, x, x) ∈ slk := by
  have := mck_all x hx
  unfold mck at this
  rw [h] at this
  simp only [Bool.and_eq_true] at this
  refine ⟨this.1, this.2.1, any_nat this.2.2.1, this.2.2.2.1, fun k hk hs => ?_⟩
  have h5 := List.all_eq_true.mp this.2.2.2.2 k hk
  rw [hs] at h5
  obtain ⟨q, h6, h7⟩ := List.any_eq_true.mp (show slo k x = true from h5)
  simp only [Bool.and_eq_true] at h7
  rw [← Nat.eq_of_beq_eq_true h7.1, show x = q.2.1 from (Nat.eq_of_beq_eq_true h7.2.1).symm]
  rw [show q.2.1 = q.2.2 from (Nat.eq_of_beq_eq_true h7.2.1).trans (Nat.eq_of_beq_eq_true h7.2.2).symm]
  have : q = (q.1, q.2.2, q.2.2) := by
    obtain ⟨a, b, c⟩ := q
    have e1 := Nat.eq_of_beq_eq_true h7.2.1
    have e2 := Nat.eq_of_beq_eq_true h7.2.2
    simp only at e1 e2
    rw [e1, e2]
  rw [← this]; exact h6
theorem mckI (hx : x < 467) (h : mkd x = 1 ∨ mkd x = 2 ∨ mkd x = 3) : cdo x = true ∧ nmo x = true ∧ x ∈ imk ∧ rco x = true := by
  rcases h with h | h | h
  · obtain ⟨h1, h2, h3, h4, -⟩ := mck1 hx h; exact ⟨h1, h2, h3, h4⟩
  · obtain ⟨h1, h2, h3, h4, -⟩ := mck2 hx h; exact ⟨h1, h2, h3, h4⟩
  · have := mck_all x hx
    unfold mck at this
    rw [h] at this
    simp only [Bool.and_eq_true] at this
    exact ⟨this.1, this.2.1, any_nat this.2.2.1, this.2.2.2⟩
theorem rco_sp (h : rco x = true) : ∃ t r, prm x = t :: r ∧ 10 ≤ t ∧ t < 60 ∧ dlo x r.length = true := by
  unfold rco at h
  cases hp : prm x with
  | nil => rw [hp] at h; cases h
  | cons t r =>
    rw [hp] at h
    simp only [Bool.and_eq_true] at h
    exact ⟨t, r, rfl, Nat.ble_eq.mp h.1, Nat.blt_eq.mp h.2.1, h.2.2⟩
theorem lk_static (C : Cx G aC p s m meth c mi) (X : Stand p l e R s m args below meth c T locs cells slots) (hf : Mf s x mk methk ck) (hx : x < 467) (h0 : mkd x = 0) (hl : (own mi, idx, x) ∈ mlk ∨ ∃ h, (own mi, idx, x, h) ∈ mnk)
    {va rest : List Value} (hlen : va.length = (prm x).length) (hd : decode (mby mi) pc = .ok (.invokestatic idx, 3)) : Lnk p l e R s m args below meth c T locs cells slots pc ls (va.reverse ++ rest) rest mk va := by
  obtain ⟨a1, a2, a3, a4, a5⟩ := mck0 hx h0
  obtain ⟨f1, f2, f3, f4, f5, f6, f7, f8, f9⟩ := hf
  have hst : methk.isStatic = true := Cond.static_spec f1 f2 (C.ws.w (smk_ok x a3) args)
  obtain ⟨kP, hkP, -⟩ := className_of_methodNamed f1
  have hin : kP.init = .initialized := Cond.initialized_spec (findClass_of_methodNamed f1) hkP (C.ws.w (ink_ok _ a4) args)
  have hdg : decode c.code (F0 m pc ls (va.reverse ++ rest)).pc = .ok (.invokestatic idx, 3) := by rw [C.2.1]; exact hd
  rcases hl with hl | ⟨h, hl⟩
  · exact X.invokestatic C.1 C.own (C.ws.w (mlk_ok _ hl) args) f1 f2 hst hkP hin (nmo_sp a2) (g := F0 m pc ls (va.reverse ++ rest)) rfl (argsL := va) (rest := rest) (hlen.trans (dlo_sp a5 f9)) rfl hdg
  · exact X.invokestaticNest C.1 C.own (va_Nw.use (w := Cond.methodLinkNest (cn (own mi)) idx (mnm x) (cn h)) rfl (C.ws.2.2.1 (own mi, idx, x, h) hl)) f1 f2 hst hkP hin (nmo_sp a2) (g := F0 m pc ls (va.reverse ++ rest)) rfl (argsL := va) (rest := rest) (hlen.trans (dlo_sp a5 f9)) rfl hdg
theorem lk_init (C : Cx G aC p s m meth c mi) (X : Stand p l e R s m args below meth c T locs cells slots) (hf : Mf s x mk methk ck) (hx : x < 467) (h0 : mkd x = 1) (hl : (own mi, idx, x) ∈ mlk ∨ ∃ h, (own mi, idx, x, h) ∈ mnk)
    {va rest : List Value} {a : Addr} (hlen : va.length + 1 = (prm x).length) (hd : decode (mby mi) pc = .ok (.invokespecial idx, 3)) : Lnk p l e R s m args below meth c T locs cells slots pc ls (va.reverse ++ .ref a :: rest) rest mk (.ref a :: va) := by
  obtain ⟨a1, a2, a3, a4, a5, a6, a7, a8⟩ := mck1 hx h0
  obtain ⟨f1, f2, f3, f4, f5, f6, f7, f8, f9⟩ := hf
  obtain ⟨t, r, r1, -, -, r4⟩ := rco_sp a4
  have hl2 : ∀ sig, parseMethodDescriptor (mnm x).desc = some sig → va.length = sig.parameters.length := fun sig h => by
    have := dlo_sp r4 h
    rw [r1] at hlen
    simp only [List.length_cons] at hlen
    omega
  have hdg : decode c.code (F0 m pc ls (va.reverse ++ .ref a :: rest)).pc = .ok (.invokespecial idx, 3) := by rw [C.2.1]; exact hd
  have hpl : e.platform.magicAccessors = ({} : Platform).magicAccessors := by rw [X.admits.platform]
  have hcd : (Cond.code (mnm x) (mby x) (mxl x) none).before args s = true := by
    have := C.ws.w (cdk_ok x a8) args
    rw [a6] at this
    exact this
  rcases hl with hl | ⟨h, hl⟩
  · obtain ⟨mk', _, _, _, vm1, g1, -, -, -, -, -, -, -, g2, g3⟩ := Steps.initColdArgs (e := e) X.here C.1 X.warmed hpl C.own a5 (nmo_sp a2) (C.ws.w (mlk_ok _ hl) args) (C.ws.w (imk_ok x a3) args) hcd (f := F0 m pc ls (va.reverse ++ .ref a :: rest)) rfl (argsL := va) (rest := rest) (a := a) hl2 rfl hdg
    cases f1.symm.trans g1
    exact ⟨vm1, X.noted g2, g3⟩
  · obtain ⟨mk', _, _, _, vm1, g1, -, -, -, -, -, -, -, g2, g3⟩ := Steps.initColdArgsNest (e := e) X.here C.1 X.warmed hpl C.own a5 (nmo_sp a2) (va_Nw.use (w := Cond.methodLinkNest (cn (own mi)) idx (mnm x) (cn h)) rfl (C.ws.2.2.1 (own mi, idx, x, h) hl)) (C.ws.w (imk_ok x a3) args) hcd (f := F0 m pc ls (va.reverse ++ .ref a :: rest)) rfl (argsL := va) (rest := rest) (a := a) hl2 rfl hdg
    cases f1.symm.trans g1
    exact ⟨vm1, X.noted g2, g3⟩
/-- a receiver: an object of the heap of kind k -/
def Rcv (s : State) (H : Heap) (k : Nat) (a : Addr) : Prop := ∃ cell : Cell, H[a]? = some cell ∧ cell.vm.isStatics = false ∧ s.vm.findClass (cn k) = some cell.cls
theorem lk_virt (C : Cx G aC p s m meth c mi) (X : Stand p l e R s m args below meth c T locs cells slots) (hf : Mf s x mk methk ck) (hx : x < 467) (h0 : mkd x = 2) (hl : (own mi, idx, x) ∈ mlk ∨ ∃ h, (own mi, idx, x, h) ∈ mnk)
    {va rest : List Value} {a : Addr} {k : Nat} (hk : k ∈ kl) (hks : sb ((prm x).headD 0) k = true) (hr : Rcv s T.heap k a) (hlen : va.length + 1 = (prm x).length) (hd : decode (mby mi) pc = .ok (.invokevirtual idx, 3)) : Lnk p l e R s m args below meth c T locs cells slots pc ls (va.reverse ++ .ref a :: rest) rest mk (.ref a :: va) := by
  obtain ⟨a1, a2, a3, a4, a5⟩ := mck2 hx h0
  have hsl := a5 k hk hks
  obtain ⟨f1, f2, f3, f4, f5, f6, f7, f8, f9⟩ := hf
  obtain ⟨t, r, r1, -, -, r4⟩ := rco_sp a4
  have hl2 : va.length = methk.sig.parameters.length := by
    have := dlo_sp r4 f9
    rw [r1] at hlen
    simp only [List.length_cons] at hlen
    omega
  have hdg : decode c.code (F0 m pc ls (va.reverse ++ .ref a :: rest)).pc = .ok (.invokevirtual idx, 3) := by rw [C.2.1]; exact hd
  obtain ⟨cell, c1, c2, c3⟩ := hr
  obtain ⟨mk', methM, hnamed, hmethM, hstM, habM⟩ := Cond.instanceMethod_spec (C.ws.w (imk_ok x a3) args)
  cases f1.symm.trans hnamed
  cases f2.symm.trans hmethM
  obtain ⟨c4, r2, m2, q1, q2, q3, q4, kP, hkP, hkPi⟩ := Cond.selects_spec (C.ws.w (slk_ok _ hsl) args)
  cases c3.symm.trans q1
  cases (State.methodFound?_of_named f1 (nmo_sp a2)).symm.trans q2
  cases f1.symm.trans q3
  have hselP : selectMethod e.platform s.vm cell.cls mk = .method mk := by rw [Launch.admits_selectMethod X.admits]; exact q4
  rcases hl with hl | ⟨h, hl⟩
  · exact X.invokevirtual C.1 C.own (C.ws.w (mlk_ok _ hl) args) f1 f2 hstM hkP hkPi (nmo_sp a2) (a := a) (cell := cell) c1 (fun z h => by rw [h] at c2; cases c2) hselP f2 habM hkP hkPi (g := F0 m pc ls (va.reverse ++ .ref a :: rest)) rfl (argsL := va) (rest := rest) hl2 rfl hdg
  · exact X.invokevirtualNest C.1 C.own (va_Nw.use (w := Cond.methodLinkNest (cn (own mi)) idx (mnm x) (cn h)) rfl (C.ws.2.2.1 (own mi, idx, x, h) hl)) f1 f2 hstM hkP hkPi (nmo_sp a2) (a := a) (cell := cell) c1 (fun z h => by rw [h] at c2; cases c2) hselP f2 habM hkP hkPi (g := F0 m pc ls (va.reverse ++ .ref a :: rest)) rfl (argsL := va) (rest := rest) hl2 rfl hdg
/-- spelled by a class that inherits it -/
theorem lk_up (C : Cx G aC p s m meth c mi) (X : Stand p l e R s m args below meth c T locs cells slots) (hf : Mf s x mk methk ck) (hx : x < 467) (h0 : mkd x = 2 ∨ mkd x = 3) {D : Nat} (hl : (own mi, idx, D, x) ∈ ulk)
    {va rest : List Value} {a : Addr} {k : Nat} (hks : (k, D, x) ∈ usk) (hr : Rcv s T.heap k a) (hlen : va.length + 1 = (prm x).length) (hd : decode (mby mi) pc = .ok (.invokevirtual idx, 3)) : Lnk p l e R s m args below meth c T locs cells slots pc ls (va.reverse ++ .ref a :: rest) rest mk (.ref a :: va) := by
  obtain ⟨a1, a2, a3, a4⟩ := mckI hx (Or.inr h0)
  obtain ⟨f1, f2, f3, f4, f5, f6, f7, f8, f9⟩ := hf
  obtain ⟨t, r, r1, -, -, r4⟩ := rco_sp a4
  have hl2 : va.length = methk.sig.parameters.length := by
    have := dlo_sp r4 f9
    rw [r1] at hlen
    simp only [List.length_cons] at hlen
    omega
  have hdg : decode c.code (F0 m pc ls (va.reverse ++ .ref a :: rest)).pc = .ok (.invokevirtual idx, 3) := by rw [C.2.1]; exact hd
  obtain ⟨cell, c1, c2, c3⟩ := hr
  obtain ⟨w1, w2⟩ := ulk_ok _ hl
  have hsame := C.ws.w w2 args
  obtain ⟨mk', methM, hnamed, hmethM, hstM, habM⟩ := Cond.instanceMethod_spec (C.ws.w (imk_ok x a3) args)
  cases f1.symm.trans hnamed
  cases f2.symm.trans hmethM
  obtain ⟨cn', ck', r1', hcn, hck, hni, hfo, hn1⟩ := Cond.sameMethod_found hsame
  cases f1.symm.trans hn1
  obtain ⟨c4, r2, m2, q1, q2, q3, q4, kP, hkP, hkPi⟩ := Cond.selects_spec (C.ws.w (usk_ok _ hks) args)
  cases c3.symm.trans q1
  cases hfo.symm.trans q2
  cases f1.symm.trans q3
  have hselP : selectMethod e.platform s.vm cell.cls mk = .method mk := by rw [Launch.admits_selectMethod X.admits]; exact q4
  exact X.invokevirtualUp C.1 C.own (owner := cn (own x)) (C.ws.w w1 args) hsame (nmo_sp a2) f1 f2 hstM (a := a) (cell := cell) c1 (fun z h => by rw [h] at c2; cases c2) hselP f2 habM hkP hkPi (g := F0 m pc ls (va.reverse ++ .ref a :: rest)) rfl (argsL := va) (rest := rest) hl2 rfl hdg
theorem dsm_all : ∀ j, j < 10 → Cond.sameMethod (dnm j).cls (dnm j).cls (dnm j).name (dnm j).desc ∈ lw_all := by
  intro j hj
  match j, hj with
  | 0, _ => exact dsm_0
  | 1, _ => exact dsm_1
  | 2, _ => exact dsm_2
  | 3, _ => exact dsm_3
  | 4, _ => exact dsm_4
  | 5, _ => exact dsm_5
  | 6, _ => exact dsm_6
  | 7, _ => exact dsm_7
  | 8, _ => exact dsm_8
  | 9, _ => exact dsm_9
theorem dnm_no : ∀ j, j < 10 → (dnm j).cls ≠ "java/lang/invoke/MethodHandle" ∧ (dnm j).cls ≠ "java/lang/invoke/VarHandle" := by decide +kernel
/-- called by the object's kind -/
theorem lk_dyn (C : Cx G aC p s m meth c mi) (X : Stand p l e R s m args below meth c T locs cells slots) (hf : Mf s x mk methk ck) (hx : x < 467) (h0 : mkd x = 2 ∨ mkd x = 3) {j : Nat} (hj : j < 10) (hl : (own mi, idx, j) ∈ dlk) (hds : (dnm j).desc = mds x)
    {va rest : List Value} {a : Addr} {k : Nat} (hks : (k, j, x) ∈ dsk) (hr : Rcv s T.heap k a) (hlen : va.length + 1 = (prm x).length) (hd : decode (mby mi) pc = .ok (.invokevirtual idx, 3)) : Lnk p l e R s m args below meth c T locs cells slots pc ls (va.reverse ++ .ref a :: rest) rest mk (.ref a :: va) := by
  obtain ⟨a1, a2, a3, a4⟩ := mckI hx (Or.inr h0)
  obtain ⟨f1, f2, f3, f4, f5, f6, f7, f8, f9⟩ := hf
  obtain ⟨t, r, r1, -, -, r4⟩ := rco_sp a4
  have hdg : decode c.code (F0 m pc ls (va.reverse ++ .ref a :: rest)).pc = .ok (.invokevirtual idx, 3) := by rw [C.2.1]; exact hd
  obtain ⟨cell, c1, c2, c3⟩ := hr
  have hsame := C.ws.w (dsm_all j hj) args
  obtain ⟨r0, rm, d1, d2, d3, d4⟩ := C.ws.2.2.2.2.2.2.1 j hj
  have hl2 : va.length = rm.sig.parameters.length := by
    rw [hds] at d4
    have := dlo_sp r4 d4
    rw [r1] at hlen
    simp only [List.length_cons] at hlen
    omega
  obtain ⟨mk', methM, hnamed, hmethM, hstM, habM⟩ := Cond.instanceMethod_spec (C.ws.w (imk_ok x a3) args)
  cases f1.symm.trans hnamed
  cases f2.symm.trans hmethM
  obtain ⟨cn', ck', r1', hcn, hck, hni, hfo, hn1⟩ := Cond.sameMethod_found hsame
  cases d1.symm.trans hn1
  obtain ⟨c4, r2, m2, q1, q2, q3, q4, kP, hkP, hkPi⟩ := Cond.selects_spec (C.ws.w (dsk_ok _ hks) args)
  cases c3.symm.trans q1
  cases hfo.symm.trans q2
  cases f1.symm.trans q3
  have hselP : selectMethod e.platform s.vm cell.cls r0 = .method mk := by rw [Launch.admits_selectMethod X.admits]; exact q4
  exact X.invokevirtualUp C.1 C.own (owner := (dnm j).cls) (x := dnm j) (C.ws.w (dlk_ok _ hl) args) hsame (dnm_no j hj) d1 d2 d3 (a := a) (cell := cell) c1 (fun z h => by rw [h] at c2; cases c2) hselP f2 habM hkP hkPi (g := F0 m pc ls (va.reverse ++ .ref a :: rest)) rfl (argsL := va) (rest := rest) hl2 rfl hdg
/-- the method of the class above -/
theorem lk_super (C : Cx G aC p s m meth c mi) (X : Stand p l e R s m args below meth c T locs cells slots) (hf : Mf s x mk methk ck) (hx : x < 467) (h0 : mkd x = 2 ∨ mkd x = 3) (hni : mnn x ≠ "<init>") (hl : (own mi, idx, x) ∈ mlk) (hs : (own mi, idx, x) ∈ suk)
    {va rest : List Value} {a : Addr} {k : Nat} (hr : Rcv s T.heap k a) (hlen : va.length + 1 = (prm x).length) (hd : decode (mby mi) pc = .ok (.invokespecial idx, 3)) : Lnk p l e R s m args below meth c T locs cells slots pc ls (va.reverse ++ .ref a :: rest) rest mk (.ref a :: va) := by
  obtain ⟨a1, a2, a3, a4⟩ := mckI hx (Or.inr h0)
  obtain ⟨f1, f2, f3, f4, f5, f6, f7, f8, f9⟩ := hf
  obtain ⟨t, r, r1, -, -, r4⟩ := rco_sp a4
  have hl2 : va.length = methk.sig.parameters.length := by
    have := dlo_sp r4 f9
    rw [r1] at hlen
    simp only [List.length_cons] at hlen
    omega
  have hdg : decode c.code (F0 m pc ls (va.reverse ++ .ref a :: rest)).pc = .ok (.invokespecial idx, 3) := by rw [C.2.1]; exact hd
  obtain ⟨cell, c1, c2, c3⟩ := hr
  obtain ⟨w1, w2⟩ := suk_ok _ hs
  obtain ⟨mk', methM, hnamed, hmethM, hstM, habM⟩ := Cond.instanceMethod_spec (C.ws.w (imk_ok x a3) args)
  cases f1.symm.trans hnamed
  cases f2.symm.trans hmethM
  obtain ⟨pp, kk, kp, g1, g2, g3, g4, g5, g6, g7⟩ := Cond.superclass_spec C.own (C.ws.w w2 args)
  have hcl := findClass_of_methodNamed f1
  cases g1.symm.trans hcl
  obtain ⟨kc, hkc, -⟩ := Vm.findClass_spec c3
  obtain ⟨vm1, X1, st⟩ := X.invokespecialUp C.1 C.own (owner := cn (own x)) (x := mnm x) (C.ws.w (mlk_ok _ hl) args) (C.ws.w w1 args) f1 f2 hstM habM hni g2 g7 g1 g4 (by simp [Vm.isSubclass, Vm.isSubclassAux]) (a := a) (cell := cell) c1 (fun z h => by rw [h] at c2; cases c2) hkc (g := F0 m pc ls (va.reverse ++ .ref a :: rest)) rfl (argsL := va) (rest := rest) hl2 rfl hdg
  exact ⟨vm1, X1, fun target h => st target (h [])⟩
end Links
