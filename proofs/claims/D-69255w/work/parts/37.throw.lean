/-! SOUNDNESS, 14: throw: new, dup, invokespecial, athrow of an exception without a message, no stack traces -/
theorem ls_moved {C n d : String} {A : Nat → Prop} {s U : State} (hW : s.WarmedH U.vm) (h2 : ∀ q : Nat, q < s.heap.size → ¬ A q → U.heap[q]? = s.heap[q]?) (hZ : va_Zq C n d A s s.heap) (h : (Cond.laysStatic C n d).before #[] s = true) : (Cond.laysStatic C n d).before #[] U = true := by
  have h0 := Cond.laysStatic_setVm (vm' := U.vm) hW.alike h
  obtain ⟨c, k, i, f, a, cell, hc, hf, hst, hsta, hcell, hiss, hcls, hlt, hty⟩ := Cond.laysStatic_spec h
  obtain ⟨k', hf', he⟩ := State.fieldFound?_setVm hW.alike hf
  have hnA : ¬ A a := by
    rcases hZ with ⟨cf, kf, fi, f', a', cell', z1, z2, z3, z4, z5, z6, z7, z8⟩ | ⟨t, cf, kf, fi, f', a', cell', z1, z2, z3, z4, z5, z6, z7, z8⟩ <;>
    · cases z1.symm.trans hf
      cases z4.symm.trans hsta
      exact z8
  have hcU : U.heap[a]? = some cell := by rw [h2 a (Array.getElem?_eq_some_iff.mp hcell).1 hnA]; exact hcell
  have hcc : (s.setVm U.vm).heap[a]? = some cell := hcell
  have hsta' : k'.statics = some a := by rw [he]; exact hsta
  have hfU : U.fieldFound? C n d = some (c, k', i, f) := hf'
  have hfc : U.vm.findClass C = some c := by rw [hW.alike.findClass]; exact hc
  have hfc' : (s.setVm U.vm).vm.findClass C = some c := hfc
  simp only [Cond.before, Cond.holds, Cond.value, hfc', hf', hsta', hcc, Option.bind_some, Option.map_some] at h0
  simp only [Cond.before, Cond.holds, Cond.value, hfc, hfU, hsta', hcU, Option.bind_some, Option.map_some]
  exact h0
def Exs (A : Nat → Prop) (s : State) : Prop := va_Zq Bundle.tN "UNASSIGNED_STACK" Bundle.steD A s s.heap ∧ va_Zq Bundle.tN "SUPPRESSED_SENTINEL" Bundle.listD A s s.heap ∧ (Cond.laysStatic Bundle.tN "UNASSIGNED_STACK" Bundle.steD).before #[] s = true ∧ (Cond.laysStatic Bundle.tN "SUPPRESSED_SENTINEL" Bundle.listD).before #[] s = true
theorem exs_m (A : Nat → Prop) : ExM A (Exs A) := fun _ _ hW _ h2 h => ⟨(h.1.kept h2).moved hW.alike, (h.2.1.kept h2).moved hW.alike, ls_moved hW h2 h.1 h.2.2.1, ls_moved hW h2 h.2.1 h.2.2.2⟩
theorem zq_ref {C n d : String} {A : Nat → Prop} {s : State} (h : va_Zq C n d A s s.heap) (args : Array Value) : (Cond.isRef (.static C n d)).before args s = true := by
  rcases h with ⟨cf, kf, fi, f, a, cell, h1, h2, h3, h4, h5, h6, h7, h8⟩ | ⟨t, cf, kf, fi, f, a, cell, h1, h2, h3, h4, h5, h6, h7, h8⟩ <;>
    simp [Cond.before, Cond.holds, Cond.value, Term.eval, State.fieldNamed?, h1, h2, h4, h5, h6, h7]
theorem zq_at {C n d : String} {A : Nat → Prop} {s : State} (h : va_Zq C n d A s s.heap) {c i a : Nat} {k : Class} {f : Field} (hf : s.fieldFound? C n d = some (c, k, i, f)) (hs : k.statics = some a) : ¬ A a := by
  rcases h with ⟨cf, kf, fi, f', a', cell, h1, h2, h3, h4, h5, h6, h7, h8⟩ | ⟨t, cf, kf, fi, f', a', cell, h1, h2, h3, h4, h5, h6, h7, h8⟩ <;>
  · cases h1.symm.trans hf
    cases h4.symm.trans hs
    exact h8
section Thr
variable {p : Program} {l : Launch} {e : Env} {R : Room} {s : State} {m₀ : MethodId} {args : Array Value} {below : List Frame} {meth : Method} {c : Code} {W : State} {locs : List Loc} {cells slots : Nat}
set_option maxHeartbeats 1000000 in
/-- the constructor runs and the exception leaves: only its own cell is changed -/
theorem ct_throw (X : Stand p l e R s m₀ args below meth c W locs cells slots) (hexec : p.tables.exec = Jvm.exec) (htr : e.platform.stackTraces = false) {own cls : String} {names : List String} {ic : Nat} {A : Nat → Prop}
    (hown : s.vm.findClass own = some m₀.cls) (hcls : Bundle.fit cls = true) (hnames : ∀ n ∈ names, Bundle.fit n = true) (h : ∀ a ∈ Bundle.ownAtoms0 own ic cls names, a.before args s = true)
    (hEx : Exs A s) (hlocs : ∀ x ∈ locs, A x.base)
    {a : Addr} {cX : ClassId} {kX : Class} (hfoundX : s.vm.findClass cls = some cX) (hkX : s.vm.classes[cX]? = some kX) (hcell : W.heap[a]? = some (freshCell cX kX)) (hnew : s.heap.size ≤ a)
    {g : JFrame} (hg : g.method = m₀) (hsize : g.locals.size = c.maxLocals) (hlocked : g.locked = none) (hentered : g.entered = []) {rest : List Value} (hstack : g.stack = .ref a :: .ref a :: rest)
    (hd6 : decode c.code g.pc = .ok (.invokespecial ic, 3)) (hd9 : decode c.code (g.pc + 3) = .ok (.athrow, 1)) (hout : ∀ x ∈ c.exceptionTable.toList, covers x (g.pc + 3) = false)
    (hRframes : names.length + 3 < R.frames) (hRlocals : 2 * g.monitorRoom + ((Value.ref a :: rest).map fun v => v.category).sum + (13 * (names.length + 1) + 41) ≤ R.locals) (hlocks : meth.locks = false) :
    ∃ (U : State) (ce : Cell) (L : List Loc), Steps p.tables e below (W.setTop g) U ∧ U.status = .running ∧ Ended U below (.threw a) ∧ s.WarmedH U.vm ∧ s.sameButNew ({ U with vm := s.vm } : State) (locs ++ L) cells slots ∧ (∀ x ∈ L, x.base = a) ∧
      U.heap[a]? = some ce ∧ ce.cls = cX ∧ ce.vm = .none ∧ U.heap.size = W.heap.size ∧ ∀ q : Nat, q ≠ a → U.heap[q]? = W.heap[q]? := by
  have howns : e.platform.frameOwnsMonitors = true := by rw [X.admits.platform]
  have hfin : e.platform.finalization = false := by rw [X.admits.platform]
  have hpl : e.platform.magicAccessors = ({} : Platform).magicAccessors := by rw [X.admits.platform]
  obtain ⟨T, Z, L, LZ, Y⟩ := ThrowableC.of_atoms (args := args) howns hfin hpl (fun x hx => h x (by simp [Bundle.ownAtoms0, hx]))
  obtain ⟨P1, Ps, hlen, L1, hL, hP1m, hlink1, hlink⟩ := Bundle.chain0 (args := args) hpl Y.init0 names cls hcls hnames (fun x hx => h x (by simp [Bundle.ownAtoms0, hx]))
  have hfound : s.vm.findClass cls = some P1.m.cls := findClass_of_methodNamed hP1m
  cases Option.some.inj (hfoundX.symm.trans hfound)
  obtain ⟨c1, kX', hc1, hk, hord, -, -, hn6⟩ := Cond.instantiable_spec (h (.instantiable cls 6) (by simp [Bundle.ownAtoms0]))
  cases Option.some.inj (hc1.symm.trans hfound)
  cases Option.some.inj (hkX.symm.trans hk)
  have sel : ∀ (x : MethodName) (mx : MethodId), x.cls ≠ "java/lang/invoke/MethodHandle" ∧ x.cls ≠ "java/lang/invoke/VarHandle" → s.methodNamed? x = some mx → (Cond.selects cls x x).before args s = true → selectMethod e.platform s.vm P1.m.cls mx = .method mx := by
    intro x mx hx hn hs
    obtain ⟨c2, r2, m2, q1, q2, q3, q4, -⟩ := Cond.selects_spec hs
    cases Option.some.inj (q1.symm.trans hfound)
    cases Option.some.inj (q2.symm.trans (State.methodFound?_of_named hn hx))
    cases Option.some.inj (q3.symm.trans hn)
    rw [Launch.admits_selectMethod X.admits]; exact q4
  have hsel0 := sel Bundle.tFill0 _ (by decide) Y.fill0 (h (.selects cls Bundle.tFill0 Bundle.tFill0) (by simp [Bundle.ownAtoms0]))
  have hselF := sel Bundle.tFill _ (by decide) Y.fill (h (.selects cls Bundle.tFill Bundle.tFill) (by simp [Bundle.ownAtoms0]))
  obtain ⟨cellS0, hcS0, hiss⟩ := Y.statics
  have hnA : ¬ A T.aS := zq_at hEx.1 Y.unassigned L.statics
  obtain ⟨u0, hu0⟩ := Cond.staticRefV Y.unassigned L.unassignedStatic L.statics hcS0 hiss (zq_ref hEx.1 args)
  obtain ⟨sen, hsen⟩ := Cond.staticRefV Y.sentinel L.sentinelStatic L.statics hcS0 hiss (zq_ref hEx.2.1 args)
  obtain ⟨ci198, i198, fB, hk198, hg198, ha198, hsB, -, hnB, htB, hffB⟩ := Cond.ownField (t := .object "java/lang/Object") Y.found L.cls (by decide +kernel) (h (.fieldLink Bundle.tN 198 Bundle.tN "backtrace" "Ljava/lang/Object;") (by simp [Bundle.ownAtoms0])) (h (.lays Bundle.tN Bundle.tN "backtrace" "Ljava/lang/Object;") (by simp [Bundle.ownAtoms0])) e.platform hpl
  obtain ⟨cellS, hcS', heS, -, hkeep⟩ := X.same.2.2.2.2.2 T.aS cellS0 hcS0
  have hcellS : W.heap[T.aS]? = some cellS := hcS'
  have hout' : ∀ i, (⟨T.aS, i⟩ : Loc) ∉ locs := fun i hmem => hnA (hlocs _ hmem)
  have hknownS : cellS.vm ≠ .unknown := by
    rw [heS]; intro hu
    rw [show cellS0.vm = .unknown from hu] at hiss
    cases hiss
  have hneS : T.aS ≠ a := Nat.ne_of_lt (Nat.lt_of_lt_of_le (Array.getElem?_eq_some_iff.mp hcS0).1 hnew)
  obtain ⟨tyC, dC, hdC, hdnC⟩ := Cond.laysAt hfound hk Y.cause (h (.lays cls Bundle.tN "cause" "Ljava/lang/Throwable;") (by simp [Bundle.ownAtoms0]))
  obtain ⟨tyS, dS, hdS, hdnS⟩ := Cond.laysAt hfound hk Y.stack (h (.lays cls Bundle.tN "stackTrace" Bundle.steD) (by simp [Bundle.ownAtoms0]))
  obtain ⟨tyP, dP, hdP, hdnP⟩ := Cond.laysAt hfound hk Y.supp (h (.lays cls Bundle.tN "suppressedExceptions" Bundle.listD) (by simp [Bundle.ownAtoms0]))
  obtain ⟨tyB, dB, hdB, hdnB⟩ := Cond.laysAt hfound hk hffB (h (.lays cls Bundle.tN "backtrace" "Ljava/lang/Object;") (by simp [Bundle.ownAtoms0]))
  have bC := Cond.laysApart hdB hdC hdnB hdnC (by rw [hnB, Y.causeName]; decide)
  have bS := Cond.laysApart hdB hdS hdnB hdnS (by rw [hnB, Y.stackName]; decide)
  have bP := Cond.laysApart hdB hdP hdnB hdnP (by rw [hnB, Y.suppName]; decide)
  have hskip : SkipFacts T e.platform s (fun u => u) u0 ((preparedCellV T.toThrowableT (freshCell P1.m.cls kX) a u0 sen).withEntry W.cur) :=
    ⟨{ ci198 := ci198, i198 := i198, fBack := fB }, ⟨hk198, hg198, ha198, hsB⟩, by
      have := fresh_default (c := P1.m.cls) tyB
      rw [htB] at this
      simpa [preparedCellV, Cell.setSlot, Cell.withEntry, Array.getElem?_setIfInBounds, bC, bS, bP, bC.symm, bS.symm, bP.symm, defaultValue] using this, fun _ _ => rfl⟩
  obtain ⟨tm, methC, cdC, kC, vm₁, hnC, -, -, -, -, -, -, -, hW₁, st1⟩ := Steps.initCold (tb := p.tables) (e := e) (below := below) (s := s) (U := W) X.here hexec X.warmed hpl hown (t := Bundle.init0 cls) rfl rfl (Bundle.fit_spec hcls).2
    (h (.methodLink own ic (Bundle.init0 cls)) (by simp [Bundle.ownAtoms0])) (h (.instanceMethod (Bundle.init0 cls)) (by cases names <;> simp [Bundle.ownAtoms0, Bundle.chain0Atoms, Bundle.passAtoms])) (bytes := Bundle.five) (maxL := 1) (h (.code (Bundle.init0 cls) Bundle.five 1 none) (by cases names <;> simp [Bundle.ownAtoms0, Bundle.chain0Atoms, Bundle.passAtoms]))
    (f := g) hg (a := a) (rest := .ref a :: rest) hstack hd6
  cases Option.some.inj (hnC.symm.trans hP1m)
  obtain ⟨vm₂, X₂, st2⟩ := (X.noted hW₁).ctorPlainOffV hexec (g := { g with stack := .ref a :: rest }) hg hsize T L Z LZ (P1 :: Ps)
    (fun P hP => by rcases List.mem_cons.mp hP with rfl | hP; exact L1; exact hL P hP) ⟨hlink1, hlink⟩ (u0 := u0) (sen := sen) (self := a) (cell := freshCell P1.m.cls kX) (cellS := cellS)
    hcell (fun _ => by simp) (by simp) rfl rfl hsel0 hselF hcellS hneS hknownS (by rw [hkeep _ (hout' _)]; exact hu0) (by rw [hkeep _ (hout' _)]; exact hsen)
    (Takes.of_laid hk hord tyC (by rw [Y.causeType]; rfl)) (Takes.of_laid hk hord tyS (by rw [Y.stackType]; exact fits_refV_array _ u0)) (Takes.of_laid hk hord tyP (by rw [Y.suppType]; exact fits_refV_object _ sen)) Y.objLocals hskip htr [] hd6
    (by simp only [List.length_cons, hlen]; omega) (by simp only [List.length_cons, hlen]; exact hRlocals)
  obtain ⟨hwalk, hrun, hended, hWU, hsame⟩ := X₂.athrowLeaves hexec (g := { g with stack := .ref a :: rest, pc := g.pc + 3 }) hg hlocked hentered hout (a := a) (rest := rest) rfl hd9 hlocks
  have hlt : a < W.heap.size := (Array.getElem?_eq_some_iff.mp hcell).1
  refine ⟨_, _, _, st1 _ (fun acts => ?_), hrun, hended, hWU, hsame, ?_, heapAt_setCell_self (s := (W.setVm vm₁).setVm vm₂) _ hlt, rfl, rfl, ?_, ?_⟩
  · rw [doInvoke_state]
    exact st2 _ hwalk
  · intro y hy
    simp only [List.mem_cons, List.not_mem_nil, or_false] at hy
    rcases hy with rfl | rfl | rfl | rfl <;> rfl
  · simp [State.setCell]
  · intro q hq
    simp [State.setCell, Array.getElem?_setIfInBounds, Ne.symm hq]
end Thr
section Thr2
variable {sa : Nat → Nat} {b : Nat} {aC : Nat → ClassId} {ph : Bool} {L : Nat} {xs : Nat → Int32} {G : va_G} {A : Nat → Prop} {n0 u0 : Int} {ads0 : List (Nat × Nat)}
variable {p : Program} {l : Launch} {e : Env} {R : Room} {s : State} {m : MethodId} {args : Array Value} {below : List Frame} {meth : Method} {c : Code} {mi : Nat}
variable {res : (Int ⊕ Int) × St} {lv : Lv} {st : List Wd} {S : St} {ads : List (Nat × Nat)} {ws : va_W} {H : Heap} {locs : List Loc} {ls : Array Slot} {vs : List Value} {pc : Nat}
/-- the atoms that are not in the list of good words -/
theorem oat_bad : ∀ q ∈ thk, ∀ w ∈ Bundle.ownAtoms0 (cn q.1) q.2.1 (cn q.2.2) nmx, goodWord w = true ∨ (w = Cond.castable (cn q.2.2) (cn q.2.2) ∧ (q.2.2, q.2.2) ∈ ctk) ∨ w = Cond.laysStatic Bundle.tN "UNASSIGNED_STACK" Bundle.steD ∨ w = Cond.laysStatic Bundle.tN "SUPPRESSED_SENTINEL" Bundle.listD ∨ w = Cond.isRef (.static Bundle.tN "UNASSIGNED_STACK" Bundle.steD) ∨ w = Cond.isRef (.static Bundle.tN "SUPPRESSED_SENTINEL" Bundle.listD) ∨ w = Cond.declares (Bundle.init0 "java/lang/RuntimeException") ∨ w = Cond.declares (Bundle.init0 "java/lang/Exception") ∨ w = Cond.declares (Bundle.init0 Bundle.tN) := by decide +kernel
theorem oat_all (C : Wds s) (hE : Exs A s) {q : Nat × Nat × Nat} (hq : q ∈ thk) (args : Array Value) : ∀ w ∈ Bundle.ownAtoms0 (cn q.1) q.2.1 (cn q.2.2) nmx, w.before args s = true := by
  intro w hw
  rcases oat_bad q hq w hw with h | ⟨rfl, h⟩ | rfl | rfl | rfl | rfl | rfl | rfl | rfl
  · exact C.w (thk_ok q hq w (List.mem_filter.mpr ⟨hw, h⟩)) args
  · exact va_Nw.use rfl (C.2.2.2.1 (q.2.2, q.2.2) h)
  · exact hE.2.2.1
  · exact hE.2.2.2
  · exact zq_ref hE.1 args
  · exact zq_ref hE.2.1 args
  · exact va_Nw.use rfl (C.2.2.2.2.2.2.2 _ (by decide))
  · exact va_Nw.use rfl (C.2.2.2.2.2.2.2 _ (by decide))
  · exact va_Nw.use rfl (C.2.2.2.2.2.2.2 _ (by decide))
set_option maxHeartbeats 1000000 in
theorem sn_throw {n x ic d : Nat} (C : Cx G aC p s m meth c mi) (hA : Ax b L xs A (Exs A) s) (B : Bn sa b aC ph L xs G A n0 u0 ads0 s mi lv st S ads ws H locs ls vs) (htr : l.stackTraces = false) (hR : RoomOk d R)
    (hRc : (res.2 2 0 0 - n0).toNat ≤ R.cells) (hRs : (res.2 3 0 0 - u0).toNat ≤ R.slots) (hd : decode (mby mi) pc = .ok (.new n, 3)) (hd2 : decode (mby mi) (pc + 3) = .ok (.dup, 1)) (hd3 : decode (mby mi) (pc + 4) = .ok (.invokespecial ic, 3)) (hd4 : decode (mby mi) (pc + 7) = .ok (.athrow, 1))
    (hm : (own mi, n, x) ∈ clk) (hx : x = 53 ∨ x = 54) (hk : (own mi, ic, x) ∈ thk) (hi : x ∈ ink) (his : x ∈ isk_) (h6 : knS x = 6) (hout : ∀ q ∈ mht mi, ¬ (q.1 ≤ pc + 7 ∧ pc + 7 < q.2.1))
    (h : ck (Nat.ble st.length 12) (some (.inr (x : Int), al S x 0 6)) = some res) : W p l e R s m args below meth c H locs (S 2 0 0 - n0).toNat (S 3 0 0 - u0).toNat (MF below (Qs sa b aC ph L xs G A ads0 (rtg mi) res) args s (res.2 2 0 0 - n0).toNat (res.2 3 0 0 - u0).toNat A) (F0 m pc ls vs) := by
  obtain ⟨hst, h⟩ := ck_sp h
  have hst : st.length ≤ 12 := Nat.ble_eq.mp hst
  cases h
  obtain ⟨b1, b2, b3, b4, ⟨ms, m1, m2⟩, b6, b7, b8, ⟨xx, b9⟩⟩ := B
  have e1 : al S x 0 6 2 0 0 = S 2 0 0 + 1 := al_2 _ _ _ _
  have e2 : al S x 0 6 3 0 0 = S 3 0 0 + 6 := al_3 _ _ _ _
  simp only [e1, e2] at hRc hRs ⊢
  have hxk : x ∈ kl := by rcases hx with rfl | rfl <;> decide
  have hKn := C.K.1 (kix x) _ (clK_at hxk)
  have hw := isk__ok x his
  rw [h6] at hw
  have hsum := sr_sum b6
  refine W.newcK C.1 C.2.1 C.own (C.ws.w (clk_ok _ hm) args) (C.ws.w hw args) (C.ws.w (ink_ok x hi) args) rfl hd (by omega) (by omega) hKn.2.1 rfl fun H1 kC hkC g1 g2 g3 => ?_
  refine lv_dup C.1 C.2.1 hd2 rfl ?_
  intro T hT X
  have htr' : e.platform.stackTraces = false := by rw [X.admits.platform]; exact htr
  have hszH : s.heap.size ≤ H.size := b4.1
  obtain ⟨r1, r2⟩ := hR
  obtain ⟨U, ce, LL, u1, u2, u3, u4, u5, u6, u7, u8, u9, u10, u11⟩ := ct_throw X C.1 htr' (own := cn (own mi)) (cls := cn x) (names := nmx) (ic := ic) (A := A) C.own (by rcases hx with rfl | rfl <;> decide +kernel) (by decide +kernel) (oat_all C.ws hA.2.2.2.2 hk args) hA.2.2.2.2 b4.2.2 hKn.2.1 hkC (a := H.size) (by rw [hT]; exact g1) hszH
    (g := F0 m (pc + 4) ls (.ref H.size :: .ref H.size :: vs)) rfl (by rw [C.2.2.2.1]; exact m2.1) rfl rfl (rest := vs) rfl (by rw [C.2.1]; exact hd3) (by rw [C.2.1]; exact hd4)
    (fun y hy => by
      rw [Bool.eq_false_iff]
      intro hc
      exact hout _ (by rw [← C.2.2.2.2.2.2.2.2.2]; exact List.mem_map.mpr ⟨y, hy, rfl⟩) ((cov_iff y (pc + 7)).mp hc))
    (by show 2 + 3 < R.frames; omega) (by show 2 * 0 + (1 + (vs.map fun v => v.category).sum) + (13 * (2 + 1) + 41) ≤ R.locals; omega) C.locks
  have hfs : fN x = 0 := by rcases hx with rfl | rfl <;> decide
  have hU : ∀ q : Nat, q < H.size → U.heap[q]? = H[q]? := fun q hq => by rw [u11 q (by omega), hT]; exact g3 q hq
  have hRl : Rl sa b aC ph L xs (ads ++ [(H.size, x)]) (ws ++ [(H.size, .inr (kix x, []))]) (al S x 0 6) := by
    refine b1.new (by omega) ⟨hxk, rfl, by rw [hfs]; rfl, fun j hj => by rw [hfs] at hj; omega⟩
  have hP1 : va_P G clK (ws ++ [(H.size, .inr (kix x, []))]) U.heap := by
    refine (b2.kept fun k q hq => hU q.1 ((b2 k q hq).lt)).app (fun k q hq => ?_)
    have hz : k < 1 := (List.getElem?_eq_some_iff.mp hq).1
    rw [show k = 0 by omega] at hq
    cases hq
    refine ⟨_, clK_at hxk, ce, u7, ?_, u9, fun k hk => ?_⟩
    · exact u8
    · have hk : k < fN x := hk
      rw [hfs] at hk; omega
  have hD1 : va_D A (ws ++ [(H.size, .inr (kix x, []))]) := b3.push b2 rfl (hA.2.2.2.1 _ hszH)
  refine ⟨U, u1, .threw H.size, u2, u3, ⟨_, _, hRl, ⟨xx ++ [(H.size, x)], by rw [b9, List.append_assoc]⟩, hP1, hD1, ?_, ?_, ⟨ads.length, H.size, x, rfl, ?_, rfl, hx⟩⟩, locs ++ LL, u4, ?_, ?_⟩
  · rw [u10, hT]; omega
  · intro q h1 h2
    rw [hU q (by omega)]
    exact b4.2.1 q h1 h2
  · rw [List.getElem?_append_right (Nat.le_refl _), Nat.sub_self]; rfl
  · show s.sameButNew _ _ (S 2 0 0 + 1 - n0).toNat (S 3 0 0 + 6 - u0).toNat
    rw [show (S 2 0 0 + 1 - n0).toNat = (S 2 0 0 - n0).toNat + 1 by omega, show (S 3 0 0 + 6 - u0).toNat = (S 3 0 0 - u0).toNat + 6 by omega]
    exact u5
  · intro y hy
    rcases List.mem_append.mp hy with hy | hy
    · exact b4.2.2 y hy
    · rw [u6 y hy]; exact hA.2.2.2.1 _ hszH
end Thr2
