/-! SOUNDNESS, 15: String constants: ldc, length, charAt -/
set_option maxRecDepth 100000
/-- the constants' cells, for all time -/
def Sx (sa sv : Nat → Nat) (A : Nat → Prop) (s : State) : Prop :=
  (∀ i, i < 50 → va_O "java/lang/String" (sa i) A s s.heap ∧ va_OF "java/lang/String" "coder" "B" (.int 0) (sa i) A s s.heap ∧ va_OF "java/lang/String" "value" "[B" (.ref (sv i)) (sa i) A s s.heap ∧ va_T .byte (sv i) (txl i).length (fun j => .int (Int32.ofInt ((txl i).getD j 0))) A s s.heap) ∧
  (∀ q ∈ srk, vk_R (cn q.1) q.2.1 (txs q.2.2) (sa q.2.2) s) ∧ va_Z "java/lang/String" "COMPACT_STRINGS" "Z" (.int 1) A s s.heap ∧ va_Zq "jdk/internal/util/Preconditions" "SIOOBE_FORMATTER" "Ljava/util/function/BiFunction;" A s s.heap
def Exa (sa sv : Nat → Nat) (A : Nat → Prop) (s : State) : Prop := Exs A s ∧ Sx sa sv A s
theorem exa_m (sa sv : Nat → Nat) (A : Nat → Prop) : ExM A (Exa sa sv A) := fun s U hW h1 h2 h =>
  ⟨exs_m A s U hW h1 h2 h.1, fun i hi => ⟨((h.2.1 i hi).1.kept h2).moved hW.alike, ((h.2.1 i hi).2.1.kept h2).moved hW.alike, ((h.2.1 i hi).2.2.1.kept h2).moved hW.alike, ((h.2.1 i hi).2.2.2.kept h2).moved hW.alike⟩, fun q hq => vk_R.warm hW (h.2.2.1 q hq), (h.2.2.2.1.kept h2).moved hW.alike, (h.2.2.2.2.kept h2).moved hW.alike⟩
/-- every sign is one of ASCII -/
def chO (z : Int) : Bool := decide (0 ≤ z) && (decide (z < 128) && (decide ((((Int32.ofInt z) &&& 255).toUInt32 % 65536).toInt32 = Int32.ofInt z) && (decide (narrow .char (.int (Int32.ofInt z)) = .int (Int32.ofInt z)) && decide ((Int32.ofInt z).toInt = z))))
theorem tx_all : ∀ i, i < 50 → (txl i).length < 1000 ∧ (txl i).all chO = true := by decide +kernel
theorem tx_at {i j : Nat} (hi : i < 50) (hj : j < (txl i).length) : (((Int32.ofInt ((txl i).getD j 0)) &&& 255).toUInt32 % 65536).toInt32 = Int32.ofInt ((txl i).getD j 0) ∧ narrow .char (.int (Int32.ofInt ((txl i).getD j 0))) = .int (Int32.ofInt ((txl i).getD j 0)) ∧ (Int32.ofInt ((txl i).getD j 0)).toInt = (txl i).getD j 0 := by
  have h := List.all_eq_true.mp (tx_all i hi).2 ((txl i).getD j 0) (by rw [List.getD_eq_getElem?_getD, List.getElem?_eq_getElem hj]; exact List.getElem_mem _)
  unfold chO at h
  simp only [Bool.and_eq_true, decide_eq_true_eq] at h
  exact ⟨h.2.2.1, h.2.2.2.1, h.2.2.2.2⟩
/-- what is known of a JDK method -/
def Jf (s : State) (y : MethodName) (bs : ByteArray) (ml : Nat) (rt : Option FieldType) (mk : MethodId) (methk : Method) (ck : Code) : Prop :=
  s.methodNamed? y = some mk ∧ s.vm.method? mk = some methk ∧ methk.code = some ck ∧ ck.code = bs ∧ ck.maxLocals = ml ∧ methk.sig.returnType = rt ∧ methk.locks = false ∧ parseMethodDescriptor y.desc = some methk.sig
theorem jf_of {s : State} (h : Wds s) {y : MethodName} {bs : ByteArray} {ml : Nat} {rt : Option FieldType} (hw : Cond.code y bs ml rt ∈ lw_all) : ∃ mk methk ck, Jf s y bs ml rt mk methk ck := by
  have hw := h.w hw #[]
  obtain ⟨mk, hn⟩ := Cond.code_named hw
  obtain ⟨methk, ck, a1, a2, a3, a4, a5, a6, a7, a8⟩ := Cond.code_spec hn hw
  exact ⟨mk, methk, ck, hn, a1, a2, a3, a4, a5, a6, a8⟩
/-- an activation of a JDK method -/
def Jx (p : Program) (s : State) (m : MethodId) (meth : Method) (c : Code) (y : MethodName) (bs : ByteArray) (ml : Nat) (rt : Option FieldType) : Prop :=
  p.tables.exec = Jvm.exec ∧ c.code = bs ∧ meth.sig.returnType = rt ∧ c.maxLocals = ml ∧ s.vm.findClass y.cls = some m.cls ∧ meth.locks = false ∧ Wds s
def PQ (ov : Option Value) : Array Value → State → Outcome → State → Prop := fun _ s o t => o = .returned ov ∧ t.heap = s.heap
/-- a method that answers ov and changes nothing -/
def PJ (p : Program) (l : Launch) (e : Env) (Ex : State → Prop) (fr : Nat) (y : MethodName) (bs : ByteArray) (ml : Nat) (rt : Option FieldType) (va : List Value) (ov : Option Value) : Prop :=
  ∀ (R : Room) (s : State) (m : MethodId) (below : List Frame) (meth : Method) (c : Code), Jx p s m meth c y bs ml rt → Ex s → fr ≤ R.frames → 60 * fr ≤ R.locals →
    W p l e R s m va.toArray below meth c s.heap [] 0 0 (MF below (PQ ov) va.toArray s 0 0 (fun _ => False)) (entryFrame m va.toArray ml)
theorem dj_L : (parseMethodDescriptor jL.desc).map (fun d => d.parameters.length) = some 0 := by decide +kernel
theorem dj_C : (parseMethodDescriptor jC.desc).map (fun d => d.parameters.length) = some 0 := by decide +kernel
theorem dj_A : (parseMethodDescriptor jA.desc).map (fun d => d.parameters.length) = some 1 := by decide +kernel
theorem dj_T : (parseMethodDescriptor jT.desc).map (fun d => d.parameters.length) = some 0 := by decide +kernel
theorem dj_B : (parseMethodDescriptor jB.desc).map (fun d => d.parameters.length) = some 2 := by decide +kernel
theorem dj_X : (parseMethodDescriptor jX.desc).map (fun d => d.parameters.length) = some 2 := by decide +kernel
theorem dj_P : (parseMethodDescriptor jP.desc).map (fun d => d.parameters.length) = some 3 := by decide +kernel
section Str
variable {sa sv : Nat → Nat} {A : Nat → Prop} {Ex : State → Prop} {p : Program} {l : Launch} {e : Env} {R : Room} {s : State} {m : MethodId} {args : Array Value} {below : List Frame} {meth : Method} {c : Code} {H : Heap} {locs : List Loc} {cells slots pc idx fr : Nat} {ls : Array Slot} {vs rest va : List Value} {Q : State → Prop} {T : State}
variable {y : MethodName} {bs : ByteArray} {ml : Nat} {rt : Option FieldType} {mk : MethodId} {methk : Method} {ck : Code} {ov : Option Value} {own : String}
set_option maxHeartbeats 1000000 in
theorem pj_body (hE : ExM A Ex) (hexec : p.tables.exec = Jvm.exec) (hws : Wds s) (hEx : Ex s) (hS : va_S A s.heap T.heap locs) (hP : PJ p l e Ex fr y bs ml rt va ov) (hf : Jf s y bs ml rt mk methk ck) (hpl : plainFor y = true) (hml : ml ≤ 14) (X : Stand p l e R s m args below meth c T locs cells slots) {ig : Instr} (hd : decode c.code pc = .ok (ig, 3)) (hsz : ls.size = c.maxLocals)
    (hsum : (rest.map fun v => v.category).sum ≤ 24) (hRf : fr + 1 ≤ R.frames) (hRl : 60 * (fr + 1) ≤ R.locals) (hc : cells ≤ R.cells) (hs : slots ≤ R.slots) :
    ∃ (t : State), (∀ acts, Steps p.tables e below (doInvoke e (T.setTop (F0 m pc ls rest)) acts mk va.toArray).1 t) ∧ ∃ (o : Outcome), t.status = .running ∧ Ended t (.java (F0 m pc ls rest) :: below) o ∧ (o = .returned ov ∧ t.heap = (T.calling (F0 m pc ls rest) mk va.toArray).heap) ∧ ∃ (Lc : List Loc),
      (T.calling (F0 m pc ls rest) mk va.toArray).WarmedH t.vm ∧ (T.calling (F0 m pc ls rest) mk va.toArray).sameButNew ({ t with vm := (T.calling (F0 m pc ls rest) mk va.toArray).vm } : State) Lc 0 0 ∧ ∀ q ∈ Lc, False := by
  obtain ⟨f1, f2, f3, f4, f5, f6, f7, f8⟩ := hf
  have hmk' : T.vm.method? mk = some methk := by rw [X.warmed.alike.method?]; exact f2
  have hpk : T.plainMethod mk := State.plainMethod.of_named hpl (X.named f1) hmk'
  obtain ⟨Y, hinv⟩ := X.into (g := F0 m pc ls rest) rfl hsz hd va.toArray (R' := { frames := R.frames - 1, cells := 0, slots := 0, locals := R.locals - 60 }) hmk' f3 f7 hpk (by simp only; omega) (by show 2 * 0 + (rest.map fun v => v.category).sum + (ck.maxLocals + 11) + (R.locals - 60) ≤ R.locals; omega) (by simp only; omega) (by simp only; omega)
  have hW : s.WarmedH (T.calling (F0 m pc ls rest) mk va.toArray).vm := X.warmed
  have hJ : Jx p (T.calling (F0 m pc ls rest) mk va.toArray) mk methk ck y bs ml rt := ⟨hexec, f4, f6, f5, by rw [hW.alike.findClass]; exact findClass_of_methodNamed f1, f7, hws.moved hW⟩
  have hx : Ex (T.calling (F0 m pc ls rest) mk va.toArray) := hE s _ hW hS.1 hS.2.1 hEx
  obtain ⟨t, st, o, h1, h2, h3, Lc, h4, h5, h6⟩ := hP { frames := R.frames - 1, cells := 0, slots := 0, locals := R.locals - 60 } (T.calling (F0 m pc ls rest) mk va.toArray) mk (.java (F0 m pc ls rest) :: below) methk ck hJ hx (by simp only; omega) (by simp only; omega) ((T.setTop (F0 m pc ls rest)).pushFrame (.java (entryFrame mk va.toArray ck.maxLocals))) rfl Y
  refine ⟨t, fun acts => ?_, o, h1, h2, h3, Lc, h4, h5, h6⟩
  rw [hinv acts]
  rw [← f5] at st
  exact steps_up st
set_option maxHeartbeats 1000000 in
theorem pj_call (hE : ExM A Ex) (hexec : p.tables.exec = Jvm.exec) (hws : Wds s) (hEx : Ex s) (hS : va_S A s.heap H locs) (hP : PJ p l e Ex fr y bs ml rt va ov) (hf : Jf s y bs ml rt mk methk ck) (hpl : plainFor y = true) (hml : ml ≤ 14) {ig : Instr} (hd : decode c.code pc = .ok (ig, 3)) (hsz : ls.size = c.maxLocals)
    (hsum : (rest.map fun v => v.category).sum ≤ 24) (hRf : fr + 1 ≤ R.frames) (hRl : 60 * (fr + 1) ≤ R.locals) (hc : cells ≤ R.cells) (hs : slots ≤ R.slots)
    (lnk : ∀ T : State, T.heap = H → Stand p l e R s m args below meth c T locs cells slots → Lnk p l e R s m args below meth c T locs cells slots pc ls vs rest mk va)
    (k : W p l e R s m args below meth c H locs cells slots Q (F0 m (pc + 3) ls (ov.toList ++ rest))) : W p l e R s m args below meth c H locs cells slots Q (F0 m pc ls vs) := by
  intro T hT X
  obtain ⟨vm1, X1, lk⟩ := lnk T hT X
  have hT1 : (T.setVm vm1).heap = H := hT
  clear lnk
  generalize T.setVm vm1 = T1 at X1 lk hT1
  obtain ⟨t, st1, o, h1, h2, ⟨ho, hh⟩, Lc, h4, h5, h6⟩ := pj_body (T := T1) hE hexec hws hEx (by rw [hT1]; exact hS) hP hf hpl hml X1 hd hsz hsum hRf hRl hc hs
  subst ho
  have hL : Lc = [] := by
    cases Lc with
    | nil => rfl
    | cons q _ => exact (h6 q List.mem_cons_self).elim
  subst hL
  obtain ⟨T', X', -, -, hTt⟩ := X1.outOf (g := F0 m pc ls rest) rfl (ig := ig) (len := 3) hd (mk := mk) (a := va.toArray) (t := t) (v := ov) (L := []) (k := 0) (n := 0) h2 h4 h5
  have hhp : T'.heap = H := by
    have e1 : t.heap = T'.heap := by rw [hTt]; rfl
    rw [← e1, hh]; exact hT1
  rw [List.append_nil] at X'
  obtain ⟨t2, st2, q⟩ := k T' hhp X'
  refine ⟨t2, lk _ fun acts => (st1 acts).trans ?_, q⟩
  rw [hTt]
  exact st2
theorem lk_js (hexec : p.tables.exec = Jvm.exec) (hws : Wds s) (hown : s.vm.findClass own = some m.cls) (X : Stand p l e R s m args below meth c T locs cells slots) (hf : Jf s y bs ml rt mk methk ck) (h1 : Cond.methodLink own idx y ∈ lw_all) (h2 : Cond.static y ∈ lw_all) (h3 : Cond.initialized y.cls ∈ lw_all)
    (hno : y.cls ≠ "java/lang/invoke/MethodHandle" ∧ y.cls ≠ "java/lang/invoke/VarHandle") (hlen : (parseMethodDescriptor y.desc).map (fun d => d.parameters.length) = some va.length) (hd : decode c.code pc = .ok (.invokestatic idx, 3)) : Lnk p l e R s m args below meth c T locs cells slots pc ls (va.reverse ++ rest) rest mk va := by
  obtain ⟨f1, f2, f3, f4, f5, f6, f7, f8⟩ := hf
  have hst : methk.isStatic = true := Cond.static_spec f1 f2 (hws.w h2 args)
  obtain ⟨kP, hkP, -⟩ := className_of_methodNamed f1
  have hin : kP.init = .initialized := Cond.initialized_spec (findClass_of_methodNamed f1) hkP (hws.w h3 args)
  rw [f8] at hlen
  have hl : va.length = methk.sig.parameters.length := (Option.some.inj hlen).symm
  exact X.invokestatic hexec hown (hws.w h1 args) f1 f2 hst hkP hin hno (g := F0 m pc ls (va.reverse ++ rest)) rfl (argsL := va) (rest := rest) hl rfl hd
theorem lk_jv (hexec : p.tables.exec = Jvm.exec) (hws : Wds s) (hown : s.vm.findClass own = some m.cls) (X : Stand p l e R s m args below meth c T locs cells slots) (hf : Jf s y bs ml rt mk methk ck) (h1 : Cond.methodLink own idx y ∈ lw_all) (h2 : Cond.instanceMethod y ∈ lw_all) {C : String} (h3 : Cond.selects C y y ∈ lw_all)
    (hno : y.cls ≠ "java/lang/invoke/MethodHandle" ∧ y.cls ≠ "java/lang/invoke/VarHandle") (hlen : (parseMethodDescriptor y.desc).map (fun d => d.parameters.length) = some va.length) {a : Addr} (hr : ∃ cell : Cell, T.heap[a]? = some cell ∧ cell.vm.isStatics = false ∧ s.vm.findClass C = some cell.cls) (hd : decode c.code pc = .ok (.invokevirtual idx, 3)) : Lnk p l e R s m args below meth c T locs cells slots pc ls (va.reverse ++ .ref a :: rest) rest mk (.ref a :: va) := by
  obtain ⟨f1, f2, f3, f4, f5, f6, f7, f8⟩ := hf
  rw [f8] at hlen
  have hl : va.length = methk.sig.parameters.length := (Option.some.inj hlen).symm
  obtain ⟨cell, c1, c2, c3⟩ := hr
  obtain ⟨mk', methM, hnamed, hmethM, hstM, habM⟩ := Cond.instanceMethod_spec (hws.w h2 args)
  cases f1.symm.trans hnamed
  cases f2.symm.trans hmethM
  obtain ⟨c4, r2, m2, q1, q2, q3, q4, kP, hkP, hkPi⟩ := Cond.selects_spec (hws.w h3 args)
  cases c3.symm.trans q1
  cases (State.methodFound?_of_named f1 hno).symm.trans q2
  cases f1.symm.trans q3
  have hselP : selectMethod e.platform s.vm cell.cls mk = .method mk := by rw [Launch.admits_selectMethod X.admits]; exact q4
  exact X.invokevirtual hexec hown (hws.w h1 args) f1 f2 hstM hkP hkPi hno (a := a) (cell := cell) c1 (fun z h => by rw [h] at c2; cases c2) hselP f2 habM hkP hkPi (g := F0 m pc ls (va.reverse ++ .ref a :: rest)) rfl (argsL := va) (rest := rest) hl rfl hd
theorem Sx.rcv (h : Sx sa sv A s) {i : Nat} (hi : i < 50) (hS : va_S A s.heap H locs) : ∃ cell : Cell, H[sa i]? = some cell ∧ cell.vm.isStatics = false ∧ s.vm.findClass "java/lang/String" = some cell.cls := by
  obtain ⟨cell, h1, h2, h3, -⟩ := (h.1 i hi).1.kept hS.2.1
  exact ⟨cell, h1, h2, h3⟩
theorem pj_ret {v : Int32} {ty : FieldType} (hexec : p.tables.exec = Jvm.exec) (hb : c.code = bs) (hr : meth.sig.returnType = some ty) (hn : narrow ty (.int v) = .int v) (hd : decode bs pc = .ok (.ireturn, 1)) (hl : meth.locks = false) : W p l e R s m args below meth c s.heap [] 0 0 (MF below (PQ (some (.int v))) args s 0 0 (fun _ => False)) (F0 m pc ls [.int v]) :=
  W.mono (fun _ => mf_mq) (W.zret (Qc := PQ (some (.int v))) hexec hb hr hn (fun _ ht _ => ⟨rfl, ht⟩) (fun q h => absurd h List.not_mem_nil) hd hl)
theorem pj_C {i : Nat} (hi : i < 50) : PJ p l e (Exa sa sv A) 0 jC prog_51_method_152_code 1 (some .byte) [.ref (sa i)] (some (.int 0)) := by
  intro R s m below meth c J hx hf hl
  obtain ⟨hexec, hb, hr, hml, hown, hlk, hws⟩ := J
  rw [lg_entry_eq]
  have hh := lv_entry [.ref (sa i)] (n := 1) (by simp [lg_sl, Value.category])
  generalize (lg_sl [Value.ref (sa i)] ++ List.replicate (1 - (lg_sl [Value.ref (sa i)]).length) Slot.unset).toArray = ls at hh ⊢
  have l0 := lv_at hh 0 (i := 0) (v := .ref (sa i)) rfl
  refine va_gets hexec hb hx.2.2.2.1 va_S.rf hown (hws.w jf_Z _) (fun _ h => h) (by decide +kernel) ?_
  refine lv_if_eq (off := 10) (tgt := 13) hexec hb (by decide +kernel) (by decide) (fun q => absurd q (by decide)) (fun _ => ?_)
  refine lv_aload_n (k := 0) hexec hb (by decide +kernel) rfl l0 ?_
  refine vk_getf hexec hb (hx.2.1 i hi).2.1 va_S.rf hown (hws.w jf_D _) (fun _ h => h) (by decide +kernel) ?_
  refine lv_goto (off := 4) (tgt := 14) hexec hb (by decide +kernel) (by decide) ?_
  exact pj_ret hexec hb hr rfl (by decide +kernel) hlk
theorem pj_T {i : Nat} (hi : i < 50) : PJ p l e (Exa sa sv A) 0 jT prog_51_method_154_code 1 (some .boolean) [.ref (sa i)] (some (.int 1)) := by
  intro R s m below meth c J hx hf hl
  obtain ⟨hexec, hb, hr, hml, hown, hlk, hws⟩ := J
  rw [lg_entry_eq]
  have hh := lv_entry [.ref (sa i)] (n := 1) (by simp [lg_sl, Value.category])
  generalize (lg_sl [Value.ref (sa i)] ++ List.replicate (1 - (lg_sl [Value.ref (sa i)]).length) Slot.unset).toArray = ls at hh ⊢
  have l0 := lv_at hh 0 (i := 0) (v := .ref (sa i)) rfl
  refine va_gets hexec hb hx.2.2.2.1 va_S.rf hown (hws.w jf_Z _) (fun _ h => h) (by decide +kernel) ?_
  refine lv_if_eq (off := 14) (tgt := 17) hexec hb (by decide +kernel) (by decide) (fun q => absurd q (by decide)) (fun _ => ?_)
  refine lv_aload_n (k := 0) hexec hb (by decide +kernel) rfl l0 ?_
  refine vk_getf hexec hb (hx.2.1 i hi).2.1 va_S.rf hown (hws.w jf_D _) (fun _ h => h) (by decide +kernel) ?_
  refine lv_if_ne (off := 7) (tgt := 17) hexec hb (by decide +kernel) (by decide) (fun q => absurd rfl q) (fun _ => ?_)
  refine lv_iconst (n := 1) (v := 1) hexec hb (by decide +kernel) rfl ?_
  refine lv_goto (off := 4) (tgt := 18) hexec hb (by decide +kernel) (by decide) ?_
  exact pj_ret hexec hb hr rfl (by decide +kernel) hlk
theorem shr0 {n : Nat} (h : n < 1000) : (Int32.ofNat n) >>> ((0 : Int32) &&& 31) = Int32.ofNat n := by
  have : ∀ n, n < 1000 → (Int32.ofNat n) >>> ((0 : Int32) &&& 31) = Int32.ofNat n := by decide +kernel
  exact this n h
theorem pj_L {i : Nat} (hi : i < 50) : PJ p l e (Exa sa sv A) 1 jL prog_51_method_54_code 1 (some .int) [.ref (sa i)] (some (.int (Int32.ofNat (txl i).length))) := by
  intro R s m below meth c J hx hf hl
  obtain ⟨hexec, hb, hr, hml, hown, hlk, hws⟩ := J
  rw [lg_entry_eq]
  have hh := lv_entry [.ref (sa i)] (n := 1) (by simp [lg_sl, Value.category])
  generalize (lg_sl [Value.ref (sa i)] ++ List.replicate (1 - (lg_sl [Value.ref (sa i)]).length) Slot.unset).toArray = ls at hh ⊢
  have l0 := lv_at hh 0 (i := 0) (v := .ref (sa i)) rfl
  refine lv_aload_n (k := 0) hexec hb (by decide +kernel) rfl l0 ?_
  refine vk_getf hexec hb (hx.2.1 i hi).2.2.1 va_S.rf hown (hws.w jf_V _) (fun _ h => h) (by decide +kernel) ?_
  refine va_tlen hexec hb (hx.2.1 i hi).2.2.2 va_S.rf rfl (by decide +kernel) ?_
  refine lv_aload_n (k := 0) hexec hb (by decide +kernel) rfl l0 ?_
  obtain ⟨mk, methk, ck, hf'⟩ := jf_of hws jc_C
  refine pj_call (exa_m sa sv A) hexec hws hx va_S.rf (pj_C hi) hf' (by decide +kernel) (by decide) (ig := .invokevirtual 335) (by rw [hb]; decide +kernel) (hh.1.trans hml.symm) (by simp [Value.category]) hf (by omega) (Nat.zero_le _) (Nat.zero_le _)
    (fun T hT X => lk_jv (va := []) (rest := [.int (Int32.ofNat (txl i).length)]) hexec hws hown X hf' jl_C ji_C js_C (by decide) dj_C (by rw [hT]; exact hx.2.rcv hi va_S.rf) (by rw [hb]; decide +kernel)) ?_
  refine lv_ishr hexec hb (by decide +kernel) ?_
  rw [shr0 (tx_all i hi).1]
  exact pj_ret hexec hb hr rfl (by decide +kernel) hlk
theorem pj_P {i n : Int32} {w : Value} (h0 : ¬ i < 0) (h1 : i < n) (hw : w.category = 1) : PJ p l e Ex 0 jP prog_56_method_11_code 3 (some .int) [.int i, .int n, w] (some (.int i)) := by
  intro R s m below meth c J hx hf hl
  obtain ⟨hexec, hb, hr, hml, hown, hlk, hws⟩ := J
  rw [lg_entry_eq]
  have hlen : (lg_sl [Value.int i, .int n, w]).length ≤ 3 := by
    unfold lg_sl
    rw [List.flatMap_cons, List.flatMap_cons, List.flatMap_cons, hw]
    simp [Value.category]
  have hh := lv_entry [.int i, .int n, w] (n := 3) hlen
  generalize (lg_sl [Value.int i, .int n, w] ++ List.replicate (3 - (lg_sl [Value.int i, .int n, w]).length) Slot.unset).toArray = ls at hh ⊢
  have l0 := lv_at hh 0 (i := 0) (v := .int i) rfl
  have l1 := lv_at hh 1 (i := 1) (v := .int n) rfl
  refine lv_iload_n (k := 0) hexec hb (by decide +kernel) rfl l0 ?_
  refine lv_if_lt (off := 8) (tgt := 9) hexec hb (by decide +kernel) (by decide) (fun q => absurd q h0) (fun _ => ?_)
  refine lv_iload_n (k := 0) hexec hb (by decide +kernel) rfl l0 ?_
  refine lv_iload_n (k := 1) hexec hb (by decide +kernel) rfl l1 ?_
  refine lv_icmp_lt (off := 10) (tgt := 16) hexec hb (by decide +kernel) (by decide) (fun _ => ?_) (fun q => absurd h1 q)
  refine lv_iload_n (k := 0) hexec hb (by decide +kernel) rfl l0 ?_
  exact pj_ret hexec hb hr rfl (by decide +kernel) hlk
theorem zq_w {C n d : String} {s : State} (h : va_Zq C n d A s s.heap) : ∃ w : Value, va_Z C n d w A s s.heap ∧ w.category = 1 := by
  rcases h with h | ⟨t, h⟩
  · exact ⟨_, h, rfl⟩
  · exact ⟨_, h, rfl⟩
theorem pj_X {i n : Int32} (h0 : ¬ i < 0) (h1 : i < n) : PJ p l e (Exa sa sv A) 1 jX prog_51_method_155_code 2 none [.int i, .int n] none := by
  intro R s m below meth c J hx hf hl
  obtain ⟨hexec, hb, hr, hml, hown, hlk, hws⟩ := J
  rw [lg_entry_eq]
  have hh := lv_entry [.int i, .int n] (n := 2) (by simp [lg_sl, Value.category])
  generalize (lg_sl [Value.int i, .int n] ++ List.replicate (2 - (lg_sl [Value.int i, .int n]).length) Slot.unset).toArray = ls at hh ⊢
  have l0 := lv_at hh 0 (i := 0) (v := .int i) rfl
  have l1 := lv_at hh 1 (i := 1) (v := .int n) rfl
  obtain ⟨w, hz, hw⟩ := zq_w hx.2.2.2.2
  refine lv_iload_n (k := 0) hexec hb (by decide +kernel) rfl l0 ?_
  refine lv_iload_n (k := 1) hexec hb (by decide +kernel) rfl l1 ?_
  refine va_gets hexec hb hz va_S.rf hown (hws.w jf_F _) (fun _ h => h) (by decide +kernel) ?_
  obtain ⟨mk, methk, ck, hf'⟩ := jf_of hws jc_P
  refine pj_call (exa_m sa sv A) hexec hws hx va_S.rf (pj_P (w := w) h0 h1 hw) hf' (by decide +kernel) (by decide) (ig := .invokestatic 1059) (by rw [hb]; decide +kernel) (hh.1.trans hml.symm) (by simp [Value.category]) hf (by omega) (Nat.zero_le _) (Nat.zero_le _)
    (fun T hT X => lk_js (va := [.int i, .int n, w]) (rest := []) hexec hws hown X hf' jl_P jt_P jn_P (by decide) dj_P (by rw [hb]; decide +kernel)) ?_
  refine lv_pop hexec hb (by decide +kernel) rfl ?_
  exact W.mono (fun _ => mf_mq) (W.vret (Qc := PQ none) hexec hb hr (fun _ ht _ => ⟨rfl, ht⟩) (fun q h => absurd h List.not_mem_nil) (by decide +kernel) hlk)
theorem pj_B {i j : Nat} (hi : i < 50) (hj : j < (txl i).length) : PJ p l e (Exa sa sv A) 2 jB prog_52_method_2_code 2 (some .char) [.ref (sv i), .int (Int32.ofNat j)] (some (.int (Int32.ofInt ((txl i).getD j 0)))) := by
  intro R s m below meth c J hx hf hl
  obtain ⟨hexec, hb, hr, hml, hown, hlk, hws⟩ := J
  rw [lg_entry_eq]
  have hh := lv_entry [.ref (sv i), .int (Int32.ofNat j)] (n := 2) (by simp [lg_sl, Value.category])
  generalize (lg_sl [Value.ref (sv i), .int (Int32.ofNat j)] ++ List.replicate (2 - (lg_sl [Value.ref (sv i), .int (Int32.ofNat j)]).length) Slot.unset).toArray = ls at hh ⊢
  have l0 := lv_at hh 0 (i := 0) (v := .ref (sv i)) rfl
  have l1 := lv_at hh 1 (i := 1) (v := .int (Int32.ofNat j)) rfl
  have hL := (tx_all i hi).1
  have n0 : ¬ (Int32.ofNat j) < 0 := nI_pos (n := j) (by omega)
  have n1 : (Int32.ofNat j) < (Int32.ofNat (txl i).length) := nI_lt (a := j) hj (by omega)
  obtain ⟨t1, t2, t3⟩ := tx_at hi hj
  refine lv_iload_n (k := 1) hexec hb (by decide +kernel) rfl l1 ?_
  refine lv_aload_n (k := 0) hexec hb (by decide +kernel) rfl l0 ?_
  refine va_tlen hexec hb (hx.2.1 i hi).2.2.2 va_S.rf rfl (by decide +kernel) ?_
  obtain ⟨mk, methk, ck, hf'⟩ := jf_of hws jc_X
  refine pj_call (exa_m sa sv A) hexec hws hx va_S.rf (pj_X n0 n1) hf' (by decide +kernel) (by decide) (ig := .invokestatic 9) (by rw [hb]; decide +kernel) (hh.1.trans hml.symm) (by simp [Value.category]) hf (by omega) (Nat.zero_le _) (Nat.zero_le _)
    (fun T hT X => lk_js (va := [.int (Int32.ofNat j), .int (Int32.ofNat (txl i).length)]) (rest := []) hexec hws hown X hf' jl_X jt_X jn_S (by decide) dj_X (by rw [hb]; decide +kernel)) ?_
  refine lv_aload_n (k := 0) hexec hb (by decide +kernel) rfl l0 ?_
  refine lv_iload_n (k := 1) hexec hb (by decide +kernel) rfl l1 ?_
  refine va_tb hexec hb (hx.2.1 i hi).2.2.2 va_S.rf (nI_in hj (by omega)) (v := .int (Int32.ofInt ((txl i).getD j 0))) (by rw [show (Int32.ofNat j).toNatClampNeg = j from nI_clamp (n := j) (by omega)]) (by decide +kernel) ?_
  refine lv_sipush (n := 255) (v := 255) hexec hb (by decide +kernel) (by decide) ?_
  refine lv_iand hexec hb (by decide +kernel) ?_
  refine lv_i2c hexec hb (by decide +kernel) t1 ?_
  exact pj_ret hexec hb hr t2 (by decide +kernel) hlk
theorem pj_A {i j : Nat} (hi : i < 50) (hj : j < (txl i).length) : PJ p l e (Exa sa sv A) 3 jA prog_51_method_56_code 2 (some .char) [.ref (sa i), .int (Int32.ofNat j)] (some (.int (Int32.ofInt ((txl i).getD j 0)))) := by
  intro R s m below meth c J hx hf hl
  obtain ⟨hexec, hb, hr, hml, hown, hlk, hws⟩ := J
  rw [lg_entry_eq]
  have hh := lv_entry [.ref (sa i), .int (Int32.ofNat j)] (n := 2) (by simp [lg_sl, Value.category])
  generalize (lg_sl [Value.ref (sa i), .int (Int32.ofNat j)] ++ List.replicate (2 - (lg_sl [Value.ref (sa i), .int (Int32.ofNat j)]).length) Slot.unset).toArray = ls at hh ⊢
  have l0 := lv_at hh 0 (i := 0) (v := .ref (sa i)) rfl
  have l1 := lv_at hh 1 (i := 1) (v := .int (Int32.ofNat j)) rfl
  obtain ⟨t1, t2, t3⟩ := tx_at hi hj
  refine lv_aload_n (k := 0) hexec hb (by decide +kernel) rfl l0 ?_
  obtain ⟨mk, methk, ck, hf'⟩ := jf_of hws jc_T
  refine pj_call (exa_m sa sv A) hexec hws hx va_S.rf (pj_T hi) hf' (by decide +kernel) (by decide) (ig := .invokevirtual 492) (by rw [hb]; decide +kernel) (hh.1.trans hml.symm) (by simp [Value.category]) (by omega) (by omega) (Nat.zero_le _) (Nat.zero_le _)
    (fun T hT X => lk_jv (va := []) (rest := []) hexec hws hown X hf' jl_T ji_T js_T (by decide) dj_T (by rw [hT]; exact hx.2.rcv hi va_S.rf) (by rw [hb]; decide +kernel)) ?_
  refine lv_if_eq (off := 12) (tgt := 16) hexec hb (by decide +kernel) (by decide) (fun q => absurd q (by decide)) (fun _ => ?_)
  refine lv_aload_n (k := 0) hexec hb (by decide +kernel) rfl l0 ?_
  refine vk_getf hexec hb (hx.2.1 i hi).2.2.1 va_S.rf hown (hws.w jf_V _) (fun _ h => h) (by decide +kernel) ?_
  refine lv_iload_n (k := 1) hexec hb (by decide +kernel) rfl l1 ?_
  obtain ⟨mk, methk, ck, hf'⟩ := jf_of hws jc_B
  refine pj_call (exa_m sa sv A) hexec hws hx va_S.rf (pj_B hi hj) hf' (by decide +kernel) (by decide) (ig := .invokestatic 495) (by rw [hb]; decide +kernel) (hh.1.trans hml.symm) (by simp [Value.category]) hf (by omega) (Nat.zero_le _) (Nat.zero_le _)
    (fun T hT X => lk_js (va := [.ref (sv i), .int (Int32.ofNat j)]) (rest := []) hexec hws hown X hf' jl_B jt_B jn_L (by decide) dj_B (by rw [hb]; decide +kernel)) ?_
  exact pj_ret hexec hb hr t2 (by decide +kernel) hlk
end Str
