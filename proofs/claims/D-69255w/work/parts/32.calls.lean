/-! SOUNDNESS, 9: calls: into the callee and back, by return or by throw -/
def RoomOk (d : Nat) (R : Room) : Prop := d + 20 ≤ R.frames ∧ 60 * d + 1000 ≤ R.locals
theorem mxl_le : ∀ m, m < 467 → mxl m ≤ 14 := by decide +kernel
/-- what holds at an activation besides its own method: the script's cell, what a throw needs -/
def Ax (b L : Nat) (xs : Nat → Int32) (A : Nat → Prop) (Ex : State → Prop) (s : State) : Prop := va_X b L xs s s.heap ∧ b < s.heap.size ∧ ¬ A b ∧ (∀ q, s.heap.size ≤ q → A q) ∧ Ex s
section Cal
variable (sa : Nat → Nat) (b : Nat) (aC : Nat → ClassId) (ph : Bool) (L : Nat) (xs : Nat → Int32) (G : va_G) (A : Nat → Prop) (Ex : State → Prop) (p : Program) (l : Launch) (e : Env)
/-- a method's run, as a caller may use it -/
def Cal (d x : Nat) (as : List Wd) (S : St) (rs : (Int ⊕ Int) × St) : Prop :=
  ∀ (R : Room) (s : State) (m : MethodId) (below : List Frame) (meth : Method) (c : Code) (ads : List (Nat × Nat)) (ws : va_W) (vs : List Value),
    Cx G aC p s m meth c x → Ax b L xs A Ex s → Rl sa b aC ph L xs ads ws S → va_P G clK ws s.heap → va_D A ws → sr sa b ads as vs → as.map (·.1) = prm x → RoomOk d R →
    (rs.2 2 0 0 - S 2 0 0).toNat ≤ R.cells → (rs.2 3 0 0 - S 3 0 0).toNat ≤ R.slots →
    W p l e R s m vs.toArray below meth c s.heap [] 0 0 (MF below (Qs sa b aC ph L xs G A ads (rtg x) rs) vs.toArray s (rs.2 2 0 0 - S 2 0 0).toNat (rs.2 3 0 0 - S 3 0 0).toNat A) (entryFrame m vs.toArray (mxl x))
end Cal
theorem steps_up {tb : Tables} {e : Env} {f : Frame} {below : List Frame} {s t : State} (h : Steps tb e (f :: below) s t) : Steps tb e below s t := by
  obtain ⟨n, h1, h2⟩ := h
  refine ⟨n, h1, fun k hk => ?_⟩
  obtain ⟨ab, a1, a2, a3⟩ := h2 k hk
  refine ⟨ab ++ [f], by rw [a1, List.append_assoc]; rfl, by simp, fun a q => a2 ?_⟩
  have := congrArg List.length q
  rw [List.length_append] at this
  exact List.eq_nil_of_length_eq_zero (by simpa using this)
theorem plain_all : ∀ x, x < 467 → plainFor (mnm x) = true := by decide +kernel
section Call
variable {sa : Nat → Nat} {b : Nat} {aC : Nat → ClassId} {ph : Bool} {L : Nat} {xs : Nat → Int32} {G : va_G} {A : Nat → Prop} {Ex : State → Prop}
variable {p : Program} {l : Launch} {e : Env} {R : Room} {s : State} {m : MethodId} {args : Array Value} {below : List Frame} {meth : Method} {c : Code} {mi : Nat}
/-- what is kept of what a throw needs -/
def ExM (A : Nat → Prop) (Ex : State → Prop) : Prop := ∀ s U : State, s.WarmedH U.vm → s.heap.size ≤ U.heap.size → (∀ q : Nat, q < s.heap.size → ¬ A q → U.heap[q]? = s.heap[q]?) → Ex s → Ex U
theorem Ax.moved {U : State} (hE : ExM A Ex) (h : Ax b L xs A Ex s) (hW : s.WarmedH U.vm) (h1 : s.heap.size ≤ U.heap.size) (h2 : ∀ q : Nat, q < s.heap.size → ¬ A q → U.heap[q]? = s.heap[q]?) : Ax b L xs A Ex U := by
  obtain ⟨a1, a2, a3, a4, a5⟩ := h
  exact ⟨(a1.kept (h2 b a2 a3)).moved hW.alike, by omega, a3, fun q hq => a4 q (by omega), hE s U hW h1 h2 a5⟩
set_option maxHeartbeats 2000000 in
/-- into the callee, up to its end -/
theorem sn_body (hE : ExM A Ex) {T : State} {locs : List Loc} {cells slots d x : Nat} {g : JFrame} {ig : Instr} {len : Nat} {mk : MethodId} {methk : Method} {ck : Code} {ads : List (Nat × Nat)} {ws : va_W} {S : St} {as : List Wd} {vs : List Value} {rs : (Int ⊕ Int) × St}
    (C : Cx G aC p s m meth c mi) (hA : Ax b L xs A Ex s) (X : Stand p l e R s m args below meth c T locs cells slots) (hg : g.method = m) (hsize : g.locals.size = c.maxLocals) (hmon : g.monitorRoom = 0) (hdg : decode c.code g.pc = .ok (ig, len)) (hsum : (g.stack.map fun v => v.category).sum ≤ 24)
    (hx : x < 467) (hnm : s.methodNamed? (mnm x) = some mk) (hmk : s.vm.method? mk = some methk) (hck : methk.code = some ck) (hcode : ck.code = mby x) (hml : ck.maxLocals = mxl x) (hret : methk.sig.returnType = mrt x) (hlk : methk.locks = false) (htb : ck.exceptionTable.toList.map (fun h => (h.startPc, h.endPc, h.handlerPc, h.catchType)) = mht x)
    (hRl : Rl sa b aC ph L xs ads ws S) (hP : va_P G clK ws T.heap) (hD : va_D A ws) (hS : va_S A s.heap T.heap locs) (hsr : sr sa b ads as vs) (hpm : as.map (·.1) = prm x) (hR : RoomOk (d + 1) R) (hcal : Cal sa b aC ph L xs G A Ex p l e d x as S rs)
    (hc : cells + (rs.2 2 0 0 - S 2 0 0).toNat ≤ R.cells) (hs : slots + (rs.2 3 0 0 - S 3 0 0).toNat ≤ R.slots) :
    ∃ (t : State) (o : Outcome) (Lc : List Loc), (∀ acts, Steps p.tables e below (doInvoke e (T.setTop g) acts mk vs.toArray).1 t) ∧ Ended t (.java g :: below) o ∧ Qs sa b aC ph L xs G A ads (rtg x) rs vs.toArray (T.calling g mk vs.toArray) o t ∧
      (T.calling g mk vs.toArray).WarmedH t.vm ∧ (T.calling g mk vs.toArray).sameButNew ({ t with vm := (T.calling g mk vs.toArray).vm } : State) Lc (rs.2 2 0 0 - S 2 0 0).toNat (rs.2 3 0 0 - S 3 0 0).toNat ∧ ∀ q ∈ Lc, A q.base := by
  have hmk' : T.vm.method? mk = some methk := by rw [X.warmed.alike.method?]; exact hmk
  have hpk : T.plainMethod mk := State.plainMethod.of_named (plain_all x hx) (X.named hnm) hmk'
  have hmx := mxl_le x hx
  obtain ⟨r1, r2⟩ := hR
  obtain ⟨Y, hinv⟩ := X.into hg hsize hdg vs.toArray (R' := { frames := R.frames - 1, cells := R.cells - cells, slots := R.slots - slots, locals := R.locals - 60 }) hmk' hck hlk hpk (by simp only; omega) (by simp only [hmon, hml]; omega) (by simp only; omega) (by simp only; omega)
  have hW : s.WarmedH (T.calling g mk vs.toArray).vm := X.warmed
  have hCx : Cx G aC p (T.calling g mk vs.toArray) mk methk ck x := by
    refine ⟨C.1, hcode, hret, hml, ?_, hlk, (name_of_methodNamed hnm hmk).1, C.ws.moved hW, va_K.moved hW.alike C.K, htb⟩
    have := findClass_of_methodNamed hnm
    rw [hW.alike.findClass]
    exact this
  have hAx : Ax b L xs A Ex (T.calling g mk vs.toArray) := hA.moved hE hW hS.1 hS.2.1
  have hcal' := hcal { frames := R.frames - 1, cells := R.cells - cells, slots := R.slots - slots, locals := R.locals - 60 } (T.calling g mk vs.toArray) mk (.java g :: below) methk ck ads ws vs hCx hAx hRl hP hD hsr hpm ⟨by simp only; omega, by simp only; omega⟩ (by simp only; omega) (by simp only; omega)
  obtain ⟨t, st, o, h1, h2, h3, Lc, h4, h5, h6⟩ := hcal' ((T.setTop g).pushFrame (.java (entryFrame mk vs.toArray ck.maxLocals))) rfl Y
  refine ⟨t, o, Lc, fun acts => ?_, h2, h3, h4, h5, h6⟩
  rw [hinv acts]
  rw [← hml] at st
  exact steps_up st
end Call
