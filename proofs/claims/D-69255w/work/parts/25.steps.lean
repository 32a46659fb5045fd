/-! SOUNDNESS, 4: instruction by instruction (no calls) -/
theorem p1_sp {t : Nat} {st : List Wd} {k : Int → List Wd → Rs} {r : (Int ⊕ Int) × St} (h : p1 t st k = some r) : ∃ v s, st = (t, v) :: s ∧ k v s = some r := by
  cases st with
  | nil => cases h
  | cons w s =>
    simp only [p1] at h
    cases hb : Nat.beq w.1 t with
    | false => rw [hb] at h; cases h
    | true => rw [hb] at h; exact ⟨w.2, s, by rw [← Nat.eq_of_beq_eq_true hb], h⟩
theorem pr_sp {st : List Wd} {k : Nat → Int → List Wd → Rs} {r : (Int ⊕ Int) × St} (h : pr st k = some r) : ∃ g v s, st = (g, v) :: s ∧ 2 ≤ g ∧ k g v s = some r := by
  cases st with
  | nil => cases h
  | cons w s =>
    simp only [pr] at h
    cases hb : Nat.ble 2 w.1 with
    | false => rw [hb] at h; cases h
    | true => rw [hb] at h; exact ⟨w.1, w.2, s, rfl, Nat.ble_eq.mp hb, h⟩
theorem pa_sp {st : List Wd} {k : Wd → List Wd → Rs} {r : (Int ⊕ Int) × St} (h : pa st k = some r) : ∃ w s, st = w :: s ∧ w.1 ≠ 1 ∧ k w s = some r := by
  cases st with
  | nil => cases h
  | cons w s =>
    simp only [pa] at h
    cases hb : Nat.beq w.1 1 with
    | true => rw [hb] at h; cases h
    | false => rw [hb] at h; exact ⟨w, s, rfl, fun q => (by rw [q] at hb; cases hb), h⟩
theorem pl_sp {t i : Nat} {lv : Lv} {k : Int → Rs} {r : (Int ⊕ Int) × St} (h : pl t i lv k = some r) : ∃ v, lg_ lv i = some (t, v) ∧ k v = some r := by
  unfold pl at h
  cases hg : lg_ lv i with
  | none => rw [hg] at h; cases h
  | some w =>
    rw [hg] at h
    simp only at h
    cases hb : Nat.beq w.1 t with
    | false => rw [hb] at h; cases h
    | true => rw [hb] at h; exact ⟨w.2, by rw [← Nat.eq_of_beq_eq_true hb], h⟩
theorem plr_sp {i : Nat} {lv : Lv} {k : Nat → Int → Rs} {r : (Int ⊕ Int) × St} (h : plr i lv k = some r) : ∃ g v, lg_ lv i = some (g, v) ∧ 2 ≤ g ∧ k g v = some r := by
  unfold plr at h
  cases hg : lg_ lv i with
  | none => rw [hg] at h; cases h
  | some w =>
    rw [hg] at h
    simp only at h
    cases hb : Nat.ble 2 w.1 with
    | false => rw [hb] at h; cases h
    | true => rw [hb] at h; exact ⟨w.1, w.2, rfl, Nat.ble_eq.mp hb, h⟩
theorem ck_sp {c : Bool} {a : Rs} {r : (Int ⊕ Int) × St} (h : ck c a = some r) : c = true ∧ a = some r := by
  cases c
  · cases h
  · exact ⟨rfl, h⟩
theorem nz_sp {x : Int} {a : Rs} {r : (Int ⊕ Int) × St} (h : nz x a = some r) : x ≠ 0 ∧ a = some r := by
  unfold nz at h
  split at h
  · cases h
  · exact ⟨‹_›, h⟩
theorem eqr_sp {x y : Int} {a : Rs} {r : (Int ⊕ Int) × St} (h : eqr x y a = some r) : x = y ∧ a = some r := by
  unfold eqr at h
  split at h
  · exact ⟨‹_›, h⟩
  · cases h
theorem ib_sp {x y : Int} {a : Rs} {r : (Int ⊕ Int) × St} (h : ib x y a = some r) : (0 ≤ x ∧ x < y) ∧ a = some r := by
  unfold ib at h
  split at h
  · exact ⟨‹_›, h⟩
  · cases h
theorem tv_sp {x : Int} {a : Rs} {r : (Int ⊕ Int) × St} (h : tv x a = some r) : (x = 0 ∨ x = 1) ∧ a = some r := by
  unfold tv at h
  split at h
  · exact ⟨‹_›, h⟩
  · cases h
theorem cko_sp {α : Type} {o : Option α} {k : α → Rs} {r : (Int ⊕ Int) × St} (h : cko o k = some r) : ∃ a, o = some a ∧ k a = some r := by
  cases o with
  | none => cases h
  | some a => exact ⟨a, rfl, h⟩
theorem ali_sp {ph : Bool} {z x : Int} {a : Rs} {r : (Int ⊕ Int) × St} (h : ali ph z x a = some r) : (ph = true → 2 ≤ z → N0 < x) ∧ a = some r := by
  unfold ali at h
  split at h
  · split at h
    · exact ⟨fun _ _ => ‹_›, h⟩
    · cases h
  · rename_i q
    exact ⟨fun h1 h2 => absurd ⟨h2, h1⟩ q, h⟩
theorem decl_moved {x : MethodName} {s U : State} (hW : s.WarmedH U.vm) (h : va_Decl s x) : va_Decl U x := by
  obtain ⟨r0, r, h1, h2, h3, h4⟩ := h
  exact ⟨r0, r, (State.methodNamed?_setVm hW.alike x).trans h1, by rw [hW.alike.method?]; exact h2, h3, h4⟩
/-- the constructors above the two exceptions -/
def dcx : List MethodName := [Bundle.init0 "java/lang/RuntimeException", Bundle.init0 "java/lang/Exception", Bundle.init0 Bundle.tN]
/-- the words of the tables that every activation has -/
def Wds (s : State) : Prop := (∀ w ∈ lw_all, w.before #[] s = true) ∧ (∀ q ∈ fnk, va_Nw (Cond.fieldLinkNest (cn q.1) q.2.1 (cn q.2.2.1) (fnm q.2.2.2.1) (fds q.2.2.2.1) (cn q.2.2.2.2)) s) ∧
  (∀ q ∈ mnk, va_Nw (Cond.methodLinkNest (cn q.1) q.2.1 (mnm q.2.2.1) (cn q.2.2.2)) s) ∧ (∀ q ∈ ctk, va_Nw (Cond.castable (cn q.1) (cn q.2)) s) ∧ (∀ j, 4 ≤ j → j < 11 → ∀ C, atl.getD j .int = .object C → va_AO C s) ∧ (∀ q ∈ nck, va_Nc (cn q.1) (cn q.2) s) ∧ (∀ j, j < 10 → va_Decl s (dnm j)) ∧ (∀ x ∈ dcx, va_Nw (Cond.declares x) s)
theorem Wds.w {s : State} (h : Wds s) {w : Cond} (hw : w ∈ lw_all) (args : Array Value) : w.before args s = true := by
  obtain ⟨-, hg⟩ := lw_self w hw
  exact word_at (args := #[]) (State.WarmedH.refl s) hg (h.1 w hw)
theorem Wds.moved {s U : State} (hW : s.WarmedH U.vm) (h : Wds s) : Wds U := by
  obtain ⟨h1, h2, h3, h4, h5, h6, h7, h8⟩ := h
  refine ⟨fun w hw => ?_, fun q hq => va_Nw.warmF hW (h2 q hq), fun q hq => va_Nw.warmM hW (h3 q hq), fun q hq => va_Nw.warmC hW (h4 q hq), fun j a1 a2 C e => va_AO.moved hW.alike (h5 j a1 a2 C e), fun q hq => va_Nc.moved hW.alike (h6 q hq), fun j hj => decl_moved hW (h7 j hj), fun x hx => va_Nw.warmD hW (h8 x hx)⟩
  obtain ⟨-, hg⟩ := lw_self w hw
  exact word_at hW hg (h1 w hw)
/-- an activation of method mi -/
def Cx (G : va_G) (aC : Nat → ClassId) (p : Program) (s : State) (m : MethodId) (meth : Method) (c : Code) (mi : Nat) : Prop :=
  p.tables.exec = Jvm.exec ∧ c.code = mby mi ∧ meth.sig.returnType = mrt mi ∧ c.maxLocals = mxl mi ∧ s.vm.findClass (cn (own mi)) = some m.cls ∧ meth.locks = false ∧ meth.name = mnn mi ∧ Wds s ∧ va_K G clK (tysA aC) s ∧ c.exceptionTable.toList.map (fun h => (h.startPc, h.endPc, h.handlerPc, h.catchType)) = mht mi
section Steps
variable (sa : Nat → Nat) (b : Nat) (aC : Nat → ClassId) (ph : Bool) (L : Nat) (xs : Nat → Int32) (G : va_G) (A : Nat → Prop) (n0 u0 : Int) (ads0 : List (Nat × Nat))
variable (p : Program) (l : Launch) (e : Env) (R : Room) (s : State) (m : MethodId) (args : Array Value) (below : List Frame) (meth : Method) (c : Code) (mi : Nat)
/-- the machine's state and the interpreter's -/
def Bn (lv : Lv) (st : List Wd) (S : St) (ads : List (Nat × Nat)) (ws : va_W) (H : Heap) (locs : List Loc) (ls : Array Slot) (vs : List Value) : Prop :=
  Rl sa b aC ph L xs ads ws S ∧ va_P G clK ws H ∧ va_D A ws ∧ va_S A s.heap H locs ∧ (∃ ms, lr sa b ads lv ms ∧ lv_has ls (mxl mi) ms) ∧ sr sa b ads st vs ∧ n0 ≤ S 2 0 0 ∧ u0 ≤ S 3 0 0 ∧ ∃ x, ads = ads0 ++ x
/-- what goes on in the method -/
def Kc (k : Nat → Lv → List Wd → St → Rs) (res : (Int ⊕ Int) × St) (Q : State → Prop) : Prop := ∀ (i : Nat) (lv : Lv) (st : List Wd) (S : St) (ads : List (Nat × Nat)) (ws : va_W) (H : Heap) (locs : List Loc) (ls : Array Slot) (vs : List Value),
  k i lv st S = some res → Bn sa b aC ph L xs G A n0 u0 ads0 s mi lv st S ads ws H locs ls vs → W p l e R s m args below meth c H locs (S 2 0 0 - n0).toNat (S 3 0 0 - u0).toNat Q (F0 m (pcn mi i) ls vs)
end Steps
