/-! THE START, 1: what holds at the law's entry: the words, the String constants, the statics, the classes -/
set_option maxRecDepth 100000
def FL : List Cond := flatC (Jvm.Cond.and given_1 narrow_1)
/-- the parts of what the Statement says of String constants -/
def x_E (c : Cond) : Option (String × Nat × Int32 × Int32) := match c with
  | .eq (.elem (.field (.string o k) a n d) (.int j)) (.int v) => if a = "java/lang/String" ∧ n = "value" ∧ d = "[B" then some (o, k, j, v) else none
  | _ => none
def x_L (c : Cond) : Option (String × Nat × Int32) := match c with
  | .eq (.length (.field (.string o k) a n d)) (.int v) => if a = "java/lang/String" ∧ n = "value" ∧ d = "[B" then some (o, k, v) else none
  | _ => none
def x_C (c : Cond) : Option (String × Nat × Int32) := match c with
  | .eq (.field (.string o k) a n d) (.int v) => if a = "java/lang/String" ∧ n = "coder" ∧ d = "B" then some (o, k, v) else none
  | _ => none
def x_A (c : Cond) : Option (String × Nat) := match c with
  | .arrayOf (.field (.string o k) a n d) ty => if a = "java/lang/String" ∧ n = "value" ∧ d = "[B" ∧ ty = .byte then some (o, k) else none
  | _ => none
def x_X (c : Cond) : Option (String × Nat) := match c with
  | .exactly (.string o k) a => if a = "java/lang/String" then some (o, k) else none
  | _ => none
def x_Q (c : Cond) : Option (String × Nat × String × Nat) := match c with
  | .eq (.string o k) (.string o' k') => some (o, k, o', k')
  | _ => none
theorem x_E_sp {c : Cond} {q : String × Nat × Int32 × Int32} (h : x_E c = some q) : c = .eq (.elem (.field (.string q.1 q.2.1) "java/lang/String" "value" "[B") (.int q.2.2.1)) (.int q.2.2.2) := by
  unfold x_E at h
  split at h
  · split at h
    · rename_i z
      obtain ⟨rfl, rfl, rfl⟩ := z
      cases h
      rfl
    · cases h
  · cases h
theorem x_L_sp {c : Cond} {q : String × Nat × Int32} (h : x_L c = some q) : c = .eq (.length (.field (.string q.1 q.2.1) "java/lang/String" "value" "[B")) (.int q.2.2) := by
  unfold x_L at h
  split at h
  · split at h
    · rename_i z
      obtain ⟨rfl, rfl, rfl⟩ := z
      cases h
      rfl
    · cases h
  · cases h
theorem x_C_sp {c : Cond} {q : String × Nat × Int32} (h : x_C c = some q) : c = .eq (.field (.string q.1 q.2.1) "java/lang/String" "coder" "B") (.int q.2.2) := by
  unfold x_C at h
  split at h
  · split at h
    · rename_i z
      obtain ⟨rfl, rfl, rfl⟩ := z
      cases h
      rfl
    · cases h
  · cases h
theorem x_A_sp {c : Cond} {q : String × Nat} (h : x_A c = some q) : c = .arrayOf (.field (.string q.1 q.2) "java/lang/String" "value" "[B") .byte := by
  unfold x_A at h
  split at h
  · split at h
    · rename_i z
      obtain ⟨rfl, rfl, rfl, rfl⟩ := z
      cases h
      rfl
    · cases h
  · cases h
theorem x_X_sp {c : Cond} {q : String × Nat} (h : x_X c = some q) : c = .exactly (.string q.1 q.2) "java/lang/String" := by
  unfold x_X at h
  split at h
  · split at h
    · rename_i z
      subst z
      cases h
      rfl
    · cases h
  · cases h
theorem x_Q_sp {c : Cond} {q : String × Nat × String × Nat} (h : x_Q c = some q) : c = .eq (.string q.1 q.2.1) (.string q.2.2.1 q.2.2.2) := by
  unfold x_Q at h
  split at h
  · cases h
    rfl
  · cases h
def FE : List (String × Nat × Int32 × Int32) := FL.filterMap x_E
def FLe : List (String × Nat × Int32) := FL.filterMap x_L
def FC : List (String × Nat × Int32) := FL.filterMap x_C
def FA : List (String × Nat) := FL.filterMap x_A
def FX : List (String × Nat) := FL.filterMap x_X
def FQ : List (String × Nat × String × Nat) := FL.filterMap x_Q
def stB (i : Nat) : Bool := FX.any (fun q => Nat.beq q.2 (tri i) && decide (q.1 = cn (trc i))) && (FA.any (fun q => Nat.beq q.2 (tri i) && decide (q.1 = cn (trc i))) && (FC.any (fun q => Nat.beq q.2.1 (tri i) && (decide (q.2.2 = 0) && decide (q.1 = cn (trc i)))) &&
  (FLe.any (fun q => Nat.beq q.2.1 (tri i) && (decide (q.2.2 = Int32.ofNat (txl i).length) && decide (q.1 = cn (trc i)))) &&
  (List.range (txl i).length).all (fun j => FE.any (fun q => Nat.beq q.2.1 (tri i) && (decide (q.2.2.1 = Int32.ofNat j) && (decide (q.2.2.2 = Int32.ofInt ((txl i).getD j 0)) && decide (q.1 = cn (trc i)))))))))
theorem st_all : ((List.range 50).all stB) = true := by decide +kernel
def sqB (q : Nat × Nat × Nat) : Bool := Nat.blt q.2.2 50 && ((Nat.beq q.1 (trc q.2.2) && Nat.beq q.2.1 (tri q.2.2)) || FQ.any (fun z => (Nat.beq z.2.1 q.2.1 && (Nat.beq z.2.2.2 (tri q.2.2) && (decide (z.1 = cn q.1) && decide (z.2.2.1 = cn (trc q.2.2))))) || (Nat.beq z.2.2.2 q.2.1 && (Nat.beq z.2.1 (tri q.2.2) && (decide (z.2.2.1 = cn q.1) && decide (z.1 = cn (trc q.2.2)))))))
theorem sq_all : (srk.all sqB) = true := by decide +kernel
section Start
variable {args : Array Value} {s : State} {A : Nat → Prop}
theorem st_i {i : Nat} (hi : i < 50) (hs : ∀ c ∈ FL, c.before args s = true) : (Cond.exactly (.string (cn (trc i)) (tri i)) "java/lang/String").before args s = true ∧ (Cond.eq (.field (.string (cn (trc i)) (tri i)) "java/lang/String" "coder" "B") (.int 0)).before args s = true ∧
    (Cond.arrayOf (.field (.string (cn (trc i)) (tri i)) "java/lang/String" "value" "[B") .byte).before args s = true ∧ (Cond.eq (.length (.field (.string (cn (trc i)) (tri i)) "java/lang/String" "value" "[B")) (.int (Int32.ofNat (txl i).length))).before args s = true ∧
    ∀ j : Nat, j < (txl i).length → (Cond.eq (.elem (.field (.string (cn (trc i)) (tri i)) "java/lang/String" "value" "[B") (.int (Int32.ofNat j))) (.int (Int32.ofInt ((txl i).getD j 0)))).before args s = true := by
  have h := List.all_eq_true.mp st_all i (List.mem_range.mpr hi)
  unfold stB at h
  simp only [Bool.and_eq_true] at h
  obtain ⟨h1, h2, h3, h4, h5⟩ := h
  refine ⟨?_, ?_, ?_, ?_, fun j hj => ?_⟩
  · obtain ⟨q, g1, g2⟩ := List.any_eq_true.mp h1
    obtain ⟨g3, g4⟩ := Bool.and_eq_true_iff.mp g2
    obtain ⟨c, g5, g6⟩ := List.mem_filterMap.mp g1
    have := hs c g5
    rw [x_X_sp g6, Nat.eq_of_beq_eq_true g3, of_decide_eq_true g4] at this
    exact this
  · obtain ⟨q, g1, g2⟩ := List.any_eq_true.mp h3
    simp only [Bool.and_eq_true] at g2
    obtain ⟨c, g5, g6⟩ := List.mem_filterMap.mp g1
    have := hs c g5
    rw [x_C_sp g6, Nat.eq_of_beq_eq_true g2.1, of_decide_eq_true g2.2.1, of_decide_eq_true g2.2.2] at this
    exact this
  · obtain ⟨q, g1, g2⟩ := List.any_eq_true.mp h2
    obtain ⟨g3, g4⟩ := Bool.and_eq_true_iff.mp g2
    obtain ⟨c, g5, g6⟩ := List.mem_filterMap.mp g1
    have := hs c g5
    rw [x_A_sp g6, Nat.eq_of_beq_eq_true g3, of_decide_eq_true g4] at this
    exact this
  · obtain ⟨q, g1, g2⟩ := List.any_eq_true.mp h4
    simp only [Bool.and_eq_true] at g2
    obtain ⟨c, g5, g6⟩ := List.mem_filterMap.mp g1
    have := hs c g5
    rw [x_L_sp g6, Nat.eq_of_beq_eq_true g2.1, of_decide_eq_true g2.2.1, of_decide_eq_true g2.2.2] at this
    exact this
  · obtain ⟨q, g1, g2⟩ := List.any_eq_true.mp (List.all_eq_true.mp h5 j (List.mem_range.mpr hj))
    simp only [Bool.and_eq_true] at g2
    obtain ⟨c, g5, g6⟩ := List.mem_filterMap.mp g1
    have := hs c g5
    rw [x_E_sp g6, Nat.eq_of_beq_eq_true g2.1, of_decide_eq_true g2.2.1, of_decide_eq_true g2.2.2.1, of_decide_eq_true g2.2.2.2] at this
    exact this
theorem eq_ref {t1 t2 : Term} {a : Nat} (h : (Cond.eq t1 t2).before args s = true) (h1 : t1.eval args s none [] s = some (.ref a)) : t2.eval args s none [] s = some (.ref a) := by
  cases h2 : t2.eval args s none [] s with
  | none => simp [Cond.before, Cond.holds, Cond.value, h1, h2] at h
  | some w => cases w <;> simp_all [Cond.before, Cond.holds, Cond.value]
theorem eq_ref' {t1 t2 : Term} {a : Nat} (h : (Cond.eq t1 t2).before args s = true) (h2 : t2.eval args s none [] s = some (.ref a)) : t1.eval args s none [] s = some (.ref a) := by
  cases h1 : t1.eval args s none [] s with
  | none => simp [Cond.before, Cond.holds, Cond.value, h1, h2] at h
  | some w => cases w <;> simp_all [Cond.before, Cond.holds, Cond.value]
/-- the String constants -/
theorem st_Sx (hs : ∀ c ∈ FL, c.before args s = true) (hts : ∀ w ∈ lw_tbl, w.before args s = true) (hA : ∀ a : Nat, a < s.heap.size → ¬ A a) : ∃ sa sv : Nat → Nat, Sx sa sv A s := by
  have h0 : ∀ i : Nat, ∃ q : Nat × Nat, i < 50 → (Term.string (cn (trc i)) (tri i)).eval args s none [] s = some (.ref q.1) ∧ va_O "java/lang/String" q.1 A s s.heap ∧ va_OF "java/lang/String" "coder" "B" (.int 0) q.1 A s s.heap ∧ va_OF "java/lang/String" "value" "[B" (.ref q.2) q.1 A s s.heap ∧ va_T .byte q.2 (txl i).length (fun j => .int (Int32.ofInt ((txl i).getD j 0))) A s s.heap := by
    intro i
    by_cases hi : i < 50
    · obtain ⟨e1, e2, e3, e4, e5⟩ := st_i hi hs
      have hl := (tx_all i hi).1
      obtain ⟨a, c, cA, kA, q1, q2, q3, q4, q5, q6, -⟩ := Cond.exactly_spec (args := args) (first := s) (o := none) (s := s) (idx := []) (t := .string (cn (trc i)) (tri i)) (cls := "java/lang/String") e1
      obtain ⟨t, ht, hT⟩ := va_Tof (f := fun j => .int (Int32.ofInt ((txl i).getD j 0))) (A := A) (by omega) e3 (va_eqt e4) (fun j hj => va_eqt (e5 j hj)) hA
      exact ⟨(a, t), fun _ => ⟨q1, ⟨cA, q3, q5, by rw [q6]; exact q2, hA a (Array.getElem?_eq_some_iff.mp q3).1⟩, vk_OFof q1 (va_eqt e2) hA, vk_OFof q1 ht hA, hT⟩⟩
    · exact ⟨(0, 0), fun h => absurd h hi⟩
  obtain ⟨ad, had⟩ := Classical.axiomOfChoice h0
  refine ⟨fun i => (ad i).1, fun i => (ad i).2, fun i hi => (had i hi).2, fun q hq => ?_, ?_, ?_⟩
  · have hb := List.all_eq_true.mp sq_all q hq
    unfold sqB at hb
    obtain ⟨hb1, hb2⟩ := Bool.and_eq_true_iff.mp hb
    have h1 := (had q.2.2 (Nat.blt_eq.mp hb1)).1
    refine vk_R.of (A := args) (hts _ (srk_ok q hq)) ?_
    rcases Bool.or_eq_true_iff.mp hb2 with g | g
    · obtain ⟨g1, g2⟩ := Bool.and_eq_true_iff.mp g
      rw [Nat.eq_of_beq_eq_true g1, Nat.eq_of_beq_eq_true g2]
      exact h1
    · obtain ⟨z, g1, g2⟩ := List.any_eq_true.mp g
      obtain ⟨c, g5, g6⟩ := List.mem_filterMap.mp g1
      have hc := hs c g5
      rw [x_Q_sp g6] at hc
      rcases Bool.or_eq_true_iff.mp g2 with g3 | g3
      · simp only [Bool.and_eq_true] at g3
        rw [Nat.eq_of_beq_eq_true g3.1, Nat.eq_of_beq_eq_true g3.2.1, of_decide_eq_true g3.2.2.1, of_decide_eq_true g3.2.2.2] at hc
        exact eq_ref' hc h1
      · simp only [Bool.and_eq_true] at g3
        rw [Nat.eq_of_beq_eq_true g3.1, Nat.eq_of_beq_eq_true g3.2.1, of_decide_eq_true g3.2.2.1, of_decide_eq_true g3.2.2.2] at hc
        exact eq_ref hc h1
  · exact va_Zof (hts _ lst_Z) (hts _ ins_S) (va_eqi (hs (Cond.eq (.static "java/lang/String" "COMPACT_STRINGS" "Z") (.int 1)) (by decide +kernel))) hA
  · exact va_Zqof (hts _ lst_F) (hts _ ins_P) (hs (Cond.isRef (.static "jdk/internal/util/Preconditions" "SIOOBE_FORMATTER" "Ljava/util/function/BiFunction;")) (by decide +kernel)) hA
/-- what a throw needs -/
theorem st_Exs (hs : ∀ c ∈ FL, c.before args s = true) (hts : ∀ w ∈ lw_tbl, w.before args s = true) (hA : ∀ a : Nat, a < s.heap.size → ¬ A a) : Exs A s :=
  ⟨va_Zqof (hts _ lst_U) (hts _ ins_T) (hs (Cond.isRef (.static "java/lang/Throwable" "UNASSIGNED_STACK" "[Ljava/lang/StackTraceElement;")) (by decide +kernel)) hA,
   va_Zqof (hts _ lst_S) (hts _ ins_T) (hs (Cond.isRef (.static "java/lang/Throwable" "SUPPRESSED_SENTINEL" "Ljava/util/List;")) (by decide +kernel)) hA, hts _ lst_U, hts _ lst_S⟩
theorem nc_all : ∀ q ∈ nck, Cond.not (.castable (cn q.1) (cn q.2)) ∈ FL := by decide +kernel
/-- the words -/
theorem st_Wds (hs : ∀ c ∈ FL, c.before args s = true) (hts : ∀ w ∈ lw_tbl, w.before args s = true) : Wds s := by
  have h1 : ∀ w ∈ lw_all, w.before #[] s = true := fun w hw => word_at (args := args) (State.WarmedH.refl s) (lw_self w hw).2 (hts w (lw_all_tbl hw))
  have dm : ∀ {x : Nat}, x ∈ cdk → x ∈ imk → va_Decl s (mnm x) := fun {x} hc hi => va_Decl.of (args := #[]) (h1 _ (imk_ok x hi)) (h1 _ (cdk_ok x hc))
  refine ⟨h1, fun q hq => va_Nw.of rfl (hts _ (fnk_ok q hq)), fun q hq => va_Nw.of rfl (hts _ (mnk_ok q hq)), fun q hq => va_Nw.of rfl (hts _ (ctk_ok q hq)), ?_, fun q hq => va_Nc.of (hs _ (nc_all q hq)), ?_, ?_⟩
  · intro j a1 a2 C e
    match j, a1, a2 with
    | 4, _, _ => cases e; exact va_AO.of (hts _ aov_0)
    | 5, _, _ => cases e; exact va_AO.of (hts _ aov_1)
    | 6, _, _ => cases e; exact va_AO.of (hts _ aov_2)
    | 7, _, _ => cases e; exact va_AO.of (hts _ aov_3)
    | 8, _, _ => cases e; exact va_AO.of (hts _ aov_4)
    | 9, _, _ => cases e; exact va_AO.of (hts _ aov_5)
    | 10, _, _ => cases e; exact va_AO.of (hts _ aov_6)
  · intro j hj
    match j, hj with
    | 0, _ => exact va_Decl.abs (va_Nw.of rfl (hts _ ddc_0))
    | 1, _ => rw [ddc_1]; exact dm (any_nat (by decide +kernel)) (any_nat (by decide +kernel))
    | 2, _ => exact va_Decl.abs (va_Nw.of rfl (hts _ ddc_2))
    | 3, _ => rw [ddc_3]; exact dm (any_nat (by decide +kernel)) (any_nat (by decide +kernel))
    | 4, _ => exact va_Decl.abs (va_Nw.of rfl (hts _ ddc_4))
    | 5, _ => exact va_Decl.abs (va_Nw.of rfl (hts _ ddc_5))
    | 6, _ => exact va_Decl.abs (va_Nw.of rfl (hts _ ddc_6))
    | 7, _ => rw [ddc_7]; exact dm (any_nat (by decide +kernel)) (any_nat (by decide +kernel))
    | 8, _ => rw [ddc_8]; exact dm (any_nat (by decide +kernel)) (any_nat (by decide +kernel))
    | 9, _ => rw [ddc_9]; exact dm (any_nat (by decide +kernel)) (any_nat (by decide +kernel))
  · intro x hx
    simp only [dcx, List.mem_cons, List.not_mem_nil, or_false] at hx
    rcases hx with rfl | rfl | rfl
    · exact va_Nw.of rfl (hts _ dcl_0)
    · exact va_Nw.of rfl (hts _ dcl_1)
    · exact va_Nw.of rfl (hts _ dcl_2)
theorem st_arr (hts : ∀ w ∈ lw_tbl, w.before args s = true) : ∀ j, ∃ cA : ClassId, j < 11 → ArrOfT s cA (atl.getD j .int) ∧ va_RA s cA (atl.getD j .int) := by
  have prim : ∀ ty : FieldType, (∀ C, ty ≠ .object C) → (Cond.arrayClass ty).before args s = true → ∃ cA : ClassId, ArrOfT s cA ty ∧ va_RA s cA ty := by
    intro ty hne h
    obtain ⟨c, k, comp, h1, h2, h3⟩ := Cond.arrayClass_spec (args := args) (first := s) (o := none) (s := s) (idx := []) h
    refine ⟨c, fun n z => ⟨fun k h => (by cases h), k, h2, comp, h3⟩, ?_⟩
    cases ty <;> first | exact h1 | exact absurd rfl (hne _)
  have ob : ∀ C : String, (Cond.arrayOver (.object C)).before args s = true → ∃ cA : ClassId, ArrOfT s cA (.object C) ∧ va_RA s cA (.object C) := by
    intro C h
    obtain ⟨comp, c, k, h1, -, h2, h3, h4⟩ := Cond.arrayOver_spec (args := args) (first := s) (o := none) (s := s) (idx := []) h
    exact ⟨c, fun n z => ⟨fun k h => (by cases h), k, h2, comp, h3⟩, k, comp, h2, h3, h1, h4⟩
  intro j
  match j with
  | 0 => obtain ⟨c, h⟩ := prim .int (fun _ h => by cases h) (hts _ (lw_all_tbl ack_0)); exact ⟨c, fun _ => h⟩
  | 1 => obtain ⟨c, h⟩ := prim .byte (fun _ h => by cases h) (hts _ (lw_all_tbl ack_1)); exact ⟨c, fun _ => h⟩
  | 2 => obtain ⟨c, h⟩ := prim .boolean (fun _ h => by cases h) (hts _ (lw_all_tbl ack_2)); exact ⟨c, fun _ => h⟩
  | 3 => obtain ⟨c, h⟩ := prim .long (fun _ h => by cases h) (hts _ (lw_all_tbl ack_3)); exact ⟨c, fun _ => h⟩
  | 4 => obtain ⟨c, h⟩ := ob _ (hts _ aov_0); exact ⟨c, fun _ => h⟩
  | 5 => obtain ⟨c, h⟩ := ob _ (hts _ aov_1); exact ⟨c, fun _ => h⟩
  | 6 => obtain ⟨c, h⟩ := ob _ (hts _ aov_2); exact ⟨c, fun _ => h⟩
  | 7 => obtain ⟨c, h⟩ := ob _ (hts _ aov_3); exact ⟨c, fun _ => h⟩
  | 8 => obtain ⟨c, h⟩ := ob _ (hts _ aov_4); exact ⟨c, fun _ => h⟩
  | 9 => obtain ⟨c, h⟩ := ob _ (hts _ aov_5); exact ⟨c, fun _ => h⟩
  | 10 => obtain ⟨c, h⟩ := ob _ (hts _ aov_6); exact ⟨c, fun _ => h⟩
  | n + 11 => exact ⟨0, fun h => absurd h (by omega)⟩
theorem kl_isk : ∀ k ∈ kl, mem_ isk_ k = true := by decide +kernel
/-- the classes and the arrays -/
theorem st_K (hts : ∀ w ∈ lw_tbl, w.before args s = true) : ∃ (G : va_G) (aC : Nat → ClassId), va_K G clK (tysA aC) s := by
  have hw : ∀ w ∈ lw_all, w.before args s = true := fun w h => hts w (lw_all_tbl h)
  have hk : ∀ c : Nat, ∃ q : ClassId × (Nat → Nat), ∀ r : vw_C, clK[c]? = some r → u_Kn s r.1 r.2.1 r.2.2 q.1 q.2 := by
    intro c
    cases hc : clK[c]? with
    | none => exact ⟨(0, fun _ => 0), fun r h => by cases h⟩
    | some r =>
      have hc' := hc
      rw [clK, List.getElem?_map] at hc'
      cases hq : kl[c]? with
      | none => rw [hq] at hc'; cases hc'
      | some k =>
        rw [hq] at hc'
        cases hc'
        have hk := List.mem_of_getElem? hq
        obtain ⟨cC, iS, h⟩ := u_known (n := knS k) hw (kin k hk) (hw _ (isk__ok k (mem_sp (kl_isk k hk))))
        exact ⟨(cC, iS), fun r h' => by cases h'; exact h⟩
  obtain ⟨f, hf⟩ := Classical.axiomOfChoice hk
  obtain ⟨aC, ha⟩ := Classical.axiomOfChoice (st_arr hts)
  refine ⟨(fun c => (f c).1, fun c => (f c).2), aC, fun c q hq => hf c q hq, fun k q hq => ?_⟩
  rw [tysA, List.getElem?_map] at hq
  cases hr : (List.range 11)[k]? with
  | none => rw [hr] at hq; cases hq
  | some j =>
    rw [hr] at hq
    cases hq
    have hlt : k < 11 := by
      have := (List.getElem?_eq_some_iff.mp hr).1
      simpa using this
    have : j = k := by
      rw [List.getElem?_range hlt] at hr
      exact (Option.some.inj hr).symm
    subst this
    exact ha j hlt
end Start
