/-! SOUNDNESS, 17: what the checks of entries say -/
theorem m2_sp {l : List (Nat × Nat)} {a b : Nat} (h : m2 l a b = true) : (a, b) ∈ l := by
  obtain ⟨⟨q1, q2⟩, h1, h2⟩ := List.any_eq_true.mp h
  simp only [Bool.and_eq_true] at h2
  rw [← Nat.eq_of_beq_eq_true h2.1, ← Nat.eq_of_beq_eq_true h2.2]; exact h1
theorem m3_sp {l : List (Nat × Nat × Nat)} {a b c : Nat} (h : m3 l a b c = true) : (a, b, c) ∈ l := by
  obtain ⟨⟨q1, q2, q3⟩, h1, h2⟩ := List.any_eq_true.mp h
  simp only [Bool.and_eq_true] at h2
  rw [← Nat.eq_of_beq_eq_true h2.1, ← Nat.eq_of_beq_eq_true h2.2.1, ← Nat.eq_of_beq_eq_true h2.2.2]; exact h1
theorem m4_sp {l : List (Nat × Nat × Nat × Nat)} {a b c d : Nat} (h : m4 l a b c d = true) : (a, b, c, d) ∈ l := by
  obtain ⟨⟨q1, q2, q3, q4⟩, h1, h2⟩ := List.any_eq_true.mp h
  simp only [Bool.and_eq_true] at h2
  rw [← Nat.eq_of_beq_eq_true h2.1, ← Nat.eq_of_beq_eq_true h2.2.1, ← Nat.eq_of_beq_eq_true h2.2.2.1, ← Nat.eq_of_beq_eq_true h2.2.2.2]; exact h1
theorem m3e_sp {l : List (Nat × Nat × Nat × Nat)} {a b c : Nat} (h : m3e l a b c = true) : ∃ d, (a, b, c, d) ∈ l := by
  obtain ⟨⟨q1, q2, q3, q4⟩, h1, h2⟩ := List.any_eq_true.mp h
  simp only [Bool.and_eq_true] at h2
  rw [← Nat.eq_of_beq_eq_true h2.1, ← Nat.eq_of_beq_eq_true h2.2.1, ← Nat.eq_of_beq_eq_true h2.2.2]; exact ⟨q4, h1⟩
theorem m4e_sp {l : List (Nat × Nat × Nat × Nat × Nat)} {a b c d : Nat} (h : m4e l a b c d = true) : ∃ f, (a, b, c, d, f) ∈ l := by
  obtain ⟨⟨q1, q2, q3, q4, q5⟩, h1, h2⟩ := List.any_eq_true.mp h
  simp only [Bool.and_eq_true] at h2
  rw [← Nat.eq_of_beq_eq_true h2.1, ← Nat.eq_of_beq_eq_true h2.2.1, ← Nat.eq_of_beq_eq_true h2.2.2.1, ← Nat.eq_of_beq_eq_true h2.2.2.2]; exact ⟨q5, h1⟩
theorem m3i_sp {l : List (Nat × Nat × Int)} {a b : Nat} {z : Int} (h : m3i l a b z = true) : (a, b, z) ∈ l := by
  obtain ⟨⟨q1, q2, q3⟩, h1, h2⟩ := List.any_eq_true.mp h
  simp only [Bool.and_eq_true] at h2
  rw [← Nat.eq_of_beq_eq_true h2.1, ← Nat.eq_of_beq_eq_true h2.2.1, ← of_decide_eq_true h2.2.2]; exact h1
theorem mem_sp {l : List Nat} {a : Nat} (h : mem_ l a = true) : a ∈ l := any_nat h
theorem dcd_sp {m pc : Nat} {ins : Instr} {n : Nat} (h : dcd m pc ins n = true) : decode (mby m) pc = .ok (ins, n) := by
  unfold dcd at h
  split at h
  · rename_i q hq
    obtain ⟨h1, h2⟩ := Bool.and_eq_true_iff.mp h
    rw [hq, ← Nat.eq_of_beq_eq_true h1, ← of_decide_eq_true h2]
  · cases h
theorem dcx_sp {m pc : Nat} {ins : Instr} (h : dcx_ m pc ins = true) : ∃ n, decode (mby m) pc = .ok (ins, n) := by
  unfold dcx_ at h
  split at h
  · rename_i q hq
    exact ⟨q.2, by rw [hq, ← of_decide_eq_true h]⟩
  · cases h
theorem nxt_sp {m i pc n : Nat} (h : nxt m i pc n = true) : pcn m (i + 1) = pc + n := Nat.eq_of_beq_eq_true h
theorem jmp_sp {m pc x : Nat} {off : Int} (h : jmp m pc x off = true) : (pc : Int) + off = (pcn m x : Int) := of_decide_eq_true h
theorem okLb_sp {m idx x y : Nat} (h : okLb m idx x y = true) : okL m idx x y := (Bool.or_eq_true_iff.mp h).elim (fun q => Or.inl (m4_sp q)) (fun q => Or.inr (m4e_sp q))
theorem lkb_sp {m idx x : Nat} (h : lkb m idx x = true) : (own m, idx, x) ∈ mlk ∨ ∃ h, (own m, idx, x, h) ∈ mnk := (Bool.or_eq_true_iff.mp h).elim (fun q => Or.inl (m3_sp q)) (fun q => Or.inr (m3e_sp q))
theorem ckc_sp {x : Nat} (h : ckc x = true) : ∀ kd ∈ kl, sb x kd = true → kd = x ∨ (kd, x) ∈ ctk := by
  intro kd hk hs
  have := List.all_eq_true.mp h kd hk
  rw [hs] at this
  have this : (Nat.beq kd x || m2 ctk kd x) = true := this
  exact (Bool.or_eq_true_iff.mp this).elim (fun q => Or.inl (Nat.eq_of_beq_eq_true q)) (fun q => Or.inr (m2_sp q))
theorem outB_sp {m pc : Nat} (h : outB m pc = true) : ∀ q ∈ mht m, ¬ (q.1 ≤ pc ∧ pc < q.2.1) := by
  intro q hq hc
  have := List.all_eq_true.mp h q hq
  rw [show Nat.ble q.1 pc = true from Nat.ble_eq.mpr hc.1, show Nat.blt pc q.2.1 = true from Nat.blt_eq.mpr hc.2] at this
  cases this
theorem okHb_sp {m i pc : Nat} (h : okHb m i pc = true) : okH m i pc := by
  unfold okHb at h
  split at h
  · exact Or.inl ⟨‹_›, outB_sp h⟩
  · rename_i kc tg hq
    split at h
    · rename_i h0 h1 h2 h3 hm
      simp only [Bool.and_eq_true] at h
      obtain ⟨a1, a2, a3, a4, a5, a6⟩ := h
      have a5 : 0 ≤ kc := of_decide_eq_true a5
      refine Or.inr ⟨kc.toNat, tg, h0, h1, h2, h3, ?_, hm, Nat.ble_eq.mp a1, Nat.blt_eq.mp a2, Nat.eq_of_beq_eq_true a3, fun q => ?_, m3_sp a6⟩
      · rw [hq, Int.toNat_of_nonneg a5]
      · rw [q] at a4; cases a4
    · cases h
theorem thr_sp {m pc x : Nat} (h : thr m pc x = true) : decode (mby m) (pc + 3) = .ok (.dup, 1) ∧ decode (mby m) (pc + 7) = .ok (.athrow, 1) ∧ (∀ q ∈ mht m, ¬ (q.1 ≤ pc + 7 ∧ pc + 7 < q.2.1)) ∧ knS x = 6 ∧ ∃ ic, decode (mby m) (pc + 4) = .ok (.invokespecial ic, 3) ∧ (own m, ic, x) ∈ thk := by
  unfold thr at h
  simp only [Bool.and_eq_true] at h
  obtain ⟨a1, a2, a3, a4, a5⟩ := h
  refine ⟨dcd_sp a1, dcd_sp a2, outB_sp a3, Nat.eq_of_beq_eq_true a4, ?_⟩
  split at a5
  · rename_i ic n hq
    obtain ⟨b1, b2⟩ := Bool.and_eq_true_iff.mp a5
    exact ⟨ic, by rw [hq, Nat.eq_of_beq_eq_true b1], m3_sp b2⟩
  · cases a5
theorem okE_all (m i : Nat) (e : En) (h : cod m i = some e) : okE m i e = true := by
  obtain ⟨h1, h2⟩ := cod_lt h
  have := List.all_eq_true.mp (okmA m h1) i (List.mem_range.mpr h2)
  simp only [h] at this
  exact this
