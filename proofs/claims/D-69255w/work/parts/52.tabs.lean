/-! LAYER 3, 2: tables: need, lasts, watch, bind, alarm, second, may -/
/-- both answer the same, and then P -/
def Two (f g : St → Rs) (S : St) (P : St → Prop) : Prop := ∃ v S1 S2, f S = some (.inl v, S1) ∧ g S1 = some (.inl v, S2) ∧ P S2
/-- what levels are needed, how long they last -/
def RNd (S : St) : Prop := (∀ a b : Int, 1 ≤ a → a ≤ 14 → 1 ≤ b → b ≤ 14 → S 122 144 (16 * a + b) = S 72 29 (a * 15 + b) ∧ 0 ≤ S 72 29 (a * 15 + b) ∧ S 72 29 (a * 15 + b) ≤ 5) ∧
  ∀ k : Int, 1 ≤ k → k ≤ 5 → S 123 145 k = S 73 30 k ∧ 0 ≤ S 73 30 k ∧ S 73 30 k ≤ 1000000
theorem need_ok (d : Nat) (a b c : Int) (S : St) (h : RNd S) : Two (jH_need (d + 1) a b c) (jM_need d a b c) S (fun S2 => RNd S2 ∧ ∀ g, g ≠ 72 → g ≠ 122 → S2 g = S g) := by
  by_cases g : 1 ≤ a ∧ a ≤ 14 ∧ 1 ≤ b ∧ b ≤ 14 ∧ 0 ≤ c ∧ c ≤ 5
  · obtain ⟨g1, g2, g3, g4, g5, g6⟩ := g
    have e1 : w32 (w32 (a * 15) + b) = a * 15 + b := by rw [w32_eq (x := a * 15) (by omega) (by omega), w32_eq (by omega) (by omega)]
    have e2 : w32 (w32 (16 * a) + b) = 16 * a + b := by rw [w32_eq (x := 16 * a) (by omega) (by omega), w32_eq (by omega) (by omega)]
    refine ⟨1, up S 72 29 (a * 15 + b) c, up (up S 72 29 (a * 15 + b) c) 122 144 (16 * a + b) c, ?_, ?_, ⟨?_, ?_⟩, ?_⟩
    · simp only [jH_need_e, jH_isLiquid_e, lt_eq, ib, cl, bd, e1]
      repeat' split
      all_goals first | (exfalso; omega) | rfl | skip
      all_goals simp_all [bd]
      all_goals omega
    · simp only [jM_need_e, lt_eq, ib, e2]
      repeat' split
      all_goals first | (exfalso; omega) | rfl
    · intro x y x1 x2 y1 y2
      simp only [up_ap]
      have := h.1 x y x1 x2 y1 y2
      by_cases q : x = a ∧ y = b
      · obtain ⟨rfl, rfl⟩ := q
        simp
        omega
      · have n1 : ¬ (16 * x + y = 16 * a + b) := by omega
        have n2 : ¬ (x * 15 + y = a * 15 + b) := by omega
        simp [n1, n2]
        exact this
    · intro k k1 k2
      simp only [up_ap]
      simp
      exact h.2 k k1 k2
    · intro f f1 f2
      funext r i
      simp only [up_ap]
      simp [f1, f2]
  · refine ⟨0, S, S, ?_, ?_, h, fun _ _ _ => rfl⟩
    · simp only [jH_need_e, jH_isLiquid_e, lt_eq, ib, cl, bd]
      repeat' split
      all_goals first | (exfalso; omega) | rfl | skip
      all_goals simp_all [bd]
      all_goals omega
    · simp only [jM_need_e, lt_eq, ib]
      repeat' split
      all_goals first | (exfalso; omega) | rfl
theorem lasts_ok (d d' : Nat) (a b : Int) (S : St) (h : RNd S) : Two (jH_lasts d a b) (jM_lasts d' a b) S (fun S2 => RNd S2 ∧ ∀ g, g ≠ 73 → g ≠ 123 → S2 g = S g) := by
  by_cases g : 1 ≤ a ∧ a ≤ 5 ∧ 0 ≤ b ∧ b ≤ 1000000
  · obtain ⟨g1, g2, g3, g4⟩ := g
    refine ⟨1, up S 73 30 a b, up (up S 73 30 a b) 123 145 a b, ?_, ?_, ⟨?_, ?_⟩, ?_⟩
    · simp only [jH_lasts_e, lt_eq, ib]
      repeat' split
      all_goals first | (exfalso; omega) | rfl
    · simp only [jM_lasts_e, lt_eq, ib]
      repeat' split
      all_goals first | (exfalso; omega) | rfl
    · intro x y x1 x2 y1 y2
      simp only [up_ap]
      simp
      exact h.1 x y x1 x2 y1 y2
    · intro k k1 k2
      simp only [up_ap]
      have := h.2 k k1 k2
      by_cases q : k = a
      · simp [q]; omega
      · simp [q]; exact this
    · intro f f1 f2
      funext r i
      simp only [up_ap]
      simp [f1, f2]
  · refine ⟨0, S, S, ?_, ?_, h, fun _ _ _ => rfl⟩
    · simp only [jH_lasts_e, lt_eq, ib]
      repeat' split
      all_goals first | (exfalso; omega) | rfl
    · simp only [jM_lasts_e, lt_eq, ib]
      repeat' split
      all_goals first | (exfalso; omega) | rfl
/-- conditions that are watched -/
def RWc (S : St) : Prop := ∀ k : Int, 0 ≤ k → k < 16 → ((S 77 34 k = 5 ∧ S 149 171 k = -1) ∨ (S 149 171 k = S 77 34 k ∧ 0 ≤ S 77 34 k ∧ S 77 34 k ≤ 5)) ∧ S 150 172 k = S 78 35 k ∧ S 151 173 k = S 79 36 k
theorem watch_ok (d d' : Nat) (a b c e : Int) (S : St) (h : RWc S) : Two (jH_watch d a b c e) (jM_watch d' a b c e) S (fun S2 => RWc S2 ∧ ∀ g, g ≠ 77 → g ≠ 78 → g ≠ 79 → g ≠ 149 → g ≠ 150 → g ≠ 151 → S2 g = S g) := by
  by_cases g : 0 ≤ a ∧ a < 16 ∧ 0 ≤ b ∧ b ≤ 5
  · obtain ⟨g1, g2, g3, g4⟩ := g
    refine ⟨1, up (up (up S 77 34 a b) 78 35 a c) 79 36 a e, up (up (up (up (up (up S 77 34 a b) 78 35 a c) 79 36 a e) 149 171 a b) 150 172 a c) 151 173 a e, ?_, ?_, ?_, ?_⟩
    · simp only [jH_watch_e, lt_eq, ib]
      repeat' split
      all_goals first | (exfalso; omega) | rfl
    · simp only [jM_watch_e, lt_eq, ib]
      repeat' split
      all_goals first | (exfalso; omega) | rfl
    · intro k k1 k2
      simp only [up_ap]
      have := h k k1 k2
      by_cases q : k = a
      · simp [q]; omega
      · simp [q]; exact this
    · intro f f1 f2 f3 f4 f5 f6
      funext r i
      simp only [up_ap]
      simp [f1, f2, f3, f4, f5, f6]
  · refine ⟨0, S, S, ?_, ?_, h, fun _ _ _ _ _ _ _ => rfl⟩
    · simp only [jH_watch_e, lt_eq, ib]
      repeat' split
      all_goals first | (exfalso; omega) | rfl
    · simp only [jM_watch_e, lt_eq, ib]
      repeat' split
      all_goals first | (exfalso; omega) | rfl
/-- what acts do -/
def RBd (S : St) : Prop := ∀ k : Int, 0 ≤ k → k < 32 → S 143 165 k = S 80 37 k ∧ S 144 166 k = S 81 38 k ∧ S 145 167 k = S 82 39 k ∧ S 146 168 k = S 83 40 k ∧
  (S 80 37 k = -1 ∨ (S 80 37 k = 0 ∧ 1 ≤ S 83 40 k ∧ S 83 40 k ≤ 100) ∨ S 80 37 k = 1 ∨ (S 80 37 k = 2 ∧ 0 ≤ S 82 39 k ∧ S 82 39 k < 10) ∨ (S 80 37 k = 3 ∧ 1 ≤ S 82 39 k ∧ S 82 39 k ≤ 5) ∨ S 80 37 k = 4)
theorem bind_ok (d d' : Nat) (k w x y z : Int) (S : St) (h : RBd S) : Two (jH_bind d k w x y z) (jM_bind d' k w x y z) S (fun S2 => RBd S2 ∧ ∀ g, g ≠ 80 → g ≠ 81 → g ≠ 82 → g ≠ 83 → g ≠ 143 → g ≠ 144 → g ≠ 145 → g ≠ 146 → S2 g = S g) := by
  by_cases g : 0 ≤ k ∧ k < 32 ∧ ((w = 0 ∧ 1 ≤ z ∧ z ≤ 100) ∨ w = 1 ∨ (w = 2 ∧ 0 ≤ y ∧ y < 10) ∨ (w = 3 ∧ 1 ≤ y ∧ y ≤ 5) ∨ w = 4)
  · obtain ⟨g1, g2, g3⟩ := g
    refine ⟨1, up (up (up (up S 80 37 k w) 81 38 k x) 82 39 k y) 83 40 k z, up (up (up (up (up (up (up (up S 80 37 k w) 81 38 k x) 82 39 k y) 83 40 k z) 143 165 k w) 144 166 k x) 145 167 k y) 146 168 k z, ?_, ?_, ?_, ?_⟩
    · simp only [jH_bind_e, jH_bind_46_e, lt_eq, ib]
      repeat' split
      all_goals first | (exfalso; omega) | rfl
    · simp only [jM_bind_e, jM_bind_26_e, lt_eq, ib]
      repeat' split
      all_goals first | (exfalso; omega) | rfl
    · intro j k1 k2
      simp only [up_ap]
      have := h j k1 k2
      by_cases q : j = k
      · simp [q]; omega
      · simp [q]; exact this
    · intro f f1 f2 f3 f4 f5 f6 f7 f8
      funext r i
      simp only [up_ap]
      simp [f1, f2, f3, f4, f5, f6, f7, f8]
  · refine ⟨0, S, S, ?_, ?_, h, fun _ _ _ _ _ _ _ _ _ => rfl⟩
    · simp only [jH_bind_e, jH_bind_46_e, lt_eq, ib]
      repeat' split
      all_goals first | (exfalso; omega) | rfl
    · simp only [jM_bind_e, jM_bind_26_e, lt_eq, ib]
      repeat' split
      all_goals first | (exfalso; omega) | rfl
/-- alarms -/
def RAl (S : St) : Prop := S 453 95 0 = S 327 1 0 ∧ 0 ≤ S 327 1 0 ∧ S 327 1 0 ≤ 200 ∧ ∀ k : Int, 0 ≤ k → k < S 327 1 0 → S 164 186 k = S 84 41 k ∧ S 165 187 k = S 85 42 k ∧ S 166 188 k = S 86 43 k
theorem alarm_ok (d d' : Nat) (k w : Int) (S : St) (h : RAl S) : Two (jH_alarm d k w) (jM_alarm d' k w) S (fun S2 => S2 = S) := by
  obtain ⟨h1, h2, h3, h4⟩ := h
  by_cases g : 0 ≤ k ∧ k < S 327 1 0
  · obtain ⟨q1, q2, q3⟩ := h4 k g.1 g.2
    refine ⟨if w = 0 then S 84 41 k else if w = 1 then S 85 42 k else if w = 2 then S 86 43 k else -1, S, S, ?_, ?_, rfl⟩
    · simp only [jH_alarm_e, ib]
      repeat' split
      all_goals first | (exfalso; omega) | rfl
    · simp only [jM_alarm_e, ib, q1, q2, q3, h1]
      repeat' split
      all_goals first | (exfalso; omega) | rfl
  · refine ⟨-1, S, S, ?_, ?_, rfl⟩
    · simp only [jH_alarm_e, ib]
      repeat' split
      all_goals first | (exfalso; omega) | rfl
    · simp only [jM_alarm_e, ib, h1]
      repeat' split
      all_goals first | (exfalso; omega) | rfl
/-- the second -/
def RSe (S : St) : Prop := S 452 95 0 = S 311 1 0 ∧ 0 ≤ S 311 1 0 ∧ S 311 1 0 ≤ 100000
theorem second_ok (d d' : Nat) (S : St) (h : RSe S) : Two (jH_second d) (jM_second d') S (fun S2 => S2 = S) :=
  ⟨S 311 1 0, S, S, jH_second_e d S, by rw [jM_second_e, h.1], rfl⟩
