/-! LAYER 3, 2: tables: need, lasts, watch, bind, alarm, second -/
/-- fields that stay -/
def Fr (L : List Nat) (S S' : St) : Prop := ∀ g, g ∉ L → S' g = S g
theorem Fr.rf (L : List Nat) (S : St) : Fr L S S := fun _ _ => rfl
theorem fr_up {L : List Nat} {S : St} {f : Nat} {r i v : Int} (hf : f ∈ L) : Fr L S (up S f r i v) := fun g hg => by
  funext x j
  exact up_f (fun q => hg (by rw [q]; exact hf))
theorem Fr.tr {L : List Nat} {S S1 S2 : St} (h : Fr L S S1) (g : Fr L S1 S2) : Fr L S S2 := fun f hf => (g f hf).trans (h f hf)
/-- what levels are needed, how long they last -/
def RNd (S M : St) : Prop := (∀ a b : Int, 1 ≤ a → a ≤ 14 → 1 ≤ b → b ≤ 14 → M 122 144 (16 * a + b) = S 72 29 (a * 15 + b) ∧ 0 ≤ S 72 29 (a * 15 + b) ∧ S 72 29 (a * 15 + b) ≤ 5) ∧
  ∀ k : Int, 1 ≤ k → k ≤ 5 → M 123 145 k = S 73 30 k ∧ 0 ≤ S 73 30 k ∧ S 73 30 k ≤ 1000000
/-- conditions that are watched -/
def RWc (S M : St) : Prop := ∀ k : Int, 0 ≤ k → k < 16 → ((S 77 34 k = 5 ∧ M 149 171 k = -1) ∨ (M 149 171 k = S 77 34 k ∧ 0 ≤ S 77 34 k ∧ S 77 34 k ≤ 5)) ∧ M 150 172 k = S 78 35 k ∧ M 151 173 k = S 79 36 k
/-- what acts do -/
def RBd (S M : St) : Prop := ∀ k : Int, 0 ≤ k → k < 32 → M 143 165 k = S 80 37 k ∧ M 144 166 k = S 81 38 k ∧ M 145 167 k = S 82 39 k ∧ M 146 168 k = S 83 40 k ∧
  (S 80 37 k = -1 ∨ (S 80 37 k = 0 ∧ 1 ≤ S 83 40 k ∧ S 83 40 k ≤ 100) ∨ S 80 37 k = 1 ∨ (S 80 37 k = 2 ∧ 0 ≤ S 82 39 k ∧ S 82 39 k < 10) ∨ (S 80 37 k = 3 ∧ 1 ≤ S 82 39 k ∧ S 82 39 k ≤ 5) ∨ S 80 37 k = 4)
/-- alarms -/
def RAl (S M : St) : Prop := M 453 95 0 = S 327 1 0 ∧ 0 ≤ S 327 1 0 ∧ S 327 1 0 ≤ 200 ∧ ∀ k : Int, 0 ≤ k → k < S 327 1 0 → M 164 186 k = S 84 41 k ∧ M 165 187 k = S 85 42 k ∧ M 166 188 k = S 86 43 k
/-- the second -/
def RSe (S M : St) : Prop := M 452 95 0 = S 311 1 0 ∧ 0 ≤ S 311 1 0 ∧ S 311 1 0 ≤ 100000
theorem isLiquidC (d : Nat) (a : Int) (S : St) : jH_isLiquid d a S = some (.inl (if 1 ≤ a ∧ a ≤ 14 then 1 else 0), S) := by
  rw [jH_isLiquid_e]
  repeat' split
  all_goals first | (exfalso; omega) | rfl
theorem need_ok (d d' : Nat) (a b c : Int) (S M : St) (h : RNd S M) : Two (jH_need (d + 1) a b c) (jM_need d' a b c) S M (fun S' M' => RNd S' M' ∧ Fr [72] S S' ∧ Fr [122] M M') := by
  by_cases g : 1 ≤ a ∧ a ≤ 14 ∧ 1 ≤ b ∧ b ≤ 14 ∧ 0 ≤ c ∧ c ≤ 5
  · obtain ⟨g1, g2, g3, g4, g5, g6⟩ := g
    have e1 : w32 (w32 (a * 15) + b) = a * 15 + b := by rw [w32_eq (x := a * 15) (by omega) (by omega), w32_eq (by omega) (by omega)]
    have e2 : w32 (w32 (16 * a) + b) = 16 * a + b := by rw [w32_eq (x := 16 * a) (by omega) (by omega), w32_eq (by omega) (by omega)]
    refine ⟨1, up S 72 29 (a * 15 + b) c, up M 122 144 (16 * a + b) c, ?_, ?_, ⟨?_, ?_⟩, fr_up (by decide), fr_up (by decide)⟩
    · rw [jH_need_e, cl_eq (isLiquidC d a S), if_pos (show 1 ≤ a ∧ a ≤ 14 from ⟨g1, g2⟩), if_neg (by decide), cl_eq (isLiquidC d b S), if_pos (show 1 ≤ b ∧ b ≤ 14 from ⟨g3, g4⟩), if_neg (by decide), if_neg (by omega), if_neg (by omega), e1, ib_eq (by omega) (by omega), lt_eq]
    · rw [jM_need_e, if_neg (by omega), if_neg (by omega), if_neg (by omega), if_neg (by omega), if_neg (by omega), if_neg (by omega), e2, ib_eq (by omega) (by omega), lt_eq]
    · intro x y x1 x2 y1 y2
      have := h.1 x y x1 x2 y1 y2
      by_cases q : x = a ∧ y = b
      · obtain ⟨rfl, rfl⟩ := q
        rw [up_at, up_at]
        exact ⟨rfl, g5, g6⟩
      · rw [up_i (by omega), up_i (by omega)]
        exact this
    · intro k k1 k2
      rw [up_f (by decide), up_f (by decide)]
      exact h.2 k k1 k2
  · refine ⟨0, S, M, ?_, ?_, h, Fr.rf _ _, Fr.rf _ _⟩
    · rw [jH_need_e, cl_eq (isLiquidC d a S)]
      by_cases ga : 1 ≤ a ∧ a ≤ 14
      · rw [if_pos ga, if_neg (by decide), cl_eq (isLiquidC d b S)]
        by_cases gb : 1 ≤ b ∧ b ≤ 14
        · rw [if_pos gb, if_neg (by decide)]
          by_cases gc : c < 0
          · rw [if_pos gc]
          · rw [if_neg gc, if_pos (by omega)]
        · rw [if_neg gb, if_pos rfl]
      · rw [if_neg ga, if_pos rfl]
    · rw [jM_need_e]
      simp only [ib, lt_eq]
      grind
theorem lasts_ok (d d' : Nat) (a b : Int) (S M : St) (h : RNd S M) : Two (jH_lasts d a b) (jM_lasts d' a b) S M (fun S' M' => RNd S' M' ∧ Fr [73] S S' ∧ Fr [123] M M') := by
  by_cases g : 1 ≤ a ∧ a ≤ 5 ∧ 0 ≤ b ∧ b ≤ 1000000
  · obtain ⟨g1, g2, g3, g4⟩ := g
    refine ⟨1, up S 73 30 a b, up M 123 145 a b, ?_, ?_, ⟨?_, ?_⟩, fr_up (by decide), fr_up (by decide)⟩
    · rw [jH_lasts_e, if_neg (by omega), if_neg (by omega), if_neg (by omega), if_neg (by omega), ib_eq (by omega) (by omega), lt_eq]
    · rw [jM_lasts_e, if_neg (by omega), if_neg (by omega), if_neg (by omega), if_neg (by omega), ib_eq (by omega) (by omega), lt_eq]
    · intro x y x1 x2 y1 y2
      rw [up_f (by decide), up_f (by decide)]
      exact h.1 x y x1 x2 y1 y2
    · intro k k1 k2
      by_cases q : k = a
      · subst q
        rw [up_at, up_at]
        exact ⟨rfl, g3, g4⟩
      · rw [up_i q, up_i q]
        exact h.2 k k1 k2
  · refine ⟨0, S, M, ?_, ?_, h, Fr.rf _ _, Fr.rf _ _⟩
    · rw [jH_lasts_e]
      simp only [ib, lt_eq]
      grind
    · rw [jM_lasts_e]
      simp only [ib, lt_eq]
      grind
theorem watch_ok (d d' : Nat) (a b c e : Int) (S M : St) (h : RWc S M) : Two (jH_watch d a b c e) (jM_watch d' a b c e) S M (fun S' M' => RWc S' M' ∧ Fr [77, 78, 79] S S' ∧ Fr [149, 150, 151] M M') := by
  by_cases g : 0 ≤ a ∧ a < 16 ∧ 0 ≤ b ∧ b ≤ 5
  · obtain ⟨g1, g2, g3, g4⟩ := g
    refine ⟨1, up (up (up S 77 34 a b) 78 35 a c) 79 36 a e, up (up (up M 149 171 a b) 150 172 a c) 151 173 a e, ?_, ?_, ?_, ((fr_up (by decide)).tr (fr_up (by decide))).tr (fr_up (by decide)), ((fr_up (by decide)).tr (fr_up (by decide))).tr (fr_up (by decide))⟩
    · rw [jH_watch_e, if_neg (by omega), if_pos (by omega), if_neg (by omega), if_neg (by omega)]
      simp only [lt_eq, ib_eq g1 g2]
    · rw [jM_watch_e, if_neg (by omega), if_neg (by omega), if_neg (by omega), if_neg (by omega)]
      simp only [lt_eq, ib_eq g1 g2]
    · intro k k1 k2
      have := h k k1 k2
      simp only [up_ap]
      by_cases q : k = a
      · simp [q]; omega
      · simp [q]; exact this
  · refine ⟨0, S, M, ?_, ?_, h, Fr.rf _ _, Fr.rf _ _⟩
    · rw [jH_watch_e]
      simp only [ib, lt_eq]
      grind
    · rw [jM_watch_e]
      simp only [ib, lt_eq]
      grind
theorem bind_ok (d d' : Nat) (k w x y z : Int) (S M : St) (h : RBd S M) : Two (jH_bind d k w x y z) (jM_bind d' k w x y z) S M (fun S' M' => RBd S' M' ∧ Fr [80, 81, 82, 83] S S' ∧ Fr [143, 144, 145, 146] M M') := by
  by_cases g : 0 ≤ k ∧ k < 32 ∧ ((w = 0 ∧ 1 ≤ z ∧ z ≤ 100) ∨ w = 1 ∨ (w = 2 ∧ 0 ≤ y ∧ y < 10) ∨ (w = 3 ∧ 1 ≤ y ∧ y ≤ 5) ∨ w = 4)
  · obtain ⟨g1, g2, g3⟩ := g
    refine ⟨1, up (up (up (up S 80 37 k w) 81 38 k x) 82 39 k y) 83 40 k z, up (up (up (up M 143 165 k w) 144 166 k x) 145 167 k y) 146 168 k z, ?_, ?_, ?_, (((fr_up (by decide)).tr (fr_up (by decide))).tr (fr_up (by decide))).tr (fr_up (by decide)), (((fr_up (by decide)).tr (fr_up (by decide))).tr (fr_up (by decide))).tr (fr_up (by decide))⟩
    · rw [jH_bind_e]
      simp only [jH_bind_46_e, lt_eq, ib_eq g1 g2]
      grind
    · rw [jM_bind_e]
      simp only [jM_bind_26_e, lt_eq, ib_eq g1 g2]
      grind
    · intro j k1 k2
      have := h j k1 k2
      simp only [up_ap]
      by_cases q : j = k
      · simp [q]; omega
      · simp [q]; exact this
  · refine ⟨0, S, M, ?_, ?_, h, Fr.rf _ _, Fr.rf _ _⟩
    · rw [jH_bind_e]
      simp only [jH_bind_46_e, ib, lt_eq]
      grind
    · rw [jM_bind_e]
      simp only [jM_bind_26_e, ib, lt_eq]
      grind
theorem alarm_ok (d d' : Nat) (k w : Int) (S M : St) (h : RAl S M) : Two (jH_alarm d k w) (jM_alarm d' k w) S M (fun S' M' => S' = S ∧ M' = M) := by
  obtain ⟨h1, h2, h3, h4⟩ := h
  by_cases g : 0 ≤ k ∧ k < S 327 1 0
  · obtain ⟨q1, q2, q3⟩ := h4 k g.1 g.2
    refine ⟨if w = 0 then S 84 41 k else if w = 1 then S 85 42 k else if w = 2 then S 86 43 k else -1, S, M, ?_, ?_, rfl, rfl⟩
    · rw [jH_alarm_e, if_neg (by omega), if_pos (by omega)]
      simp only [ib_eq (show 0 ≤ k by omega) (show k < 200 by omega)]
      grind
    · rw [jM_alarm_e, if_neg (by omega), if_pos (by omega), q1, q2, q3]
      simp only [ib_eq (show 0 ≤ k by omega) (show k < 200 by omega)]
      grind
  · refine ⟨-1, S, M, ?_, ?_, rfl, rfl⟩
    · rw [jH_alarm_e]
      by_cases q : k < 0
      · rw [if_pos q]
      · rw [if_neg q, if_neg (by omega)]
    · rw [jM_alarm_e]
      by_cases q : k < 0
      · rw [if_pos q]
      · rw [if_neg q, if_neg (by omega)]
theorem second_ok (d d' : Nat) (S M : St) (h : RSe S M) : Two (jH_second d) (jM_second d') S M (fun S' M' => S' = S ∧ M' = M) :=
  ⟨S 311 1 0, S, M, jH_second_e d S, by rw [jM_second_e, h.1], rfl, rfl⟩
