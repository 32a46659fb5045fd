/-! LAYER 3, 3: which liquids may meet -/
theorem bit32_one (j : Nat) : bit32 1 j = decide (j = 0) := by
  unfold bit32
  have : BitVec.ofInt 32 1 = 1#32 := rfl
  rw [this, BitVec.getLsbD_one]
  simp
theorem bit32_pow {k : Nat} (hk : k < 32) (j : Nat) : bit32 (i_shl 1 k) j = decide (j = k) := by
  rw [bit32_shl 1 hk, BitVec.getLsbD_shiftLeft]
  have h1 : (BitVec.ofInt 32 1).getLsbD (j - k) = decide (j - k = 0) := bit32_one (j - k)
  rw [h1]
  by_cases e : j = k
  · subst e; simp [hk]
  · simp [e]; omega
/-- the bits of the component's rows are the model's truth values -/
def RMy (S M : St) : Prop := ∀ a b : Nat, 1 ≤ a → a ≤ 14 → 1 ≤ b → b ≤ 14 → M 121 143 (16 * a + b) = if bit32 (S 100 19 a) b then 1 else 0
theorem mayC {S : St} (d : Nat) {a b : Nat} (ha : a < 15) (hb : b < 32) : jSa_mayMeet d a b S = some (.inl (if bit32 (S 100 19 a) b then 1 else 0), S) := by
  rw [jSa_mayMeet_e, ib_eq (by omega) (by omega), bit32_at _ hb]
  cases bit32 (S 100 19 a) b <;> rfl
theorem may_ok (d d' : Nat) (a b : Int) (S M : St) (h : RMy S M) : Two (jH_may (d + 1) a b) (jM_may d' a b) S M (fun S' M' => RMy S' M' ∧ Fr [100] S S' ∧ Fr [121] M M') := by
  by_cases g : 1 ≤ a ∧ a ≤ 14 ∧ 1 ≤ b ∧ b ≤ 14 ∧ a ≠ b
  · obtain ⟨a, rfl⟩ : ∃ x : Nat, a = (x : Int) := ⟨a.toNat, by omega⟩
    obtain ⟨b, rfl⟩ : ∃ x : Nat, b = (x : Int) := ⟨b.toNat, by omega⟩
    obtain ⟨g1, g2, g3, g4, g5⟩ := g
    have e2 : w32 (w32 (16 * (a : Int)) + b) = 16 * a + b := by rw [w32_eq (x := 16 * (a : Int)) (by omega) (by omega), w32_eq (by omega) (by omega)]
    have e3 : w32 (w32 (16 * (b : Int)) + a) = 16 * b + a := by rw [w32_eq (x := 16 * (b : Int)) (by omega) (by omega), w32_eq (by omega) (by omega)]
    have q := h a b (by omega) (by omega) (by omega) (by omega)
    have hm := mayC (S := S) d (a := a) (b := b) (by omega) (by omega)
    cases hb : bit32 (S 100 19 a) b with
    | true =>
      rw [hb] at q hm
      refine ⟨0, S, M, ?_, ?_, h, Fr.rf _ _, Fr.rf _ _⟩
      · simp only [jH_may_e, isLiquidC, cl, bd, hm]
        grind
      · simp only [jM_may_e, jM_may_26_e, lt_eq, e2, e3, q]
        grind [ib, tv]
    | false =>
      rw [hb] at q hm
      have hal : jSa_allow d a b S = some (.inl 0, up (up S 100 19 a (i_or (S 100 19 a) (i_shl 1 b))) 100 19 b (i_or (S 100 19 b) (i_shl 1 a))) := by
        rw [jSa_allow_e]
        simp only [lt_eq]
        rw [ib_eq (by omega) (by omega), ib_eq (by omega) (by omega), ib_eq (by omega) (by omega), ib_eq (by omega) (by omega), up_i (fun z => g5 z.symm)]
      refine ⟨1, up (up S 100 19 a (i_or (S 100 19 a) (i_shl 1 b))) 100 19 b (i_or (S 100 19 b) (i_shl 1 a)), up (up M 121 143 (16 * a + b) 1) 121 143 (16 * b + a) 1, ?_, ?_, ?_, (fr_up (by decide)).tr (fr_up (by decide)), (fr_up (by decide)).tr (fr_up (by decide))⟩
      · simp only [jH_may_e, isLiquidC, cl, bd, hm, hal]
        grind
      · simp only [jM_may_e, jM_may_26_e, lt_eq, e2, e3, q]
        grind [ib, tv]
      · intro x y x1 x2 y1 y2
        have hx := h x y x1 x2 y1 y2
        by_cases c1 : x = b
        · subst c1
          rw [up_at, bit32_or, bit32_pow (by omega)]
          by_cases c2 : y = a
          · subst c2
            rw [up_at]
            simp
          · rw [up_i (by omega), up_i (by omega), hx]
            simp [c2]
        · rw [up_i (show (x : Int) ≠ b by omega)]
          by_cases c2 : x = a
          · subst c2
            rw [up_at, bit32_or, bit32_pow (by omega)]
            by_cases c3 : y = b
            · subst c3
              rw [up_i (by omega), up_at]
              simp
            · rw [up_i (by omega), up_i (by omega), hx]
              simp [c3]
          · rw [up_i (show (x : Int) ≠ a by omega), up_i (by omega), up_i (by omega), hx]
  · refine ⟨0, S, M, ?_, ?_, h, Fr.rf _ _, Fr.rf _ _⟩
    · simp only [jH_may_e, isLiquidC, cl, bd]
      grind
    · simp only [jM_may_e, jM_may_26_e, lt_eq]
      grind [ib, tv]
