/-! LAYER 3, 12: interlocks: what bars an act -/
noncomputable def barB (S M : St) (k : Int) : Bool := decide (M 198 130 k = 0) && (!(decide (M 197 129 k = 0)) || (onE S M k && decide (M 193 125 (rwM M k) ≤ M 196 128 k)))
theorem barC {S M : St} (h : RL S M) {k : Int} (hk : 0 ≤ k ∧ k < S 351 23 0) {d : Nat} (hd : 62 ≤ d) : jLk_bars (d + 1) (rwO S k) (S 352 23 0) S = some (.inl (b2i (barB S M k)), S) := by
  obtain ⟨d, rfl⟩ : ∃ x, d = x + 1 + 1 := ⟨d - 2, by omega⟩
  have r := h.row k hk.1 hk.2
  have o1 := onE_c r.exp h.con r.nz (d := d) (by omega)
  rw [jLk_bars_e, nz_eq r.nz, r.pas, r.ltd]
  unfold barB
  by_cases p0 : M 198 130 k = 0
  · rw [if_pos p0, nz_eq r.nz]
    by_cases l0 : M 197 129 k = 0
    · rw [if_pos l0, nz_eq r.nz, jLk_holds_e, nz_eq r.nz]
      simp only [cl_eq o1]
      cases ho : onE S M k with
      | false => simp [b2i, p0, l0, cl, bd]
      | true =>
        simp only [b2i]
        rw [if_neg (by decide), nz_eq r.nz, nz_eq r.nz, r.cnt, r.sec]
        by_cases hc : M 196 128 k < M 193 125 (rwM M k)
        · rw [if_pos hc]
          simp [cl, bd, p0, l0]
          omega
        · rw [if_neg hc]
          simp [cl, bd, p0, l0]
          omega
    · rw [if_neg l0]
      simp [b2i, p0, l0]
  · rw [if_neg p0]
    simp [b2i, p0]
/-- the first row that bars an act -/
noncomputable def frR (S M : St) (a : Nat) (m : Nat) (j : Int) : Int := match m with
  | 0 => 0
  | m + 1 => if bit32 (S 554 (rwO S j) 0) a && barB S M j then j + 1 else frR S M a m (j + 1)
theorem barsC {S M : St} (h : RL S M) {a : Nat} (ha : a < 32) {d : Nat} (hd : 63 ≤ d) : ∀ (m : Nat) (j : Int), 0 ≤ j → j + m = S 351 23 0 → jIl_bars_2 (d + 1) a j S = some (.inl (frR S M a m j), S) := by
  have hn1 := h.n1
  intro m
  induction m with
  | zero =>
    intro j h0 h1
    rw [jIl_bars_2_e, if_neg (by omega)]
    rfl
  | succ m ih =>
    intro j h0 h1
    have hj : j < S 351 23 0 := by omega
    have r := h.row j h0 hj
    have hz : S 104 (S 350 23 0) j ≠ 0 := r.nz
    obtain ⟨d, rfl⟩ : ∃ x, d = x + 1 := ⟨d - 1, by omega⟩
    have hb := barC h ⟨h0, hj⟩ (d := d) (by omega)
    unfold rwO at hb
    have hi := ih (j + 1) (by omega) (by omega)
    rw [jIl_bars_2_e, if_pos hj, nz_eq h.arr, ib_eq h0 (by omega), nz_eq hz, bit32_at _ ha]
    simp only [lt_eq]
    rw [w32_eq (x := j + 1) (by omega) (by omega)]
    show _ = some (Sum.inl (if bit32 (S 554 (rwO S j) 0) a && barB S M j then j + 1 else frR S M a m (j + 1)), S)
    unfold rwO
    cases hq : bit32 (S 554 (S 104 (S 350 23 0) j) 0) a with
    | false =>
      rw [if_pos (by rfl)]
      simp only [Bool.false_and]
      exact hi
    | true =>
      rw [if_neg (by decide), nz_eq h.arr, ib_eq h0 (by omega), nz_eq hz, cl_eq hb]
      cases hp : barB S M j with
      | false =>
        rw [if_pos (by rfl)]
        simp only [Bool.and_false]
        exact hi
      | true =>
        rw [if_neg (by decide)]
        rfl
theorem hasM {M : St} (a q : Int) (hq : 0 ≤ q ∧ q < 80) (hc : 0 ≤ M 191 123 q ∧ M 191 123 q ≤ 8) (d : Nat) : ∀ (m : Nat) (f j : Int), (f = 0 ∨ f = 1) → 0 ≤ j → j + m = M 191 123 q →
    ∃ v, jRw_hasAct_11 d a q f j M = some (.inl v, M) ∧ (v = 0 ∨ v = 1) ∧ (v = 1 ↔ f = 1 ∨ ∃ i, j ≤ i ∧ i < M 191 123 q ∧ M 192 124 (8 * q + i) = a) := by
  intro m
  induction m with
  | zero =>
    intro f j hf h0 h1
    refine ⟨f, ?_, hf, ?_⟩
    · rw [jRw_hasAct_11_e, ib_eq hq.1 hq.2, if_neg (by omega), tv_eq hf]
    · constructor
      · exact Or.inl
      · rintro (h | ⟨i, a1, a2, a3⟩)
        · exact h
        · omega
  | succ m ih =>
    intro f j hf h0 h1
    have e1 : w32 (j + 1) = j + 1 := w32_eq (by omega) (by omega)
    have e2 : w32 (w32 (8 * q) + j) = 8 * q + j := by rw [w32_eq (x := 8 * q) (by omega) (by omega), w32_eq (by omega) (by omega)]
    rcases hf with hf | hf
    · by_cases hx : M 192 124 (8 * q + j) = a
      · obtain ⟨v, b1, b2, b3⟩ := ih 1 (j + 1) (Or.inr rfl) (by omega) (by omega)
        refine ⟨v, ?_, b2, ?_⟩
        · rw [jRw_hasAct_11_e, ib_eq hq.1 hq.2, if_pos (by omega), if_pos hf]
          simp only [lt_eq, e1, e2]
          rw [ib_eq (by omega) (by omega), if_pos hx]
          exact b1
        · constructor
          · intro _; exact Or.inr ⟨j, by omega, by omega, hx⟩
          · intro _; exact b3.mpr (Or.inl rfl)
      · obtain ⟨v, b1, b2, b3⟩ := ih 0 (j + 1) (Or.inl rfl) (by omega) (by omega)
        refine ⟨v, ?_, b2, ?_⟩
        · rw [jRw_hasAct_11_e, ib_eq hq.1 hq.2, if_pos (by omega), if_pos hf]
          simp only [lt_eq, e1, e2]
          rw [ib_eq (by omega) (by omega), if_neg hx]
          exact b1
        · constructor
          · intro hv
            rcases b3.mp hv with h | ⟨i, a1, a2, a3⟩
            · cases h
            · exact Or.inr ⟨i, by omega, a2, a3⟩
          · rintro (h | ⟨i, a1, a2, a3⟩)
            · omega
            · refine b3.mpr (Or.inr ⟨i, ?_, a2, a3⟩)
              have : i ≠ j := fun z => hx (by rw [← z]; exact a3)
              omega
    · obtain ⟨v, b1, b2, b3⟩ := ih 1 (j + 1) (Or.inr rfl) (by omega) (by omega)
      refine ⟨v, ?_, b2, ?_⟩
      · rw [jRw_hasAct_11_e, ib_eq hq.1 hq.2, if_pos (by omega), if_neg (by omega)]
        simp only [lt_eq, e1]
        exact b1
      · constructor
        · intro _; exact Or.inl hf
        · intro _; exact b3.mpr (Or.inl rfl)
theorem hasM_ok {S M : St} (h : RL S M) {k : Int} (hk : 0 ≤ k ∧ k < S 351 23 0) {a : Nat} (ha : a < 32) (d : Nat) : jRw_hasAct d k a M = some (.inl (b2i (bit32 (S 554 (rwO S k) 0) a)), M) := by
  have r := h.row k hk.1 hk.2
  have hn1 := h.n1
  have hh := h.half
  obtain ⟨c0, c1, c2⟩ := r.act
  have e2 : w32 (w32 (40 * M 512 115 0) + k) = rwM M k := by
    rw [w32_eq (x := 40 * M 512 115 0) (by omega) (by omega), w32_eq (by omega) (by omega)]
    rfl
  obtain ⟨v, b1, b2, b3⟩ := hasM (M := M) (a : Int) (rwM M k) (by unfold rwM; omega) ⟨c0, c1⟩ d (M 191 123 (rwM M k)).toNat 0 0 (Or.inl rfl) (by omega) (by omega)
  rw [jRw_hasAct_e, e2]
  simp only [lt_eq]
  rw [b1]
  have : v = b2i (bit32 (S 554 (rwO S k) 0) a) := by
    unfold b2i
    have c2 := c2 a ha
    cases hb : bit32 (S 554 (rwO S k) 0) a with
    | true =>
      rw [hb] at c2
      exact b3.mpr (Or.inr (c2.mp rfl))
    | false =>
      rw [hb] at c2
      rcases b2 with q | q
      · exact q
      · rcases b3.mp q with z | z
        · cases z
        · exact absurd (c2.mpr z) (by decide)
  rw [this]
theorem barsM {S M : St} (h : RL S M) {a : Nat} (ha : a < 32) {d : Nat} (hd : 64 ≤ d) : ∀ (m : Nat) (j : Int), 0 ≤ j → j + m = S 351 23 0 → jRw_act1_9 (d + 1) a j M = some (.inl (frR S M a m j), M) := by
  have hn1 := h.n1
  have hnm := h.nm
  have hh := h.half
  intro m
  induction m with
  | zero =>
    intro j h0 h1
    rw [jRw_act1_9_e, if_neg (by omega)]
    rfl
  | succ m ih =>
    intro j h0 h1
    have hj : j < S 351 23 0 := by omega
    have r := h.row j h0 hj
    have hi := ih (j + 1) (by omega) (by omega)
    have e1 : w32 (j + 1) = j + 1 := w32_eq (by omega) (by omega)
    have e2 : w32 (w32 (40 * M 512 115 0) + j) = rwM M j := by
      rw [w32_eq (x := 40 * M 512 115 0) (by omega) (by omega), w32_eq (by omega) (by omega)]
      rfl
    have hq : 0 ≤ rwM M j ∧ rwM M j < 80 := by unfold rwM; omega
    obtain ⟨d, rfl⟩ : ∃ x, d = x + 1 := ⟨d - 1, by omega⟩
    have ho := onE_m r.exp (by omega) h.half (d := d) (by omega) (k := j)
    have hA := hasM_ok h ⟨h0, hj⟩ ha (d + 1)
    have k43 : jRw_act1_43 (d + 1 + 1) a j M = some (.inl (frR S M a m (j + 1)), M) := by
      rw [jRw_act1_43_e]
      simp only [lt_eq, e1, ite_true]
      exact hi
    have fin : barB S M j = true → (cl (jRw_hasAct (d + 1) j a M) fun v4 S4 => if v4 = 0 then jRw_act1_9 (d + 1 + 1) a (j + 1) S4 else some (.inl (j + 1), S4)) = some (.inl (frR S M a (m + 1) j), M) := by
      intro hb
      rw [cl_eq hA]
      show _ = some (Sum.inl (if bit32 (S 554 (rwO S j) 0) a && barB S M j then j + 1 else frR S M a m (j + 1)), M)
      rw [hb]
      cases bit32 (S 554 (rwO S j) 0) a with
      | true => rfl
      | false => exact hi
    have no : barB S M j = false → frR S M a (m + 1) j = frR S M a m (j + 1) := by
      intro hb
      show (if bit32 (S 554 (rwO S j) 0) a && barB S M j then j + 1 else frR S M a m (j + 1)) = _
      rw [hb, Bool.and_false]
      rfl
    rw [jRw_act1_9_e, if_pos (by omega), ib_eq h0 (by omega)]
    simp only [lt_eq, e1, e2]
    by_cases p0 : M 198 130 j = 0
    · rw [if_pos p0, ib_eq h0 (by omega)]
      by_cases l0 : M 197 129 j = 0
      · rw [if_pos l0, cl_eq ho]
        cases hon : onE S M j with
        | false =>
          rw [if_pos (by rfl), k43, no (by unfold barB; simp [hon, l0])]
        | true =>
          rw [if_neg (by decide), ib_eq h0 (by omega), e2, ib_eq hq.1 hq.2]
          by_cases hc : M 196 128 j < M 193 125 (rwM M j)
          · rw [if_pos hc, k43, no (by unfold barB; simp [hon, l0]; omega)]
          · rw [if_neg hc, if_neg (by decide)]
            exact fin (by unfold barB; simp [hon, p0]; omega)
      · rw [if_neg l0, if_neg (by decide)]
        exact fin (by unfold barB; simp [p0, l0])
    · rw [if_neg p0, k43, no (by unfold barB; simp [p0])]
theorem bars_ok {d d' : Nat} (hd : 70 ≤ d) (hd' : 70 ≤ d') (k : Int) (S M : St) (h : RL S M) : Two (jH_bars d k) (jM_bars d' k) S M (fun S' M' => S' = S ∧ M' = M) := by
  obtain ⟨d, rfl⟩ : ∃ x, d = x + 1 + 1 := ⟨d - 2, by omega⟩
  obtain ⟨d', rfl⟩ : ∃ x, d' = x + 1 + 1 := ⟨d' - 2, by omega⟩
  have hn0 := h.n0
  by_cases hk : 0 ≤ k ∧ k < 32
  · obtain ⟨a, rfl⟩ : ∃ a : Nat, k = (a : Int) := ⟨k.toNat, by omega⟩
    have ha : a < 32 := by omega
    refine ⟨frR S M a (S 351 23 0).toNat 0, S, M, ?_, ?_, rfl, rfl⟩
    · rw [jH_bars_e, if_neg (by omega), if_pos (by omega), jIl_bars_e, lt_eq, cl_eq (barsC h ha (by omega) (S 351 23 0).toNat 0 (by omega) (by omega))]
    · rw [jM_bars_e, jRw_act1_e, if_neg (by omega), if_neg (by omega), lt_eq, cl_eq (barsM h ha (by omega) (S 351 23 0).toNat 0 (by omega) (by omega))]
  · refine ⟨-1, S, M, ?_, ?_, rfl, rfl⟩
    · rw [jH_bars_e]
      by_cases q : k < 0
      · rw [if_pos q]
      · rw [if_neg q, if_neg (by omega)]
    · rw [jM_bars_e, jRw_act1_e]
      by_cases q : k < 0
      · rw [if_pos q]
        rfl
      · rw [if_neg q, if_pos (by omega)]
        rfl
