/-! LAYER 3, 11: interlocks: rows -/
/-- the object of row k, its place in the model's tables -/
def rwO (S : St) (k : Int) : Int := S 104 (S 350 23 0) k
def rwM (M : St) (k : Int) : Int := 40 * M 512 115 0 + k
/-- what a row bars -/
def RLa (S M : St) (k : Int) : Prop := 0 ≤ M 191 123 (rwM M k) ∧ M 191 123 (rwM M k) ≤ 8 ∧ ∀ a : Nat, a < 32 → (bit32 (S 554 (rwO S k) 0) a = true ↔ ∃ j : Int, 0 ≤ j ∧ j < M 191 123 (rwM M k) ∧ M 192 124 (8 * rwM M k + j) = (a : Int))
/-- its expression: one meaning for both -/
def RLe (S M : St) (k : Int) : Prop := ∃ φ : (Nat → Bool) → Bool, CE 60 S (S 556 (rwO S k) 0) φ ∧ ME 60 M (M 190 122 (rwM M k)) φ
def RLr (S M : St) (k : Int) : Prop := (rwO S k ≠ 0) ∧ (S 560 (rwO S k) 0 = M 196 128 k) ∧ (0 ≤ M 196 128 k) ∧ (M 196 128 k ≤ 1000000) ∧ (S 558 (rwO S k) 0 = M 193 125 (rwM M k)) ∧ (0 ≤ M 193 125 (rwM M k)) ∧ (M 193 125 (rwM M k) ≤ 3600) ∧ (S 559 (rwO S k) 0 = M 194 126 (rwM M k)) ∧ (M 194 126 (rwM M k) = 0 ∨ M 194 126 (rwM M k) = 1) ∧ (S 561 (rwO S k) 0 = M 197 129 k) ∧ (M 197 129 k = 0 ∨ M 197 129 k = 1) ∧ (S 562 (rwO S k) 0 = M 198 130 k) ∧ (0 ≤ M 198 130 k) ∧ (M 198 130 k ≤ 3600) ∧ (RLa S M k) ∧ (RLe S M k)
theorem RLr.nz {S M : St} {k : Int} (h_ : RLr S M k) : rwO S k ≠ 0 := h_.1
theorem RLr.cnt {S M : St} {k : Int} (h_ : RLr S M k) : S 560 (rwO S k) 0 = M 196 128 k := h_.2.1
theorem RLr.cnt0 {S M : St} {k : Int} (h_ : RLr S M k) : 0 ≤ M 196 128 k := h_.2.2.1
theorem RLr.cnt1 {S M : St} {k : Int} (h_ : RLr S M k) : M 196 128 k ≤ 1000000 := h_.2.2.2.1
theorem RLr.sec {S M : St} {k : Int} (h_ : RLr S M k) : S 558 (rwO S k) 0 = M 193 125 (rwM M k) := h_.2.2.2.2.1
theorem RLr.sec0 {S M : St} {k : Int} (h_ : RLr S M k) : 0 ≤ M 193 125 (rwM M k) := h_.2.2.2.2.2.1
theorem RLr.sec1 {S M : St} {k : Int} (h_ : RLr S M k) : M 193 125 (rwM M k) ≤ 3600 := h_.2.2.2.2.2.2.1
theorem RLr.lat {S M : St} {k : Int} (h_ : RLr S M k) : S 559 (rwO S k) 0 = M 194 126 (rwM M k) := h_.2.2.2.2.2.2.2.1
theorem RLr.lat0 {S M : St} {k : Int} (h_ : RLr S M k) : M 194 126 (rwM M k) = 0 ∨ M 194 126 (rwM M k) = 1 := h_.2.2.2.2.2.2.2.2.1
theorem RLr.ltd {S M : St} {k : Int} (h_ : RLr S M k) : S 561 (rwO S k) 0 = M 197 129 k := h_.2.2.2.2.2.2.2.2.2.1
theorem RLr.ltd0 {S M : St} {k : Int} (h_ : RLr S M k) : M 197 129 k = 0 ∨ M 197 129 k = 1 := h_.2.2.2.2.2.2.2.2.2.2.1
theorem RLr.pas {S M : St} {k : Int} (h_ : RLr S M k) : S 562 (rwO S k) 0 = M 198 130 k := h_.2.2.2.2.2.2.2.2.2.2.2.1
theorem RLr.pas0 {S M : St} {k : Int} (h_ : RLr S M k) : 0 ≤ M 198 130 k := h_.2.2.2.2.2.2.2.2.2.2.2.2.1
theorem RLr.pas1 {S M : St} {k : Int} (h_ : RLr S M k) : M 198 130 k ≤ 3600 := h_.2.2.2.2.2.2.2.2.2.2.2.2.2.1
theorem RLr.act {S M : St} {k : Int} (h_ : RLr S M k) : RLa S M k := h_.2.2.2.2.2.2.2.2.2.2.2.2.2.2.1
theorem RLr.exp {S M : St} {k : Int} (h_ : RLr S M k) : RLe S M k := h_.2.2.2.2.2.2.2.2.2.2.2.2.2.2.2
def RL (S M : St) : Prop := (0 ≤ S 351 23 0) ∧ (S 351 23 0 ≤ 40) ∧ (M 520 115 0 = S 351 23 0) ∧ (S 350 23 0 ≠ 0) ∧ (M 512 115 0 = 0 ∨ M 512 115 0 = 1) ∧ (M 524 115 0 = S 352 23 0) ∧ (∀ k, 0 ≤ k → k < S 351 23 0 → RLr S M k) ∧ (∀ j k, 0 ≤ j → j < S 351 23 0 → 0 ≤ k → k < S 351 23 0 → rwO S j = rwO S k → j = k)
theorem RL.n0 {S M : St} (h_ : RL S M) : 0 ≤ S 351 23 0 := h_.1
theorem RL.n1 {S M : St} (h_ : RL S M) : S 351 23 0 ≤ 40 := h_.2.1
theorem RL.nm {S M : St} (h_ : RL S M) : M 520 115 0 = S 351 23 0 := h_.2.2.1
theorem RL.arr {S M : St} (h_ : RL S M) : S 350 23 0 ≠ 0 := h_.2.2.2.1
theorem RL.half {S M : St} (h_ : RL S M) : M 512 115 0 = 0 ∨ M 512 115 0 = 1 := h_.2.2.2.2.1
theorem RL.con {S M : St} (h_ : RL S M) : M 524 115 0 = S 352 23 0 := h_.2.2.2.2.2.1
theorem RL.row {S M : St} (h_ : RL S M) : ∀ k, 0 ≤ k → k < S 351 23 0 → RLr S M k := h_.2.2.2.2.2.2.1
theorem RL.inj {S M : St} (h_ : RL S M) : ∀ j k, 0 ≤ j → j < S 351 23 0 → 0 ≤ k → k < S 351 23 0 → rwO S j = rwO S k → j = k := h_.2.2.2.2.2.2.2
/-- whether a row's expression holds -/
noncomputable def onE (S M : St) (k : Int) : Bool := @dite Bool (RLe S M k) (Classical.propDecidable _) (fun h => Classical.choose h (bit32 (M 524 115 0))) (fun _ => false)
theorem onE_c {S M : St} {k : Int} (h : RLe S M k) (hc : M 524 115 0 = S 352 23 0) (hn : rwO S k ≠ 0) {d : Nat} (hd : 60 ≤ d) : jLk_isOn (d + 1) (rwO S k) (S 352 23 0) S = some (.inl (b2i (onE S M k)), S) := by
  obtain ⟨c1, c2⟩ := Classical.choose_spec h
  have hz : S 556 (rwO S k) 0 ≠ 0 := c1.1
  rw [jLk_isOn_e, nz_eq hn, nz_eq hz]
  have := dsp_ok (c := S 352 23 0) c1 (d := d) hd (fun v S => tv v (some (.inl v, S)))
  refine Eq.trans this ?_
  have e1 : onE S M k = Classical.choose h (bit32 (M 524 115 0)) := dif_pos h
  rw [e1, hc]
  exact tv_eq (by unfold b2i; cases Classical.choose h (bit32 (S 352 23 0)) <;> simp)
theorem onE_m {S M : St} {k : Int} (h : RLe S M k) (hk : 0 ≤ k ∧ k < 40) (hh : M 512 115 0 = 0 ∨ M 512 115 0 = 1) {d : Nat} (hd : 61 ≤ d) : jRw_isOn (d + 1) k M = some (.inl (b2i (onE S M k)), M) := by
  have e1 : onE S M k = Classical.choose h (bit32 (M 524 115 0)) := dif_pos h
  obtain ⟨c1, c2⟩ := Classical.choose_spec h
  have e2 : w32 (w32 (40 * M 512 115 0) + k) = rwM M k := by
    rw [w32_eq (x := 40 * M 512 115 0) (by omega) (by omega), w32_eq (by omega) (by omega)]
    rfl
  rw [jRw_isOn_e, e2, ib_eq (by unfold rwM; omega) (by unfold rwM; omega), cl_eq (val_ok c2 (by omega)), e1]
  exact tv_eq (by unfold b2i; cases Classical.choose h (bit32 (M 524 115 0)) <;> simp)
theorem isRowC (d : Nat) (k : Int) (S : St) : jIl_isRow d k S = some (.inl (if 1 ≤ k ∧ k ≤ S 351 23 0 then 1 else 0), S) := by
  rw [jIl_isRow_e]
  repeat' split
  all_goals first | (exfalso; omega) | rfl
theorem isRowM (d : Nat) (k : Int) (M : St) : jRw_isRow d k M = some (.inl (if 1 ≤ k ∧ k ≤ M 520 115 0 then 1 else 0), M) := by
  rw [jRw_isRow_e]
  repeat' split
  all_goals first | (exfalso; omega) | rfl
theorem row_ok {d d' : Nat} (hd : 65 ≤ d) (hd' : 65 ≤ d') (k w : Int) (S M : St) (h : RL S M) : Two (jH_row d k w) (jM_row d' k w) S M (fun S' M' => S' = S ∧ M' = M) := by
  obtain ⟨d, rfl⟩ : ∃ x, d = x + 1 + 1 + 1 := ⟨d - 3, by omega⟩
  obtain ⟨d', rfl⟩ : ∃ x, d' = x + 1 + 1 := ⟨d' - 2, by omega⟩
  have hnm := h.nm
  have hn1 := h.n1
  by_cases hk : 1 ≤ k ∧ k ≤ S 351 23 0
  · have e1 : w32 (k - 1) = k - 1 := w32_eq (by omega) (by omega)
    have hr := h.row (k - 1) (by omega) (by omega)
    have hz : S 104 (S 350 23 0) (k - 1) ≠ 0 := hr.nz
    have q1 := hr.cnt
    have q2 := hr.ltd
    have q3 := hr.pas
    have q4 := hr.ltd0
    unfold rwO at q1 q2 q3
    have o1 := onE_c hr.exp h.con hr.nz (d := d) (by omega)
    have o2 := onE_m hr.exp (by omega) h.half (d := d') (by omega)
    unfold rwO at o1
    have hb : b2i (onE S M (k - 1)) = 0 ∨ b2i (onE S M (k - 1)) = 1 := by unfold b2i; cases onE S M (k - 1) <;> simp
    refine ⟨if w = 0 then M 196 128 (k - 1) else if w = 1 then M 197 129 (k - 1) else if w = 2 then M 198 130 (k - 1) else if w = 3 then b2i (onE S M (k - 1)) else -1, S, M, ?_, ?_, rfl, rfl⟩
    · simp only [jH_row_e, jIl_row_e, isRowC, cl, bd, lt_eq, e1, nz_eq h.arr, nz_eq hz, q1, q2, q3, o1]
      grind [ib]
    · simp only [jM_row_e, cl, bd, lt_eq, e1, o2]
      grind [ib]
  · refine ⟨-1, S, M, ?_, ?_, rfl, rfl⟩
    · simp only [jH_row_e, jIl_row_e, isRowC, cl, bd, if_neg hk]
      grind
    · rw [jM_row_e]
      grind
theorem CE.cong {S S' : St} (h0 : S' 0 = S 0) (h1 : S' 563 = S 563) (h2 : S' 564 = S 564) (h3 : S' 565 = S 565) (h4 : S' 566 = S 566) (h5 : S' 567 = S 567) : ∀ {n : Nat} {r : Int} {φ : (Nat → Bool) → Bool}, CE n S r φ → CE n S' r φ := by
  intro n
  induction n with
  | zero => intro r φ h; exact h
  | succ n ih =>
    intro r φ h
    obtain ⟨hz, h⟩ := h
    refine ⟨hz, ?_⟩
    rw [h0, h1, h2, h3, h4, h5]
    rcases h with h | ⟨a1, ψ, a2, a3⟩ | ⟨a1, ψ, χ, a2, a3, a4⟩
    · exact Or.inl h
    · exact Or.inr (Or.inl ⟨a1, ψ, ih a2, a3⟩)
    · exact Or.inr (Or.inr ⟨a1, ψ, χ, ih a2, ih a3, a4⟩)
theorem ME.cong {M M' : St} (h1 : M' 187 = M 187) (h2 : M' 188 = M 188) (h3 : M' 189 = M 189) : ∀ {n : Nat} {r : Int} {φ : (Nat → Bool) → Bool}, ME n M r φ → ME n M' r φ := by
  intro n
  induction n with
  | zero => intro r φ h; exact h
  | succ n ih =>
    intro r φ h
    obtain ⟨hz, hz', h⟩ := h
    refine ⟨hz, hz', ?_⟩
    rw [h1, h2, h3]
    rcases h with h | ⟨a1, ψ, a2, a3⟩ | ⟨ψ, χ, a2, a3, a4⟩
    · exact Or.inl h
    · exact Or.inr (Or.inl ⟨a1, ψ, ih a2, a3⟩)
    · exact Or.inr (Or.inr ⟨ψ, χ, ih a2, ih a3, a4⟩)
/-- the rows' counts may change -/
theorem RLe.cong {S M S' M' : St} {k : Int} (h : RLe S M k) (g : Fr [560, 561, 562] S S') (m : Fr [196, 197, 198] M M') : RLe S' M' k := by
  have eO : rwO S' k = rwO S k := by unfold rwO; rw [g 104 (by decide), g 350 (by decide)]
  have eM : rwM M' k = rwM M k := by unfold rwM; rw [m 512 (by decide)]
  obtain ⟨φ, c1, c2⟩ := h
  refine ⟨φ, ?_, ?_⟩
  · rw [eO, g 556 (by decide)]
    exact CE.cong (g 0 (by decide)) (g 563 (by decide)) (g 564 (by decide)) (g 565 (by decide)) (g 566 (by decide)) (g 567 (by decide)) c1
  · rw [eM, m 190 (by decide)]
    exact ME.cong (m 187 (by decide)) (m 188 (by decide)) (m 189 (by decide)) c2
theorem CE.one {S : St} : ∀ {n : Nat} {r : Int} {φ φ' : (Nat → Bool) → Bool}, CE n S r φ → CE n S r φ' → ∀ v, φ v = φ' v := by
  intro n
  induction n with
  | zero => intro r φ φ' h; exact h.elim
  | succ n ih =>
    intro r φ φ' h h' v
    obtain ⟨-, h⟩ := h
    obtain ⟨-, h'⟩ := h'
    rcases h with ⟨h2, j, h4, h3, h5⟩ | ⟨h2, ψ, h3, h5⟩ | ⟨h2, ψ, χ, h4, h5, h6⟩
    · rcases h' with ⟨g2, j', g4, g3, g5⟩ | ⟨g2, _⟩ | ⟨g2, _⟩
      · rw [h5, g5]
        have : j = j' := by omega
        rw [this]
      · omega
      · omega
    · rcases h' with ⟨g2, _⟩ | ⟨g2, ψ', g3, g5⟩ | ⟨g2, _⟩
      · omega
      · rw [h5, g5, ih h3 g3]
      · omega
    · rcases h' with ⟨g2, _⟩ | ⟨g2, _⟩ | ⟨g2, ψ', χ', g4, g5, g6⟩
      · omega
      · omega
      · have e1 := ih h4 g4 v
        have e2 := ih h5 g5 v
        rcases h6 with ⟨h6, h7⟩ | ⟨h6, h7⟩ <;> rcases g6 with ⟨g6, g7⟩ | ⟨g6, g7⟩
        · rw [h7, g7, e1, e2]
        · omega
        · omega
        · rw [h7, g7, e1, e2]
theorem onE_eq {S M : St} {k : Int} {φ : (Nat → Bool) → Bool} (h : CE 60 S (S 556 (rwO S k) 0) φ) (g : ME 60 M (M 190 122 (rwM M k)) φ) : onE S M k = φ (bit32 (M 524 115 0)) := by
  have hx : RLe S M k := ⟨φ, h, g⟩
  have e1 : onE S M k = Classical.choose hx (bit32 (M 524 115 0)) := dif_pos hx
  rw [e1]
  exact CE.one (Classical.choose_spec hx).1 h _
theorem onE_cong {S M S' M' : St} {k : Int} (h : RLe S M k) (g : Fr [560, 561, 562] S S') (m : Fr [196, 197, 198] M M') : onE S' M' k = onE S M k := by
  have eO : rwO S' k = rwO S k := by unfold rwO; rw [g 104 (by decide), g 350 (by decide)]
  have eM : rwM M' k = rwM M k := by unfold rwM; rw [m 512 (by decide)]
  obtain ⟨φ, c1, c2⟩ := h
  rw [onE_eq c1 c2]
  have c1' : CE 60 S' (S' 556 (rwO S' k) 0) φ := by
    rw [eO, g 556 (by decide)]
    exact CE.cong (g 0 (by decide)) (g 563 (by decide)) (g 564 (by decide)) (g 565 (by decide)) (g 566 (by decide)) (g 567 (by decide)) c1
  have c2' : ME 60 M' (M' 190 122 (rwM M' k)) φ := by
    rw [eM, m 190 (by decide)]
    exact ME.cong (m 187 (by decide)) (m 188 (by decide)) (m 189 (by decide)) c2
  rw [onE_eq c1' c2', m 524 (by decide)]
theorem RL.upd {S M S' M' : St} (h : RL S M) (g : Fr [560, 561, 562] S S') (m : Fr [196, 197, 198] M M') (hr : ∀ j, 0 ≤ j → j < S 351 23 0 → S' 560 (rwO S j) 0 = M' 196 128 j ∧ 0 ≤ M' 196 128 j ∧ M' 196 128 j ≤ 1000000 ∧ S' 561 (rwO S j) 0 = M' 197 129 j ∧ (M' 197 129 j = 0 ∨ M' 197 129 j = 1) ∧ S' 562 (rwO S j) 0 = M' 198 130 j ∧ 0 ≤ M' 198 130 j ∧ M' 198 130 j ≤ 3600) : RL S' M' := by
  have e351 := g 351 (by decide)
  have e350 := g 350 (by decide)
  have e104 := g 104 (by decide)
  have e512 := m 512 (by decide)
  have e520 := m 520 (by decide)
  have e524 := m 524 (by decide)
  have e352 := g 352 (by decide)
  have eO : ∀ k, rwO S' k = rwO S k := fun k => by unfold rwO; rw [e104, e350]
  have eM : ∀ k, rwM M' k = rwM M k := fun k => by unfold rwM; rw [e512]
  refine ⟨by rw [e351]; exact h.n0, by rw [e351]; exact h.n1, by rw [e351, e520]; exact h.nm, by rw [e350]; exact h.arr, by rw [e512]; exact h.half, by rw [e524, e352]; exact h.con, fun k k0 k1 => ?_, fun j k j0 j1 k0 k1 hjk => ?_⟩
  · rw [e351] at k1
    have r := h.row k k0 k1
    obtain ⟨q1, q2, q3, q4, q5, q6, q7, q8⟩ := hr k k0 k1
    refine ⟨by rw [eO]; exact r.nz, by rw [eO]; exact q1, q2, q3, ?_, ?_, ?_, ?_, ?_, by rw [eO]; exact q4, q5, by rw [eO]; exact q6, q7, q8, ?_, r.exp.cong g m⟩
    · rw [eO, eM, g 558 (by decide), m 193 (by decide)]; exact r.sec
    · rw [eM, m 193 (by decide)]; exact r.sec0
    · rw [eM, m 193 (by decide)]; exact r.sec1
    · rw [eO, eM, g 559 (by decide), m 194 (by decide)]; exact r.lat
    · rw [eM, m 194 (by decide)]; exact r.lat0
    · have := r.act
      unfold RLa at this ⊢
      rw [eO, eM, m 191 (by decide), m 192 (by decide), g 554 (by decide)]
      exact this
  · rw [e351] at j1 k1
    rw [eO, eO] at hjk
    exact h.inj j k j0 j1 k0 k1 hjk
theorem pass_ok {d d' : Nat} (hd : 5 ≤ d) (hd' : 5 ≤ d') (k a b c : Int) (S M : St) (h : RL S M) : Two (jH_pass d k a b c) (jM_pass d' k a b c) S M (fun S' M' => RL S' M' ∧ Fr [560, 561, 562] S S' ∧ Fr [196, 197, 198] M M') := by
  obtain ⟨d, rfl⟩ : ∃ x, d = x + 1 + 1 := ⟨d - 2, by omega⟩
  obtain ⟨d', rfl⟩ : ∃ x, d' = x + 1 + 1 := ⟨d' - 2, by omega⟩
  have hnm := h.nm
  have hn1 := h.n1
  have isP : ∀ (d : Nat) (a : Int) (S : St), jIl_isPerson d a S = some (.inl (if 1 ≤ a ∧ a ≤ 999 then 1 else 0), S) := by
    intro d a S
    rw [jIl_isPerson_e]
    repeat' split
    all_goals first | (exfalso; omega) | rfl
  by_cases hk : 1 ≤ k ∧ k ≤ S 351 23 0
  · have e1 : w32 (k - 1) = k - 1 := w32_eq (by omega) (by omega)
    have hr := h.row (k - 1) (by omega) (by omega)
    have hz : S 104 (S 350 23 0) (k - 1) ≠ 0 := hr.nz
    have q3 := hr.pas
    unfold rwO at q3
    have c1 : jH_pass (d + 1 + 1) k a b c S = (if 1 ≤ a ∧ a ≤ 999 ∧ 1 ≤ b ∧ b ≤ 999 ∧ a ≠ b then if 1 ≤ c ∧ c ≤ 3600 then if 0 < M 198 130 (k - 1) then some (.inl (-4), S) else some (.inl 0, up S 562 (S 104 (S 350 23 0) (k - 1)) 0 c) else some (.inl (-3), S) else some (.inl (-2), S)) := by
      simp only [jH_pass_e, jIl_pass_e, isRowC, isP, cl, bd, lt_eq, e1, nz_eq h.arr, nz_eq hz, q3]
      grind [ib]
    have c2 : jM_pass (d' + 1 + 1) k a b c M = (if 1 ≤ a ∧ a ≤ 999 ∧ 1 ≤ b ∧ b ≤ 999 ∧ a ≠ b then if 1 ≤ c ∧ c ≤ 3600 then if 0 < M 198 130 (k - 1) then some (.inl (-4), M) else some (.inl 0, up M 198 130 (k - 1) c) else some (.inl (-3), M) else some (.inl (-2), M)) := by
      simp only [jM_pass_e, jRw_pass_e, isRowM, cl, bd, lt_eq, e1, hnm]
      grind [ib]
    unfold Two
    rw [c1, c2]
    by_cases hp : 1 ≤ a ∧ a ≤ 999 ∧ 1 ≤ b ∧ b ≤ 999 ∧ a ≠ b
    · rw [if_pos hp, if_pos hp]
      by_cases hs : 1 ≤ c ∧ c ≤ 3600
      · rw [if_pos hs, if_pos hs]
        by_cases hq : 0 < M 198 130 (k - 1)
        · rw [if_pos hq, if_pos hq]
          exact ⟨_, _, _, rfl, rfl, h, Fr.rf _ _, Fr.rf _ _⟩
        · rw [if_neg hq, if_neg hq]
          refine ⟨_, _, _, rfl, rfl, h.upd (fr_up (by decide)) (fr_up (by decide)) (fun j j0 j1 => ?_), fr_up (by decide), fr_up (by decide)⟩
          have r := h.row j j0 j1
          rw [up_f (by decide), up_f (by decide), up_f (by decide), up_f (by decide)]
          refine ⟨r.cnt, r.cnt0, r.cnt1, r.ltd, r.ltd0, ?_⟩
          by_cases hj : j = k - 1
          · subst hj
            rw [show up S 562 (S 104 (S 350 23 0) (k - 1)) 0 c 562 (rwO S (k - 1)) 0 = c from up_at _ _ _ _ _, up_at]
            exact ⟨rfl, by omega, by omega⟩
          · rw [up_i hj, up_r (show rwO S j ≠ S 104 (S 350 23 0) (k - 1) from fun q => hj (h.inj j (k - 1) j0 j1 (by omega) (by omega) q))]
            exact ⟨r.pas, r.pas0, r.pas1⟩
      · rw [if_neg hs, if_neg hs]
        exact ⟨_, _, _, rfl, rfl, h, Fr.rf _ _, Fr.rf _ _⟩
    · rw [if_neg hp, if_neg hp]
      exact ⟨_, _, _, rfl, rfl, h, Fr.rf _ _, Fr.rf _ _⟩
  · refine ⟨-1, S, M, ?_, ?_, h, Fr.rf _ _, Fr.rf _ _⟩
    · simp only [jH_pass_e, jIl_pass_e, isRowC, cl, bd, if_neg hk]
      grind
    · simp only [jM_pass_e, jRw_pass_e, isRowM, cl, bd, hnm, if_neg hk]
      grind
theorem reset_ok {d d' : Nat} (hd : 65 ≤ d) (hd' : 65 ≤ d') (k : Int) (S M : St) (h : RL S M) : Two (jH_reset d k) (jM_reset d' k) S M (fun S' M' => RL S' M' ∧ Fr [560, 561, 562] S S' ∧ Fr [196, 197, 198] M M') := by
  obtain ⟨d, rfl⟩ : ∃ x, d = x + 1 + 1 + 1 := ⟨d - 3, by omega⟩
  obtain ⟨d', rfl⟩ : ∃ x, d' = x + 1 + 1 + 1 := ⟨d' - 3, by omega⟩
  have hnm := h.nm
  have hn1 := h.n1
  by_cases hk : 1 ≤ k ∧ k ≤ S 351 23 0
  · have e1 : w32 (k - 1) = k - 1 := w32_eq (by omega) (by omega)
    have hr := h.row (k - 1) (by omega) (by omega)
    have hz : S 104 (S 350 23 0) (k - 1) ≠ 0 := hr.nz
    have q2 := hr.ltd
    unfold rwO at q2
    have o1 := onE_c hr.exp h.con hr.nz (d := d) (by omega)
    have o2 := onE_m hr.exp (by omega) h.half (d := d') (by omega)
    unfold rwO at o1
    have hb : b2i (onE S M (k - 1)) = if onE S M (k - 1) = true then 1 else 0 := rfl
    have c1 : jH_reset (d + 1 + 1 + 1) k S = if M 197 129 (k - 1) = 0 ∨ onE S M (k - 1) = true then some (.inl 0, S) else some (.inl 1, up S 561 (S 104 (S 350 23 0) (k - 1)) 0 0) := by
      simp only [jH_reset_e, jIl_reset_e, isRowC, cl, bd, lt_eq, e1, nz_eq h.arr, nz_eq hz, q2, o1, hb]
      grind [ib, tv]
    have c2 : jM_reset (d' + 1 + 1 + 1) k M = if M 197 129 (k - 1) = 0 ∨ onE S M (k - 1) = true then some (.inl 0, M) else some (.inl 1, up M 197 129 (k - 1) 0) := by
      simp only [jM_reset_e, jRw_reset_e, isRowM, cl, bd, lt_eq, e1, hnm, o2, hb]
      grind [ib, tv]
    unfold Two
    rw [c1, c2]
    by_cases hl : M 197 129 (k - 1) = 0 ∨ onE S M (k - 1) = true
    · rw [if_pos hl, if_pos hl]
      exact ⟨_, _, _, rfl, rfl, h, Fr.rf _ _, Fr.rf _ _⟩
    · rw [if_neg hl, if_neg hl]
      refine ⟨_, _, _, rfl, rfl, h.upd (fr_up (by decide)) (fr_up (by decide)) (fun j j0 j1 => ?_), fr_up (by decide), fr_up (by decide)⟩
      have r := h.row j j0 j1
      rw [up_f (by decide), up_f (show 196 ≠ 197 by decide), up_f (show 562 ≠ 561 by decide), up_f (show 198 ≠ 197 by decide)]
      refine ⟨r.cnt, r.cnt0, r.cnt1, ?_, ?_, r.pas, r.pas0, r.pas1⟩
      · by_cases hj : j = k - 1
        · subst hj
          rw [show up S 561 (S 104 (S 350 23 0) (k - 1)) 0 0 561 (rwO S (k - 1)) 0 = 0 from up_at _ _ _ _ _, up_at]
        · rw [up_i hj, up_r (show rwO S j ≠ S 104 (S 350 23 0) (k - 1) from fun q => hj (h.inj j (k - 1) j0 j1 (by omega) (by omega) q))]
          exact r.ltd
      · by_cases hj : j = k - 1
        · subst hj
          rw [up_at]
          exact Or.inl rfl
        · rw [up_i hj]
          exact r.ltd0
  · refine ⟨0, S, M, ?_, ?_, h, Fr.rf _ _, Fr.rf _ _⟩
    · simp only [jH_reset_e, jIl_reset_e, isRowC, cl, bd, if_neg hk]
      grind [tv]
    · simp only [jM_reset_e, jRw_reset_e, isRowM, cl, bd, hnm, if_neg hk]
      grind [tv]
