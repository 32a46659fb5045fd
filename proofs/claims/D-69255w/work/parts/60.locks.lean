/-! LAYER 3, 10: interlocks: expressions -/
theorem bit32_at (x : Int) {k : Nat} (hk : k < 32) : i_and (i_shr x k) 1 = if bit32 x k then 1 else 0 := by
  have hr : i_and (i_shr x k) 1 = (Int32.ofInt (i_and (i_shr x k) 1)).toInt := by
    rw [i_and_e]
    have := Int32.ofInt_toInt (Int32.ofInt (i_shr x k) &&& Int32.ofInt 1)
    rw [this]
  have hb : BitVec.ofInt 32 (i_and (i_shr x k) 1) = if bit32 x k then 1#32 else 0#32 := by
    apply BitVec.eq_of_getLsbD_eq
    intro j hj
    show bit32 (i_and (i_shr x k) 1) j = _
    rw [bit32_and, bit32_shr x hk]
    have h1 : bit32 1 j = decide (j = 0) := by
      unfold bit32
      have : BitVec.ofInt 32 1 = 1#32 := rfl
      rw [this, BitVec.getLsbD_one]
      simp
    rw [h1, BitVec.getLsbD_sshiftRight]
    by_cases h0 : j = 0
    · subst h0
      unfold bit32
      cases hq : (BitVec.ofInt 32 x).getLsbD k <;> simp [hq, hk]
    · cases hq : bit32 x k <;> simp [h0]
  have h3 : (Int32.ofInt (i_and (i_shr x k) 1)).toInt = (BitVec.ofInt 32 (i_and (i_shr x k) 1)).toInt := rfl
  rw [hr, h3, hb]
  cases bit32 x k <;> rfl
def b2i (b : Bool) : Int := if b then 1 else 0
/-- how the component has an expression, n objects deep at most; what it means -/
def CE (n : Nat) (S : St) (r : Int) (φ : (Nat → Bool) → Bool) : Prop := match n with
  | 0 => False
  | n + 1 => r ≠ 0 ∧ ((S 0 r 0 = 33 ∧ ∃ k : Nat, k < 16 ∧ S 564 r 0 = (k : Int) ∧ ∀ v, φ v = v k) ∨ (S 0 r 0 = 32 ∧ ∃ ψ, CE n S (S 563 r 0) ψ ∧ ∀ v, φ v = !(ψ v)) ∨
      (S 0 r 0 = 34 ∧ ∃ ψ χ, CE n S (S 566 r 0) ψ ∧ CE n S (S 567 r 0) χ ∧ ((S 565 r 0 = 0 ∧ ∀ v, φ v = (ψ v && χ v)) ∨ (S 565 r 0 = 1 ∧ ∀ v, φ v = (ψ v || χ v)))))
/-- how the model has it -/
def ME (n : Nat) (M : St) (r : Int) (φ : (Nat → Bool) → Bool) : Prop := match n with
  | 0 => False
  | n + 1 => 0 ≤ r ∧ r < 6000 ∧ ((∃ k : Nat, k < 16 ∧ M 187 119 r = (k : Int) ∧ ∀ v, φ v = v k) ∨ (M 187 119 r = 16 ∧ ∃ ψ, ME n M (M 188 120 r) ψ ∧ ∀ v, φ v = !(ψ v)) ∨
      (∃ ψ χ, ME n M (M 188 120 r) ψ ∧ ME n M (M 189 121 r) χ ∧ ((M 187 119 r = 17 ∧ ∀ v, φ v = (ψ v && χ v)) ∨ (M 187 119 r = 18 ∧ ∀ v, φ v = (ψ v || χ v)))))
theorem CE.nz {n : Nat} {S : St} {r : Int} {φ : (Nat → Bool) → Bool} (h : CE n S r φ) : r ≠ 0 := by
  cases n with
  | zero => exact h.elim
  | succ n => exact h.1
/-- the call by the object's kind -/
noncomputable def Dsp (d : Nat) (r c : Int) (S : St) (k : Int → St → Rs) : Rs := if S 0 r 0 = 32 then cl (jNo_isOn d r c S) k else if S 0 r 0 = 33 then cl (jCd_isOn d r c S) k else if S 0 r 0 = 34 then cl (jMy_isOn d r c S) k else none
theorem dsp_ok {S : St} {c : Int} : ∀ {n : Nat} {r : Int} {φ : (Nat → Bool) → Bool}, CE n S r φ → ∀ {d : Nat}, n ≤ d → ∀ k, Dsp d r c S k = k (b2i (φ (bit32 c))) S := by
  intro n
  induction n with
  | zero => intro r φ h; exact h.elim
  | succ n ih =>
    intro r φ h d hd k
    obtain ⟨d, rfl⟩ : ∃ d', d = d' + 1 := ⟨d - 1, by omega⟩
    have hd : n ≤ d := by omega
    obtain ⟨h1, h⟩ := h
    unfold Dsp
    rcases h with ⟨h2, j, h4, h3, h5⟩ | ⟨h2, ψ, h3, h5⟩ | ⟨h2, ψ, χ, h4, h5, h6⟩
    · rw [if_neg (by rw [h2]; decide), if_pos h2]
      refine cl_eq ?_
      rw [jCd_isOn_e, nz_eq h1, h3, bit32_at c (by omega), h5]
      unfold b2i
      cases bit32 c j <;> rfl
    · rw [if_pos h2]
      refine cl_eq ?_
      rw [jNo_isOn_e, nz_eq h1, nz_eq h3.nz]
      refine Eq.trans (ih h3 hd (fun v S => if v = 0 then some (.inl 1, S) else some (.inl 0, S))) ?_
      rw [h5]
      unfold b2i
      cases ψ (bit32 c) <;> rfl
    · rw [if_neg (by rw [h2]; decide), if_neg (by rw [h2]; decide), if_pos h2]
      refine cl_eq ?_
      have e2 := ih h5 hd (fun v S => if v = 0 then some (.inl 0, S) else some (.inl 1, S))
      rcases h6 with ⟨h3, h6⟩ | ⟨h3, h6⟩
      · rw [jMy_isOn_e, nz_eq h1, if_pos h3, nz_eq h1, nz_eq h4.nz]
        refine Eq.trans (ih h4 hd (fun v S1 => if v = 0 then some (.inl 0, S1) else nz r (nz (S1 567 r 0) (Dsp d (S1 567 r 0) c S1 (fun v S => if v = 0 then some (.inl 0, S) else some (.inl 1, S)))))) ?_
        rw [nz_eq h1, nz_eq h5.nz, e2, h6]
        unfold b2i
        cases ψ (bit32 c) <;> cases χ (bit32 c) <;> rfl
      · rw [jMy_isOn_e, nz_eq h1, if_neg (by rw [h3]; decide), nz_eq h1, nz_eq h4.nz]
        refine Eq.trans (ih h4 hd (fun v S1 => if v = 0 then nz r (nz (S1 567 r 0) (Dsp d (S1 567 r 0) c S1 (fun v S => if v = 0 then some (.inl 0, S) else some (.inl 1, S)))) else some (.inl 1, S1))) ?_
        rw [nz_eq h1, nz_eq h5.nz, e2, h6]
        unfold b2i
        cases ψ (bit32 c) <;> cases χ (bit32 c) <;> rfl
theorem val_ok {M : St} : ∀ {n : Nat} {r : Int} {φ : (Nat → Bool) → Bool}, ME n M r φ → ∀ {d : Nat}, n ≤ d → jRw_value d r M = some (.inl (b2i (φ (bit32 (M 524 115 0)))), M) := by
  intro n
  induction n with
  | zero => intro r φ h; exact h.elim
  | succ n ih =>
    intro r φ h d hd
    obtain ⟨d, rfl⟩ : ∃ d', d = d' + 1 := ⟨d - 1, by omega⟩
    have hd : n ≤ d := by omega
    obtain ⟨h1, h2, h⟩ := h
    rcases h with ⟨j, h4, h3, h5⟩ | ⟨h3, ψ, h4, h5⟩ | ⟨ψ, χ, h4, h5, h6⟩
    · rw [jRw_value_e, ib_eq h1 h2, if_neg (by omega), if_neg (by omega), if_neg (by omega), ib_eq h1 h2, h3, bit32_at _ (by omega), h5]
      unfold b2i
      cases bit32 (M 524 115 0) j <;> rfl
    · rw [jRw_value_e, ib_eq h1 h2, if_pos h3, ib_eq h1 h2, cl_eq (ih h4 hd), h5]
      unfold b2i
      cases ψ (bit32 (M 524 115 0)) <;> rfl
    · rcases h6 with ⟨h3, h6⟩ | ⟨h3, h6⟩
      · rw [jRw_value_e, ib_eq h1 h2, if_neg (by omega), if_pos h3, ib_eq h1 h2, cl_eq (ih h4 hd)]
        rw [ib_eq h1 h2, cl_eq (ih h5 hd), h6]
        unfold b2i
        cases ψ (bit32 (M 524 115 0)) <;> cases χ (bit32 (M 524 115 0)) <;> rfl
      · rw [jRw_value_e, ib_eq h1 h2, if_neg (by omega), if_neg (by omega), if_pos h3, ib_eq h1 h2, cl_eq (ih h4 hd)]
        rw [ib_eq h1 h2, cl_eq (ih h5 hd), h6]
        unfold b2i
        cases ψ (bit32 (M 524 115 0)) <;> cases χ (bit32 (M 524 115 0)) <;> rfl
