/-! LAYER 3, 0: what a run comes to: it returns (P) or it throws (E) -/
def Ox (r : Rs) (P E : Int → St → Prop) : Prop := ∃ o S', r = some (o, S') ∧ (match o with
  | .inl v => P v S'
  | .inr x => E x S')
/-- it returns -/
def Ok (r : Rs) (P : Int → St → Prop) : Prop := Ox r P (fun _ _ => False)
section Wp
variable {P Q E F : Int → St → Prop} {r : Rs}
theorem ok_iff : Ok r P ↔ ∃ v S', r = some (.inl v, S') ∧ P v S' := by
  constructor
  · rintro ⟨o, S', h, g⟩
    cases o with
    | inl v => exact ⟨v, S', h, g⟩
    | inr x => exact g.elim
  · rintro ⟨v, S', h, g⟩
    exact ⟨.inl v, S', h, g⟩
theorem ok_eq {v : Int} {S' : St} (h : r = some (.inl v, S')) (g : P v S') : Ok r P := ⟨.inl v, S', h, g⟩
theorem ox_eq {v : Int} {S' : St} (h : r = some (.inl v, S')) (g : P v S') : Ox r P E := ⟨.inl v, S', h, g⟩
theorem ox_thr {x : Int} {S' : St} (h : r = some (.inr x, S')) (g : E x S') : Ox r P E := ⟨.inr x, S', h, g⟩
theorem ox_mono (h : Ox r P E) (hp : ∀ v S, P v S → Q v S) (he : ∀ x S, E x S → F x S) : Ox r Q F := by
  obtain ⟨o, S', h1, h2⟩ := h
  cases o with
  | inl v => exact ⟨.inl v, S', h1, hp _ _ h2⟩
  | inr x => exact ⟨.inr x, S', h1, he _ _ h2⟩
theorem ok_mono (h : Ok r P) (hp : ∀ v S, P v S → Q v S) : Ok r Q := ox_mono h hp (fun _ _ h => h)
theorem ok_ox (h : Ok r P) : Ox r P E := ox_mono h (fun _ _ h => h) (fun _ _ h => h.elim)
theorem ox_some {v : Int} {S : St} (h : P v S) : Ox (some (.inl v, S)) P E := ⟨.inl v, S, rfl, h⟩
theorem ox_some' {x : Int} {S : St} (h : E x S) : Ox (some (.inr x, S)) P E := ⟨.inr x, S, rfl, h⟩
theorem ox_cl {k : Int → St → Rs} (h : Ox r (fun v S => Ox (k v S) P E) E) : Ox (cl r k) P E := by
  obtain ⟨o, S', rfl, h2⟩ := h
  cases o with
  | inl v => exact h2
  | inr x => exact ⟨.inr x, S', rfl, h2⟩
theorem ox_bd {k h : Int → St → Rs} (g : Ox r (fun v S => Ox (k v S) P E) (fun x S => Ox (h x S) P E)) : Ox (bd r k h) P E := by
  obtain ⟨o, S', rfl, h2⟩ := g
  cases o with
  | inl v => exact h2
  | inr x => exact h2
theorem ox_nz {x : Int} (h : x ≠ 0) (g : Ox r P E) : Ox (nz x r) P E := by unfold nz; rw [if_neg h]; exact g
theorem ox_ib {i l : Int} (h0 : 0 ≤ i) (h1 : i < l) (g : Ox r P E) : Ox (ib i l r) P E := by unfold ib; rw [if_pos ⟨h0, h1⟩]; exact g
theorem ox_tv {v : Int} (h : v = 0 ∨ v = 1) (g : Ox r P E) : Ox (tv v r) P E := by unfold tv; rw [if_pos h]; exact g
theorem ox_eqr {a b : Int} (h : a = b) (g : Ox r P E) : Ox (eqr a b r) P E := by unfold eqr; rw [if_pos h]; exact g
theorem ox_lt {α : Type} {a : α} {k : α → Rs} (g : Ox (k a) P E) : Ox (lt_ a k) P E := g
theorem ox_ck {b : Bool} (h : b = true) (g : Ox r P E) : Ox (ck b r) P E := by subst h; exact g
theorem ox_ite {c : Prop} [Decidable c] {a b : Rs} (h : c → Ox a P E) (g : ¬ c → Ox b P E) : Ox (if c then a else b) P E := by
  by_cases hc : c
  · rw [if_pos hc]; exact h hc
  · rw [if_neg hc]; exact g hc
theorem ox_ali {z x : Int} (h : z < 2 ∨ N0 < x) (g : Ox r P E) : Ox (ali true z x r) P E := by
  unfold ali
  split
  · rename_i q
    rw [if_pos (h.elim (fun q' => absurd q.1 (by omega)) id)]; exact g
  · exact g
/-- a call whose answer is known -/
theorem cl_eq {v : Int} {S : St} {k : Int → St → Rs} (h : r = some (.inl v, S)) : cl r k = k v S := by rw [h]; rfl
theorem nz_eq {x : Int} (h : x ≠ 0) : nz x r = r := if_neg h
theorem ib_eq {i l : Int} (h0 : 0 ≤ i) (h1 : i < l) : ib i l r = r := if_pos ⟨h0, h1⟩
theorem tv_eq {v : Int} (h : v = 0 ∨ v = 1) : tv v r = r := if_pos h
theorem lt_eq {α : Type} (a : α) (k : α → Rs) : lt_ a k = k a := rfl
end Wp
/-! numbers -/
theorem w32_eq {x : Int} (h0 : -2147483648 ≤ x) (h1 : x < 2147483648) : w32 x = x := by
  unfold w32
  exact Int.bmod_eq_of_le (by omega) (by omega)
theorem w64_eq {x : Int} (h0 : -9223372036854775808 ≤ x) (h1 : x < 9223372036854775808) : w64 x = x := by
  unfold w64
  exact Int.bmod_eq_of_le (by omega) (by omega)
theorem b8_eq {x : Int} (h0 : -128 ≤ x) (h1 : x < 128) : Int.bmod x 256 = x := Int.bmod_eq_of_le (by omega) (by omega)
theorem w32_rng (x : Int) : -2147483648 ≤ w32 x ∧ w32 x < 2147483648 := by
  unfold w32
  have h1 := @Int.le_bmod x 4294967296 (by decide)
  have h2 := @Int.bmod_lt x 4294967296 (by decide)
  exact ⟨by omega, by omega⟩
/-! states -/
theorem up_ap (S : St) (f : Nat) (r i v : Int) (g : Nat) (a j : Int) : up S f r i v g a j = if g = f ∧ a = r ∧ j = i then v else S g a j := rfl
/-- two states agree on fields -/
def Ag (M : Nat) (S S' : St) : Prop := ∀ f, M.testBit f = false → S' f = S f
theorem Ag.rf (M : Nat) (S : St) : Ag M S S := fun _ _ => rfl
theorem Kp.ag {M : Nat} {S S' : St} (h : Kp M S S') : Ag M S S' := h.2.2.2
theorem kp_f {M : Nat} {S S' : St} (h : Kp M S S') {f : Nat} (hf : M.testBit f = false) (r i : Int) : S' f r i = S f r i := by rw [h.2.2.2 f hf]
