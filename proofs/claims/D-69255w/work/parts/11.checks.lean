set_option maxRecDepth 100000
theorem mok_0 : ((List.range 24).all fun j => mokM (0 + j)) = true := by decide +kernel
theorem mok_1 : ((List.range 24).all fun j => mokM (24 + j)) = true := by decide +kernel
theorem mok_2 : ((List.range 24).all fun j => mokM (48 + j)) = true := by decide +kernel
theorem mok_3 : ((List.range 24).all fun j => mokM (72 + j)) = true := by decide +kernel
theorem mok_4 : ((List.range 24).all fun j => mokM (96 + j)) = true := by decide +kernel
theorem mok_5 : ((List.range 24).all fun j => mokM (120 + j)) = true := by decide +kernel
theorem mok_6 : ((List.range 24).all fun j => mokM (144 + j)) = true := by decide +kernel
theorem mok_7 : ((List.range 24).all fun j => mokM (168 + j)) = true := by decide +kernel
theorem mok_8 : ((List.range 24).all fun j => mokM (192 + j)) = true := by decide +kernel
theorem mok_9 : ((List.range 24).all fun j => mokM (216 + j)) = true := by decide +kernel
theorem mok_10 : ((List.range 24).all fun j => mokM (240 + j)) = true := by decide +kernel
theorem mok_11 : ((List.range 24).all fun j => mokM (264 + j)) = true := by decide +kernel
theorem mok_12 : ((List.range 24).all fun j => mokM (288 + j)) = true := by decide +kernel
theorem mok_13 : ((List.range 24).all fun j => mokM (312 + j)) = true := by decide +kernel
theorem mok_14 : ((List.range 24).all fun j => mokM (336 + j)) = true := by decide +kernel
theorem mok_15 : ((List.range 24).all fun j => mokM (360 + j)) = true := by decide +kernel
theorem mok_16 : ((List.range 24).all fun j => mokM (384 + j)) = true := by decide +kernel
theorem mok_17 : ((List.range 24).all fun j => mokM (408 + j)) = true := by decide +kernel
theorem mok_18 : ((List.range 24).all fun j => mokM (432 + j)) = true := by decide +kernel
theorem mok_19 : ((List.range 11).all fun j => mokM (456 + j)) = true := by decide +kernel
theorem mokA (m : Nat) (h : m < 467) : mokM m = true := by
  match e : m / 24 with
  | 0 => have := List.all_eq_true.mp mok_0 (m % 24) (List.mem_range.mpr (by omega)); rwa [show 0 + m % 24 = m by omega] at this
  | 1 => have := List.all_eq_true.mp mok_1 (m % 24) (List.mem_range.mpr (by omega)); rwa [show 24 + m % 24 = m by omega] at this
  | 2 => have := List.all_eq_true.mp mok_2 (m % 24) (List.mem_range.mpr (by omega)); rwa [show 48 + m % 24 = m by omega] at this
  | 3 => have := List.all_eq_true.mp mok_3 (m % 24) (List.mem_range.mpr (by omega)); rwa [show 72 + m % 24 = m by omega] at this
  | 4 => have := List.all_eq_true.mp mok_4 (m % 24) (List.mem_range.mpr (by omega)); rwa [show 96 + m % 24 = m by omega] at this
  | 5 => have := List.all_eq_true.mp mok_5 (m % 24) (List.mem_range.mpr (by omega)); rwa [show 120 + m % 24 = m by omega] at this
  | 6 => have := List.all_eq_true.mp mok_6 (m % 24) (List.mem_range.mpr (by omega)); rwa [show 144 + m % 24 = m by omega] at this
  | 7 => have := List.all_eq_true.mp mok_7 (m % 24) (List.mem_range.mpr (by omega)); rwa [show 168 + m % 24 = m by omega] at this
  | 8 => have := List.all_eq_true.mp mok_8 (m % 24) (List.mem_range.mpr (by omega)); rwa [show 192 + m % 24 = m by omega] at this
  | 9 => have := List.all_eq_true.mp mok_9 (m % 24) (List.mem_range.mpr (by omega)); rwa [show 216 + m % 24 = m by omega] at this
  | 10 => have := List.all_eq_true.mp mok_10 (m % 24) (List.mem_range.mpr (by omega)); rwa [show 240 + m % 24 = m by omega] at this
  | 11 => have := List.all_eq_true.mp mok_11 (m % 24) (List.mem_range.mpr (by omega)); rwa [show 264 + m % 24 = m by omega] at this
  | 12 => have := List.all_eq_true.mp mok_12 (m % 24) (List.mem_range.mpr (by omega)); rwa [show 288 + m % 24 = m by omega] at this
  | 13 => have := List.all_eq_true.mp mok_13 (m % 24) (List.mem_range.mpr (by omega)); rwa [show 312 + m % 24 = m by omega] at this
  | 14 => have := List.all_eq_true.mp mok_14 (m % 24) (List.mem_range.mpr (by omega)); rwa [show 336 + m % 24 = m by omega] at this
  | 15 => have := List.all_eq_true.mp mok_15 (m % 24) (List.mem_range.mpr (by omega)); rwa [show 360 + m % 24 = m by omega] at this
  | 16 => have := List.all_eq_true.mp mok_16 (m % 24) (List.mem_range.mpr (by omega)); rwa [show 384 + m % 24 = m by omega] at this
  | 17 => have := List.all_eq_true.mp mok_17 (m % 24) (List.mem_range.mpr (by omega)); rwa [show 408 + m % 24 = m by omega] at this
  | 18 => have := List.all_eq_true.mp mok_18 (m % 24) (List.mem_range.mpr (by omega)); rwa [show 432 + m % 24 = m by omega] at this
  | 19 => have := List.all_eq_true.mp mok_19 (m % 24) (List.mem_range.mpr (by omega)); rwa [show 456 + m % 24 = m by omega] at this
  | n + 20 => omega
theorem cod_lt {m i : Nat} {e : En} (h : cod m i = some e) : m < 467 ∧ i < cln m := by
  unfold cod at h
  cases hb : Nat.blt m 467 && Nat.blt i (cln m) with
  | false => rw [hb] at h; cases h
  | true =>
    have := Bool.and_eq_true_iff.mp hb
    exact ⟨Nat.blt_eq.mp this.1, Nat.blt_eq.mp this.2⟩
theorem mok_all (m i : Nat) (e : En) (h : cod m i = some e) : mok m e = true := by
  obtain ⟨h1, h2⟩ := cod_lt h
  have := List.all_eq_true.mp (mokA m h1) i (List.mem_range.mpr h2)
  simp only [h] at this
  exact this
/-- WHAT A RUN KEEPS -/
theorem rn_kp {ph : Bool} {d mi i : Nat} {lv : Lv} {st : List Wd} {S S' : St} {o : Int ⊕ Int} (h : rn ph d mi i lv st S = some (o, S')) : Kp (md mi) S S' := by
  obtain ⟨n, h⟩ := rn_to h
  exact iv_run mok_all ph n d mi i lv st S o S' h
