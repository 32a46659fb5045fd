set_option maxRecDepth 100000
theorem okm_0 : ((List.range 12).all fun j => okM (0 + j)) = true := by decide +kernel
theorem okm_1 : ((List.range 12).all fun j => okM (12 + j)) = true := by decide +kernel
theorem okm_2 : ((List.range 12).all fun j => okM (24 + j)) = true := by decide +kernel
theorem okm_3 : ((List.range 12).all fun j => okM (36 + j)) = true := by decide +kernel
theorem okm_4 : ((List.range 12).all fun j => okM (48 + j)) = true := by decide +kernel
theorem okm_5 : ((List.range 12).all fun j => okM (60 + j)) = true := by decide +kernel
theorem okm_6 : ((List.range 12).all fun j => okM (72 + j)) = true := by decide +kernel
theorem okm_7 : ((List.range 12).all fun j => okM (84 + j)) = true := by decide +kernel
theorem okm_8 : ((List.range 12).all fun j => okM (96 + j)) = true := by decide +kernel
theorem okm_9 : ((List.range 12).all fun j => okM (108 + j)) = true := by decide +kernel
theorem okm_10 : ((List.range 12).all fun j => okM (120 + j)) = true := by decide +kernel
theorem okm_11 : ((List.range 12).all fun j => okM (132 + j)) = true := by decide +kernel
theorem okm_12 : ((List.range 12).all fun j => okM (144 + j)) = true := by decide +kernel
theorem okm_13 : ((List.range 12).all fun j => okM (156 + j)) = true := by decide +kernel
theorem okm_14 : ((List.range 12).all fun j => okM (168 + j)) = true := by decide +kernel
theorem okm_15 : ((List.range 12).all fun j => okM (180 + j)) = true := by decide +kernel
theorem okm_16 : ((List.range 12).all fun j => okM (192 + j)) = true := by decide +kernel
theorem okm_17 : ((List.range 12).all fun j => okM (204 + j)) = true := by decide +kernel
theorem okm_18 : ((List.range 12).all fun j => okM (216 + j)) = true := by decide +kernel
theorem okm_19 : ((List.range 12).all fun j => okM (228 + j)) = true := by decide +kernel
theorem okm_20 : ((List.range 12).all fun j => okM (240 + j)) = true := by decide +kernel
theorem okm_21 : ((List.range 12).all fun j => okM (252 + j)) = true := by decide +kernel
theorem okm_22 : ((List.range 12).all fun j => okM (264 + j)) = true := by decide +kernel
theorem okm_23 : ((List.range 12).all fun j => okM (276 + j)) = true := by decide +kernel
theorem okm_24 : ((List.range 12).all fun j => okM (288 + j)) = true := by decide +kernel
theorem okm_25 : ((List.range 12).all fun j => okM (300 + j)) = true := by decide +kernel
theorem okm_26 : ((List.range 12).all fun j => okM (312 + j)) = true := by decide +kernel
theorem okm_27 : ((List.range 12).all fun j => okM (324 + j)) = true := by decide +kernel
theorem okm_28 : ((List.range 12).all fun j => okM (336 + j)) = true := by decide +kernel
theorem okm_29 : ((List.range 12).all fun j => okM (348 + j)) = true := by decide +kernel
theorem okm_30 : ((List.range 12).all fun j => okM (360 + j)) = true := by decide +kernel
theorem okm_31 : ((List.range 12).all fun j => okM (372 + j)) = true := by decide +kernel
theorem okm_32 : ((List.range 12).all fun j => okM (384 + j)) = true := by decide +kernel
theorem okm_33 : ((List.range 12).all fun j => okM (396 + j)) = true := by decide +kernel
theorem okm_34 : ((List.range 12).all fun j => okM (408 + j)) = true := by decide +kernel
theorem okm_35 : ((List.range 12).all fun j => okM (420 + j)) = true := by decide +kernel
theorem okm_36 : ((List.range 12).all fun j => okM (432 + j)) = true := by decide +kernel
theorem okm_37 : ((List.range 12).all fun j => okM (444 + j)) = true := by decide +kernel
theorem okm_38 : ((List.range 11).all fun j => okM (456 + j)) = true := by decide +kernel
theorem okmA (m : Nat) (h : m < 467) : okM m = true := by
  match e : m / 12 with
  | 0 => have := List.all_eq_true.mp okm_0 (m % 12) (List.mem_range.mpr (by omega)); rwa [show 0 + m % 12 = m by omega] at this
  | 1 => have := List.all_eq_true.mp okm_1 (m % 12) (List.mem_range.mpr (by omega)); rwa [show 12 + m % 12 = m by omega] at this
  | 2 => have := List.all_eq_true.mp okm_2 (m % 12) (List.mem_range.mpr (by omega)); rwa [show 24 + m % 12 = m by omega] at this
  | 3 => have := List.all_eq_true.mp okm_3 (m % 12) (List.mem_range.mpr (by omega)); rwa [show 36 + m % 12 = m by omega] at this
  | 4 => have := List.all_eq_true.mp okm_4 (m % 12) (List.mem_range.mpr (by omega)); rwa [show 48 + m % 12 = m by omega] at this
  | 5 => have := List.all_eq_true.mp okm_5 (m % 12) (List.mem_range.mpr (by omega)); rwa [show 60 + m % 12 = m by omega] at this
  | 6 => have := List.all_eq_true.mp okm_6 (m % 12) (List.mem_range.mpr (by omega)); rwa [show 72 + m % 12 = m by omega] at this
  | 7 => have := List.all_eq_true.mp okm_7 (m % 12) (List.mem_range.mpr (by omega)); rwa [show 84 + m % 12 = m by omega] at this
  | 8 => have := List.all_eq_true.mp okm_8 (m % 12) (List.mem_range.mpr (by omega)); rwa [show 96 + m % 12 = m by omega] at this
  | 9 => have := List.all_eq_true.mp okm_9 (m % 12) (List.mem_range.mpr (by omega)); rwa [show 108 + m % 12 = m by omega] at this
  | 10 => have := List.all_eq_true.mp okm_10 (m % 12) (List.mem_range.mpr (by omega)); rwa [show 120 + m % 12 = m by omega] at this
  | 11 => have := List.all_eq_true.mp okm_11 (m % 12) (List.mem_range.mpr (by omega)); rwa [show 132 + m % 12 = m by omega] at this
  | 12 => have := List.all_eq_true.mp okm_12 (m % 12) (List.mem_range.mpr (by omega)); rwa [show 144 + m % 12 = m by omega] at this
  | 13 => have := List.all_eq_true.mp okm_13 (m % 12) (List.mem_range.mpr (by omega)); rwa [show 156 + m % 12 = m by omega] at this
  | 14 => have := List.all_eq_true.mp okm_14 (m % 12) (List.mem_range.mpr (by omega)); rwa [show 168 + m % 12 = m by omega] at this
  | 15 => have := List.all_eq_true.mp okm_15 (m % 12) (List.mem_range.mpr (by omega)); rwa [show 180 + m % 12 = m by omega] at this
  | 16 => have := List.all_eq_true.mp okm_16 (m % 12) (List.mem_range.mpr (by omega)); rwa [show 192 + m % 12 = m by omega] at this
  | 17 => have := List.all_eq_true.mp okm_17 (m % 12) (List.mem_range.mpr (by omega)); rwa [show 204 + m % 12 = m by omega] at this
  | 18 => have := List.all_eq_true.mp okm_18 (m % 12) (List.mem_range.mpr (by omega)); rwa [show 216 + m % 12 = m by omega] at this
  | 19 => have := List.all_eq_true.mp okm_19 (m % 12) (List.mem_range.mpr (by omega)); rwa [show 228 + m % 12 = m by omega] at this
  | 20 => have := List.all_eq_true.mp okm_20 (m % 12) (List.mem_range.mpr (by omega)); rwa [show 240 + m % 12 = m by omega] at this
  | 21 => have := List.all_eq_true.mp okm_21 (m % 12) (List.mem_range.mpr (by omega)); rwa [show 252 + m % 12 = m by omega] at this
  | 22 => have := List.all_eq_true.mp okm_22 (m % 12) (List.mem_range.mpr (by omega)); rwa [show 264 + m % 12 = m by omega] at this
  | 23 => have := List.all_eq_true.mp okm_23 (m % 12) (List.mem_range.mpr (by omega)); rwa [show 276 + m % 12 = m by omega] at this
  | 24 => have := List.all_eq_true.mp okm_24 (m % 12) (List.mem_range.mpr (by omega)); rwa [show 288 + m % 12 = m by omega] at this
  | 25 => have := List.all_eq_true.mp okm_25 (m % 12) (List.mem_range.mpr (by omega)); rwa [show 300 + m % 12 = m by omega] at this
  | 26 => have := List.all_eq_true.mp okm_26 (m % 12) (List.mem_range.mpr (by omega)); rwa [show 312 + m % 12 = m by omega] at this
  | 27 => have := List.all_eq_true.mp okm_27 (m % 12) (List.mem_range.mpr (by omega)); rwa [show 324 + m % 12 = m by omega] at this
  | 28 => have := List.all_eq_true.mp okm_28 (m % 12) (List.mem_range.mpr (by omega)); rwa [show 336 + m % 12 = m by omega] at this
  | 29 => have := List.all_eq_true.mp okm_29 (m % 12) (List.mem_range.mpr (by omega)); rwa [show 348 + m % 12 = m by omega] at this
  | 30 => have := List.all_eq_true.mp okm_30 (m % 12) (List.mem_range.mpr (by omega)); rwa [show 360 + m % 12 = m by omega] at this
  | 31 => have := List.all_eq_true.mp okm_31 (m % 12) (List.mem_range.mpr (by omega)); rwa [show 372 + m % 12 = m by omega] at this
  | 32 => have := List.all_eq_true.mp okm_32 (m % 12) (List.mem_range.mpr (by omega)); rwa [show 384 + m % 12 = m by omega] at this
  | 33 => have := List.all_eq_true.mp okm_33 (m % 12) (List.mem_range.mpr (by omega)); rwa [show 396 + m % 12 = m by omega] at this
  | 34 => have := List.all_eq_true.mp okm_34 (m % 12) (List.mem_range.mpr (by omega)); rwa [show 408 + m % 12 = m by omega] at this
  | 35 => have := List.all_eq_true.mp okm_35 (m % 12) (List.mem_range.mpr (by omega)); rwa [show 420 + m % 12 = m by omega] at this
  | 36 => have := List.all_eq_true.mp okm_36 (m % 12) (List.mem_range.mpr (by omega)); rwa [show 432 + m % 12 = m by omega] at this
  | 37 => have := List.all_eq_true.mp okm_37 (m % 12) (List.mem_range.mpr (by omega)); rwa [show 444 + m % 12 = m by omega] at this
  | 38 => have := List.all_eq_true.mp okm_38 (m % 12) (List.mem_range.mpr (by omega)); rwa [show 456 + m % 12 = m by omega] at this
  | n + 39 => omega
theorem okE_all (m i : Nat) (e : En) (h : cod m i = some e) : okE m i e = true := by
  obtain ⟨h1, h2⟩ := cod_lt h
  have := List.all_eq_true.mp (okmA m h1) i (List.mem_range.mpr h2)
  simp only [h] at this
  exact this
