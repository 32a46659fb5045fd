set_option maxRecDepth 100000
theorem okm_0 : ((List.range 8).all fun j => okM (0 + j)) = true := by decide +kernel
theorem okm_1 : ((List.range 11).all fun j => okM (8 + j)) = true := by decide +kernel
theorem okm_2 : ((List.range 12).all fun j => okM (19 + j)) = true := by decide +kernel
theorem okm_3 : ((List.range 7).all fun j => okM (31 + j)) = true := by decide +kernel
theorem okm_4 : ((List.range 10).all fun j => okM (38 + j)) = true := by decide +kernel
theorem okm_5 : ((List.range 15).all fun j => okM (48 + j)) = true := by decide +kernel
theorem okm_6 : ((List.range 13).all fun j => okM (63 + j)) = true := by decide +kernel
theorem okm_7 : ((List.range 7).all fun j => okM (76 + j)) = true := by decide +kernel
theorem okm_8 : ((List.range 7).all fun j => okM (83 + j)) = true := by decide +kernel
theorem okm_9 : ((List.range 13).all fun j => okM (90 + j)) = true := by decide +kernel
theorem okm_10 : ((List.range 8).all fun j => okM (103 + j)) = true := by decide +kernel
theorem okm_11 : ((List.range 9).all fun j => okM (111 + j)) = true := by decide +kernel
theorem okm_12 : ((List.range 4).all fun j => okM (120 + j)) = true := by decide +kernel
theorem okm_13 : ((List.range 1).all fun j => okM (124 + j)) = true := by decide +kernel
theorem okm_14 : ((List.range 5).all fun j => okM (125 + j)) = true := by decide +kernel
theorem okm_15 : ((List.range 4).all fun j => okM (130 + j)) = true := by decide +kernel
theorem okm_16 : ((List.range 5).all fun j => okM (134 + j)) = true := by decide +kernel
theorem okm_17 : ((List.range 8).all fun j => okM (139 + j)) = true := by decide +kernel
theorem okm_18 : ((List.range 3).all fun j => okM (147 + j)) = true := by decide +kernel
theorem okm_19 : ((List.range 10).all fun j => okM (150 + j)) = true := by decide +kernel
theorem okm_20 : ((List.range 9).all fun j => okM (160 + j)) = true := by decide +kernel
theorem okm_21 : ((List.range 2).all fun j => okM (169 + j)) = true := by decide +kernel
theorem okm_22 : ((List.range 1).all fun j => okM (171 + j)) = true := by decide +kernel
theorem okm_23 : ((List.range 2).all fun j => okM (172 + j)) = true := by decide +kernel
theorem okm_24 : ((List.range 6).all fun j => okM (174 + j)) = true := by decide +kernel
theorem okm_25 : ((List.range 9).all fun j => okM (180 + j)) = true := by decide +kernel
theorem okm_26 : ((List.range 6).all fun j => okM (189 + j)) = true := by decide +kernel
theorem okm_27 : ((List.range 5).all fun j => okM (195 + j)) = true := by decide +kernel
theorem okm_28 : ((List.range 1).all fun j => okM (200 + j)) = true := by decide +kernel
theorem okm_29 : ((List.range 1).all fun j => okM (201 + j)) = true := by decide +kernel
theorem okm_30 : ((List.range 3).all fun j => okM (202 + j)) = true := by decide +kernel
theorem okm_31 : ((List.range 1).all fun j => okM (205 + j)) = true := by decide +kernel
theorem okm_32 : ((List.range 10).all fun j => okM (206 + j)) = true := by decide +kernel
theorem okm_33 : ((List.range 7).all fun j => okM (216 + j)) = true := by decide +kernel
theorem okm_34 : ((List.range 4).all fun j => okM (223 + j)) = true := by decide +kernel
theorem okm_35 : ((List.range 7).all fun j => okM (227 + j)) = true := by decide +kernel
theorem okm_36 : ((List.range 1).all fun j => okM (234 + j)) = true := by decide +kernel
theorem okm_37 : ((List.range 5).all fun j => okM (235 + j)) = true := by decide +kernel
theorem okm_38 : ((List.range 8).all fun j => okM (240 + j)) = true := by decide +kernel
theorem okm_39 : ((List.range 1).all fun j => okM (248 + j)) = true := by decide +kernel
theorem okm_40 : ((List.range 10).all fun j => okM (249 + j)) = true := by decide +kernel
theorem okm_41 : ((List.range 5).all fun j => okM (259 + j)) = true := by decide +kernel
theorem okm_42 : ((List.range 9).all fun j => okM (264 + j)) = true := by decide +kernel
theorem okm_43 : ((List.range 14).all fun j => okM (273 + j)) = true := by decide +kernel
theorem okm_44 : ((List.range 24).all fun j => okM (287 + j)) = true := by decide +kernel
theorem okm_45 : ((List.range 14).all fun j => okM (311 + j)) = true := by decide +kernel
theorem okm_46 : ((List.range 13).all fun j => okM (325 + j)) = true := by decide +kernel
theorem okm_47 : ((List.range 18).all fun j => okM (338 + j)) = true := by decide +kernel
theorem okm_48 : ((List.range 11).all fun j => okM (356 + j)) = true := by decide +kernel
theorem okm_49 : ((List.range 10).all fun j => okM (367 + j)) = true := by decide +kernel
theorem okm_50 : ((List.range 6).all fun j => okM (377 + j)) = true := by decide +kernel
theorem okm_51 : ((List.range 9).all fun j => okM (383 + j)) = true := by decide +kernel
theorem okm_52 : ((List.range 21).all fun j => okM (392 + j)) = true := by decide +kernel
theorem okm_53 : ((List.range 30).all fun j => okM (413 + j)) = true := by decide +kernel
theorem okm_54 : ((List.range 23).all fun j => okM (443 + j)) = true := by decide +kernel
noncomputable def okQ (m i : Nat) : Bool := match cod m i with
  | none => true
  | some e => okE m i e
theorem okl_0 : ((List.range 64).all fun j => okQ 466 (0 + j)) = true := by decide +kernel
theorem okl_1 : ((List.range 64).all fun j => okQ 466 (64 + j)) = true := by decide +kernel
theorem okl_2 : ((List.range 64).all fun j => okQ 466 (128 + j)) = true := by decide +kernel
theorem okl_3 : ((List.range 64).all fun j => okQ 466 (192 + j)) = true := by decide +kernel
theorem okl_4 : ((List.range 64).all fun j => okQ 466 (256 + j)) = true := by decide +kernel
theorem okl_5 : ((List.range 64).all fun j => okQ 466 (320 + j)) = true := by decide +kernel
theorem okl_6 : ((List.range 64).all fun j => okQ 466 (384 + j)) = true := by decide +kernel
theorem okl_7 : ((List.range 64).all fun j => okQ 466 (448 + j)) = true := by decide +kernel
theorem okl_8 : ((List.range 64).all fun j => okQ 466 (512 + j)) = true := by decide +kernel
theorem okl_9 : ((List.range 64).all fun j => okQ 466 (576 + j)) = true := by decide +kernel
theorem okl_10 : ((List.range 64).all fun j => okQ 466 (640 + j)) = true := by decide +kernel
theorem okl_11 : ((List.range 64).all fun j => okQ 466 (704 + j)) = true := by decide +kernel
theorem okl_12 : ((List.range 64).all fun j => okQ 466 (768 + j)) = true := by decide +kernel
theorem okl_13 : ((List.range 32).all fun j => okQ 466 (832 + j)) = true := by decide +kernel
theorem cln_l : cln 466 = 864 := by decide +kernel
theorem okm_law : okM 466 = true := by
  refine List.all_eq_true.mpr fun i hi => ?_
  have hi := List.mem_range.mp hi
  rw [cln_l] at hi
  show okQ 466 i = true
  match e : i / 64 with
  | 0 => have := List.all_eq_true.mp okl_0 (i % 64) (List.mem_range.mpr (by omega)); rwa [show 0 + i % 64 = i by omega] at this
  | 1 => have := List.all_eq_true.mp okl_1 (i % 64) (List.mem_range.mpr (by omega)); rwa [show 64 + i % 64 = i by omega] at this
  | 2 => have := List.all_eq_true.mp okl_2 (i % 64) (List.mem_range.mpr (by omega)); rwa [show 128 + i % 64 = i by omega] at this
  | 3 => have := List.all_eq_true.mp okl_3 (i % 64) (List.mem_range.mpr (by omega)); rwa [show 192 + i % 64 = i by omega] at this
  | 4 => have := List.all_eq_true.mp okl_4 (i % 64) (List.mem_range.mpr (by omega)); rwa [show 256 + i % 64 = i by omega] at this
  | 5 => have := List.all_eq_true.mp okl_5 (i % 64) (List.mem_range.mpr (by omega)); rwa [show 320 + i % 64 = i by omega] at this
  | 6 => have := List.all_eq_true.mp okl_6 (i % 64) (List.mem_range.mpr (by omega)); rwa [show 384 + i % 64 = i by omega] at this
  | 7 => have := List.all_eq_true.mp okl_7 (i % 64) (List.mem_range.mpr (by omega)); rwa [show 448 + i % 64 = i by omega] at this
  | 8 => have := List.all_eq_true.mp okl_8 (i % 64) (List.mem_range.mpr (by omega)); rwa [show 512 + i % 64 = i by omega] at this
  | 9 => have := List.all_eq_true.mp okl_9 (i % 64) (List.mem_range.mpr (by omega)); rwa [show 576 + i % 64 = i by omega] at this
  | 10 => have := List.all_eq_true.mp okl_10 (i % 64) (List.mem_range.mpr (by omega)); rwa [show 640 + i % 64 = i by omega] at this
  | 11 => have := List.all_eq_true.mp okl_11 (i % 64) (List.mem_range.mpr (by omega)); rwa [show 704 + i % 64 = i by omega] at this
  | 12 => have := List.all_eq_true.mp okl_12 (i % 64) (List.mem_range.mpr (by omega)); rwa [show 768 + i % 64 = i by omega] at this
  | 13 => have := List.all_eq_true.mp okl_13 (i % 64) (List.mem_range.mpr (by omega)); rwa [show 832 + i % 64 = i by omega] at this
  | n + 14 => omega
theorem okmA (m : Nat) (h : m < 467) : okM m = true := by
  by_cases h0 : m < 8
  · have := List.all_eq_true.mp okm_0 (m - 0) (List.mem_range.mpr (by omega)); rwa [show 0 + (m - 0) = m by omega] at this
  by_cases h1 : m < 19
  · have := List.all_eq_true.mp okm_1 (m - 8) (List.mem_range.mpr (by omega)); rwa [show 8 + (m - 8) = m by omega] at this
  by_cases h2 : m < 31
  · have := List.all_eq_true.mp okm_2 (m - 19) (List.mem_range.mpr (by omega)); rwa [show 19 + (m - 19) = m by omega] at this
  by_cases h3 : m < 38
  · have := List.all_eq_true.mp okm_3 (m - 31) (List.mem_range.mpr (by omega)); rwa [show 31 + (m - 31) = m by omega] at this
  by_cases h4 : m < 48
  · have := List.all_eq_true.mp okm_4 (m - 38) (List.mem_range.mpr (by omega)); rwa [show 38 + (m - 38) = m by omega] at this
  by_cases h5 : m < 63
  · have := List.all_eq_true.mp okm_5 (m - 48) (List.mem_range.mpr (by omega)); rwa [show 48 + (m - 48) = m by omega] at this
  by_cases h6 : m < 76
  · have := List.all_eq_true.mp okm_6 (m - 63) (List.mem_range.mpr (by omega)); rwa [show 63 + (m - 63) = m by omega] at this
  by_cases h7 : m < 83
  · have := List.all_eq_true.mp okm_7 (m - 76) (List.mem_range.mpr (by omega)); rwa [show 76 + (m - 76) = m by omega] at this
  by_cases h8 : m < 90
  · have := List.all_eq_true.mp okm_8 (m - 83) (List.mem_range.mpr (by omega)); rwa [show 83 + (m - 83) = m by omega] at this
  by_cases h9 : m < 103
  · have := List.all_eq_true.mp okm_9 (m - 90) (List.mem_range.mpr (by omega)); rwa [show 90 + (m - 90) = m by omega] at this
  by_cases h10 : m < 111
  · have := List.all_eq_true.mp okm_10 (m - 103) (List.mem_range.mpr (by omega)); rwa [show 103 + (m - 103) = m by omega] at this
  by_cases h11 : m < 120
  · have := List.all_eq_true.mp okm_11 (m - 111) (List.mem_range.mpr (by omega)); rwa [show 111 + (m - 111) = m by omega] at this
  by_cases h12 : m < 124
  · have := List.all_eq_true.mp okm_12 (m - 120) (List.mem_range.mpr (by omega)); rwa [show 120 + (m - 120) = m by omega] at this
  by_cases h13 : m < 125
  · have := List.all_eq_true.mp okm_13 (m - 124) (List.mem_range.mpr (by omega)); rwa [show 124 + (m - 124) = m by omega] at this
  by_cases h14 : m < 130
  · have := List.all_eq_true.mp okm_14 (m - 125) (List.mem_range.mpr (by omega)); rwa [show 125 + (m - 125) = m by omega] at this
  by_cases h15 : m < 134
  · have := List.all_eq_true.mp okm_15 (m - 130) (List.mem_range.mpr (by omega)); rwa [show 130 + (m - 130) = m by omega] at this
  by_cases h16 : m < 139
  · have := List.all_eq_true.mp okm_16 (m - 134) (List.mem_range.mpr (by omega)); rwa [show 134 + (m - 134) = m by omega] at this
  by_cases h17 : m < 147
  · have := List.all_eq_true.mp okm_17 (m - 139) (List.mem_range.mpr (by omega)); rwa [show 139 + (m - 139) = m by omega] at this
  by_cases h18 : m < 150
  · have := List.all_eq_true.mp okm_18 (m - 147) (List.mem_range.mpr (by omega)); rwa [show 147 + (m - 147) = m by omega] at this
  by_cases h19 : m < 160
  · have := List.all_eq_true.mp okm_19 (m - 150) (List.mem_range.mpr (by omega)); rwa [show 150 + (m - 150) = m by omega] at this
  by_cases h20 : m < 169
  · have := List.all_eq_true.mp okm_20 (m - 160) (List.mem_range.mpr (by omega)); rwa [show 160 + (m - 160) = m by omega] at this
  by_cases h21 : m < 171
  · have := List.all_eq_true.mp okm_21 (m - 169) (List.mem_range.mpr (by omega)); rwa [show 169 + (m - 169) = m by omega] at this
  by_cases h22 : m < 172
  · have := List.all_eq_true.mp okm_22 (m - 171) (List.mem_range.mpr (by omega)); rwa [show 171 + (m - 171) = m by omega] at this
  by_cases h23 : m < 174
  · have := List.all_eq_true.mp okm_23 (m - 172) (List.mem_range.mpr (by omega)); rwa [show 172 + (m - 172) = m by omega] at this
  by_cases h24 : m < 180
  · have := List.all_eq_true.mp okm_24 (m - 174) (List.mem_range.mpr (by omega)); rwa [show 174 + (m - 174) = m by omega] at this
  by_cases h25 : m < 189
  · have := List.all_eq_true.mp okm_25 (m - 180) (List.mem_range.mpr (by omega)); rwa [show 180 + (m - 180) = m by omega] at this
  by_cases h26 : m < 195
  · have := List.all_eq_true.mp okm_26 (m - 189) (List.mem_range.mpr (by omega)); rwa [show 189 + (m - 189) = m by omega] at this
  by_cases h27 : m < 200
  · have := List.all_eq_true.mp okm_27 (m - 195) (List.mem_range.mpr (by omega)); rwa [show 195 + (m - 195) = m by omega] at this
  by_cases h28 : m < 201
  · have := List.all_eq_true.mp okm_28 (m - 200) (List.mem_range.mpr (by omega)); rwa [show 200 + (m - 200) = m by omega] at this
  by_cases h29 : m < 202
  · have := List.all_eq_true.mp okm_29 (m - 201) (List.mem_range.mpr (by omega)); rwa [show 201 + (m - 201) = m by omega] at this
  by_cases h30 : m < 205
  · have := List.all_eq_true.mp okm_30 (m - 202) (List.mem_range.mpr (by omega)); rwa [show 202 + (m - 202) = m by omega] at this
  by_cases h31 : m < 206
  · have := List.all_eq_true.mp okm_31 (m - 205) (List.mem_range.mpr (by omega)); rwa [show 205 + (m - 205) = m by omega] at this
  by_cases h32 : m < 216
  · have := List.all_eq_true.mp okm_32 (m - 206) (List.mem_range.mpr (by omega)); rwa [show 206 + (m - 206) = m by omega] at this
  by_cases h33 : m < 223
  · have := List.all_eq_true.mp okm_33 (m - 216) (List.mem_range.mpr (by omega)); rwa [show 216 + (m - 216) = m by omega] at this
  by_cases h34 : m < 227
  · have := List.all_eq_true.mp okm_34 (m - 223) (List.mem_range.mpr (by omega)); rwa [show 223 + (m - 223) = m by omega] at this
  by_cases h35 : m < 234
  · have := List.all_eq_true.mp okm_35 (m - 227) (List.mem_range.mpr (by omega)); rwa [show 227 + (m - 227) = m by omega] at this
  by_cases h36 : m < 235
  · have := List.all_eq_true.mp okm_36 (m - 234) (List.mem_range.mpr (by omega)); rwa [show 234 + (m - 234) = m by omega] at this
  by_cases h37 : m < 240
  · have := List.all_eq_true.mp okm_37 (m - 235) (List.mem_range.mpr (by omega)); rwa [show 235 + (m - 235) = m by omega] at this
  by_cases h38 : m < 248
  · have := List.all_eq_true.mp okm_38 (m - 240) (List.mem_range.mpr (by omega)); rwa [show 240 + (m - 240) = m by omega] at this
  by_cases h39 : m < 249
  · have := List.all_eq_true.mp okm_39 (m - 248) (List.mem_range.mpr (by omega)); rwa [show 248 + (m - 248) = m by omega] at this
  by_cases h40 : m < 259
  · have := List.all_eq_true.mp okm_40 (m - 249) (List.mem_range.mpr (by omega)); rwa [show 249 + (m - 249) = m by omega] at this
  by_cases h41 : m < 264
  · have := List.all_eq_true.mp okm_41 (m - 259) (List.mem_range.mpr (by omega)); rwa [show 259 + (m - 259) = m by omega] at this
  by_cases h42 : m < 273
  · have := List.all_eq_true.mp okm_42 (m - 264) (List.mem_range.mpr (by omega)); rwa [show 264 + (m - 264) = m by omega] at this
  by_cases h43 : m < 287
  · have := List.all_eq_true.mp okm_43 (m - 273) (List.mem_range.mpr (by omega)); rwa [show 273 + (m - 273) = m by omega] at this
  by_cases h44 : m < 311
  · have := List.all_eq_true.mp okm_44 (m - 287) (List.mem_range.mpr (by omega)); rwa [show 287 + (m - 287) = m by omega] at this
  by_cases h45 : m < 325
  · have := List.all_eq_true.mp okm_45 (m - 311) (List.mem_range.mpr (by omega)); rwa [show 311 + (m - 311) = m by omega] at this
  by_cases h46 : m < 338
  · have := List.all_eq_true.mp okm_46 (m - 325) (List.mem_range.mpr (by omega)); rwa [show 325 + (m - 325) = m by omega] at this
  by_cases h47 : m < 356
  · have := List.all_eq_true.mp okm_47 (m - 338) (List.mem_range.mpr (by omega)); rwa [show 338 + (m - 338) = m by omega] at this
  by_cases h48 : m < 367
  · have := List.all_eq_true.mp okm_48 (m - 356) (List.mem_range.mpr (by omega)); rwa [show 356 + (m - 356) = m by omega] at this
  by_cases h49 : m < 377
  · have := List.all_eq_true.mp okm_49 (m - 367) (List.mem_range.mpr (by omega)); rwa [show 367 + (m - 367) = m by omega] at this
  by_cases h50 : m < 383
  · have := List.all_eq_true.mp okm_50 (m - 377) (List.mem_range.mpr (by omega)); rwa [show 377 + (m - 377) = m by omega] at this
  by_cases h51 : m < 392
  · have := List.all_eq_true.mp okm_51 (m - 383) (List.mem_range.mpr (by omega)); rwa [show 383 + (m - 383) = m by omega] at this
  by_cases h52 : m < 413
  · have := List.all_eq_true.mp okm_52 (m - 392) (List.mem_range.mpr (by omega)); rwa [show 392 + (m - 392) = m by omega] at this
  by_cases h53 : m < 443
  · have := List.all_eq_true.mp okm_53 (m - 413) (List.mem_range.mpr (by omega)); rwa [show 413 + (m - 413) = m by omega] at this
  by_cases h54 : m < 466
  · have := List.all_eq_true.mp okm_54 (m - 443) (List.mem_range.mpr (by omega)); rwa [show 443 + (m - 443) = m by omega] at this
  rw [show m = 466 by omega]; exact okm_law
