set_option maxRecDepth 100000
/-! words for the start -/
theorem aov_0 : Cond.arrayOver (.object (cn 17)) ∈ lw_tbl := lw_at lw_m1 100 rfl
theorem aov_1 : Cond.arrayOver (.object (cn 22)) ∈ lw_tbl := lw_at lw_m1 71 rfl
theorem aov_2 : Cond.arrayOver (.object (cn 27)) ∈ lw_tbl := lw_at lw_m1 73 rfl
theorem aov_3 : Cond.arrayOver (.object (cn 30)) ∈ lw_tbl := lw_at lw_m1 172 rfl
theorem aov_4 : Cond.arrayOver (.object (cn 40)) ∈ lw_tbl := lw_at lw_m1 190 rfl
theorem aov_5 : Cond.arrayOver (.object (cn 39)) ∈ lw_tbl := lw_at lw_m4 226 rfl
theorem aov_6 : Cond.arrayOver (.object (cn 38)) ∈ lw_tbl := lw_at lw_m4 228 rfl
theorem lst_U : Cond.laysStatic "java/lang/Throwable" "UNASSIGNED_STACK" "[Ljava/lang/StackTraceElement;" ∈ lw_tbl := lw_at lw_m3 39 rfl
theorem lst_S : Cond.laysStatic "java/lang/Throwable" "SUPPRESSED_SENTINEL" "Ljava/util/List;" ∈ lw_tbl := lw_at lw_m3 41 rfl
theorem lst_Z : Cond.laysStatic "java/lang/String" "COMPACT_STRINGS" "Z" ∈ lw_tbl := lw_at lw_m2 205 rfl
theorem lst_F : Cond.laysStatic "jdk/internal/util/Preconditions" "SIOOBE_FORMATTER" "Ljava/util/function/BiFunction;" ∈ lw_tbl := lw_at lw_m2 221 rfl
theorem ins_T : Cond.initialized "java/lang/Throwable" ∈ lw_tbl := lw_all_tbl (lw_g (lw_at lw_m1 17 rfl) rfl)
theorem ins_S : Cond.initialized "java/lang/String" ∈ lw_tbl := lw_all_tbl (lw_g (lw_at lw_m1 13 rfl) rfl)
theorem ins_P : Cond.initialized "jdk/internal/util/Preconditions" ∈ lw_tbl := lw_all_tbl (lw_g (lw_at lw_m1 15 rfl) rfl)
theorem dcl_0 : Cond.declares (Bundle.init0 "java/lang/RuntimeException") ∈ lw_tbl := lw_at lw_m3 15 rfl
theorem dcl_1 : Cond.declares (Bundle.init0 "java/lang/Exception") ∈ lw_tbl := lw_at lw_m3 17 rfl
theorem dcl_2 : Cond.declares (Bundle.init0 "java/lang/Throwable") ∈ lw_tbl := lw_at lw_m3 19 rfl
/-- of each text a constant -/
def trc (i : Nat) : Nat := cond (Nat.blt i 25) (cond (Nat.blt i 13) (cond (Nat.blt i 7) (cond (Nat.blt i 4) (cond (Nat.blt i 2) (cond (Nat.blt i 1) (11) (35)) (29)) (35)) (cond (Nat.blt i 10) (cond (Nat.blt i 9) (cond (Nat.blt i 8) (35) (29)) (35)) (35))) (cond (Nat.blt i 19) (cond (Nat.blt i 16) (cond (Nat.blt i 15) (cond (Nat.blt i 14) (29) (35)) (11)) (cond (Nat.blt i 18) (cond (Nat.blt i 17) (11) (35)) (35))) (cond (Nat.blt i 22) (cond (Nat.blt i 21) (cond (Nat.blt i 20) (29) (35)) (35)) (cond (Nat.blt i 24) (35) (11))))) (cond (Nat.blt i 38) (cond (Nat.blt i 32) (cond (Nat.blt i 29) (cond (Nat.blt i 27) (cond (Nat.blt i 26) (29) (35)) (cond (Nat.blt i 28) (35) (29))) (cond (Nat.blt i 31) (cond (Nat.blt i 30) (29) (35)) (35))) (cond (Nat.blt i 35) (cond (Nat.blt i 34) (11) (21)) (cond (Nat.blt i 37) (35) (11)))) (cond (Nat.blt i 44) (cond (Nat.blt i 41) (35) (cond (Nat.blt i 43) (cond (Nat.blt i 42) (35) (21)) (35))) (cond (Nat.blt i 47) (cond (Nat.blt i 46) (cond (Nat.blt i 45) (35) (21)) (35)) (cond (Nat.blt i 49) (cond (Nat.blt i 48) (29) (35)) (35)))))
def tri (i : Nat) : Nat := cond (Nat.blt i 25) (cond (Nat.blt i 13) (cond (Nat.blt i 7) (cond (Nat.blt i 4) (cond (Nat.blt i 2) (cond (Nat.blt i 1) (11) (84)) (cond (Nat.blt i 3) (147) (149))) (cond (Nat.blt i 6) (cond (Nat.blt i 5) (207) (193)) (195))) (cond (Nat.blt i 10) (cond (Nat.blt i 9) (cond (Nat.blt i 8) (209) (113)) (243)) (cond (Nat.blt i 12) (cond (Nat.blt i 11) (245) (247)) (290)))) (cond (Nat.blt i 19) (cond (Nat.blt i 16) (cond (Nat.blt i 15) (cond (Nat.blt i 14) (133) (282)) (7)) (cond (Nat.blt i 18) (cond (Nat.blt i 17) (3) (284)) (303))) (cond (Nat.blt i 22) (cond (Nat.blt i 21) (cond (Nat.blt i 20) (102) (237)) (288)) (cond (Nat.blt i 24) (cond (Nat.blt i 23) (298) (319)) (1))))) (cond (Nat.blt i 38) (cond (Nat.blt i 32) (cond (Nat.blt i 29) (cond (Nat.blt i 27) (cond (Nat.blt i 26) (107) (307)) (cond (Nat.blt i 28) (236) (134))) (cond (Nat.blt i 31) (cond (Nat.blt i 30) (124) (337)) (315))) (cond (Nat.blt i 35) (cond (Nat.blt i 34) (cond (Nat.blt i 33) (9) (226)) (88)) (cond (Nat.blt i 37) (cond (Nat.blt i 36) (266) (305)) (5)))) (cond (Nat.blt i 44) (cond (Nat.blt i 41) (cond (Nat.blt i 40) (cond (Nat.blt i 39) (256) (332)) (339)) (cond (Nat.blt i 43) (cond (Nat.blt i 42) (286) (56)) (309))) (cond (Nat.blt i 47) (cond (Nat.blt i 46) (cond (Nat.blt i 45) (277) (77)) (268)) (cond (Nat.blt i 49) (cond (Nat.blt i 48) (92) (249)) (251)))))
