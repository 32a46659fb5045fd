theorem vr_cases {sa : Nat → Nat} {b : Nat} {ads : List (Nat × Nat)} {g : Nat} {v : Int} {w : Value} (h : vr sa b ads g v w) (h0 : 2 ≤ g) : w = .null ∨ ∃ a, w = .ref a := by
  by_cases h6 : 6 ≤ g
  · rcases (vr_ref h6).mp h with ⟨-, h⟩ | ⟨j, a, k, -, -, h, -⟩
    · exact Or.inl h
    · exact Or.inr ⟨a, h⟩
  · match g, h6, h0, h with
    | 2, _, _, h => exact Or.inl h.1
    | 3, _, _, h => exact Or.inr ⟨_, h.1⟩
    | 4, _, _, h => exact Or.inr ⟨_, h⟩
    | 5, _, _, h => exact Or.inr h
    | g + 6, h6, _, _ => omega
theorem w32_inc (x : Int32) (n : Int) : w32 (x.toInt + n) = (x + Int32.ofInt n).toInt := by
  rw [Int32.toInt_add, Int32.toInt_ofInt]
  unfold w32
  rw [show (4294967296 : Nat) = 2 ^ 32 from rfl, Int.add_bmod_bmod]
theorem cv_iadd (x y : Int32) : w32 (x.toInt + y.toInt) = (x + y).toInt := (Int32.toInt_add x y).symm
theorem cv_isub (x y : Int32) : w32 (x.toInt - y.toInt) = (x - y).toInt := (Int32.toInt_sub x y).symm
theorem cv_imul (x y : Int32) : w32 (x.toInt * y.toInt) = (x * y).toInt := (Int32.toInt_mul x y).symm
theorem cv_ladd (x y : Int64) : w64 (x.toInt + y.toInt) = (x + y).toInt := (Int64.toInt_add x y).symm
theorem cv_lsub (x y : Int64) : w64 (x.toInt - y.toInt) = (x - y).toInt := (Int64.toInt_sub x y).symm
theorem cv_lmul (x y : Int64) : w64 (x.toInt * y.toInt) = (x * y).toInt := (Int64.toInt_mul x y).symm
theorem cv_idiv (x y : Int32) : w32 (Int.tdiv x.toInt y.toInt) = (x / y).toInt := (Int32.toInt_div x y).symm
theorem cv_irem (x y : Int32) : Int.tmod x.toInt y.toInt = (x - x / y * y).toInt := by
  rw [Int32.toInt_sub, Int32.toInt_mul, Int32.toInt_div, Int.bmod_mul_bmod, Int.sub_bmod_bmod]
  have e : x.toInt - x.toInt.tdiv y.toInt * y.toInt = Int.tmod x.toInt y.toInt := by rw [Int.tmod_def, Int.mul_comm]
  rw [e, ← Int32.toInt_mod]
  exact (Int32.toInt_bmod _).symm
theorem cv_ldiv (x y : Int64) : w64 (Int.tdiv x.toInt y.toInt) = (x / y).toInt := (Int64.toInt_div x y).symm
theorem cv_lrem (x y : Int64) : Int.tmod x.toInt y.toInt = (x - x / y * y).toInt := by
  rw [Int64.toInt_sub, Int64.toInt_mul, Int64.toInt_div, Int.bmod_mul_bmod, Int.sub_bmod_bmod]
  have e : x.toInt - x.toInt.tdiv y.toInt * y.toInt = Int.tmod x.toInt y.toInt := by rw [Int.tmod_def, Int.mul_comm]
  rw [e, ← Int64.toInt_mod]
  exact (Int64.toInt_bmod _).symm
theorem cv_ineg (x : Int32) : w32 (-x.toInt) = (-x).toInt := (Int32.toInt_neg x).symm
theorem cv_lneg (x : Int64) : w64 (-x.toInt) = (-x).toInt := (Int64.toInt_neg x).symm
theorem cv_iand (x y : Int32) : i_and x.toInt y.toInt = (x &&& y).toInt := by rw [i_and_e, Int32.ofInt_toInt, Int32.ofInt_toInt]
theorem cv_ior (x y : Int32) : i_or x.toInt y.toInt = (x ||| y).toInt := by rw [i_or_e, Int32.ofInt_toInt, Int32.ofInt_toInt]
theorem cv_ixor (x y : Int32) : i_xor x.toInt y.toInt = (x ^^^ y).toInt := by rw [i_xor_e, Int32.ofInt_toInt, Int32.ofInt_toInt]
theorem cv_ishl (x y : Int32) : i_shl x.toInt y.toInt = (x <<< (y &&& 31)).toInt := by rw [i_shl_e, Int32.ofInt_toInt, Int32.ofInt_toInt]
theorem cv_ishr (x y : Int32) : i_shr x.toInt y.toInt = (x >>> (y &&& 31)).toInt := by rw [i_shr_e, Int32.ofInt_toInt, Int32.ofInt_toInt]
theorem cv_iushr (x y : Int32) : i_ushr x.toInt y.toInt = ((x.toUInt32 >>> (y.toUInt32 &&& Int32.toUInt32 31)).toInt32).toInt := by rw [i_ushr_e, Int32.ofInt_toInt, Int32.ofInt_toInt]
theorem cv_land (x y : Int64) : l_and x.toInt y.toInt = (x &&& y).toInt := by rw [l_and_e, Int64.ofInt_toInt, Int64.ofInt_toInt]
theorem cv_lor (x y : Int64) : l_or x.toInt y.toInt = (x ||| y).toInt := by rw [l_or_e, Int64.ofInt_toInt, Int64.ofInt_toInt]
theorem cv_lxor (x y : Int64) : l_xor x.toInt y.toInt = (x ^^^ y).toInt := by rw [l_xor_e, Int64.ofInt_toInt, Int64.ofInt_toInt]
theorem cv_lshl (x : Int64) (y : Int32) : l_shl x.toInt y.toInt = (x <<< (y.toInt64 &&& 63)).toInt := by rw [l_shl_e, Int64.ofInt_toInt, Int32.ofInt_toInt]
theorem cv_lshr (x : Int64) (y : Int32) : l_shr x.toInt y.toInt = (x >>> (y.toInt64 &&& 63)).toInt := by rw [l_shr_e, Int64.ofInt_toInt, Int32.ofInt_toInt]
theorem cv_lushr (x : Int64) (y : Int32) : l_ushr x.toInt y.toInt = ((x.toUInt64 >>> (y.toInt64.toUInt64 &&& Int64.toUInt64 63)).toInt64).toInt := by rw [l_ushr_e, Int64.ofInt_toInt, Int32.ofInt_toInt]
theorem cv_i2l (x : Int32) : x.toInt = x.toInt64.toInt := (Int32.toInt_toInt64 x).symm
theorem cv_l2i (x : Int64) : w32 x.toInt = x.toInt32.toInt := (Int64.toInt_toInt32 x).symm
theorem cv_i2b (x : Int32) : Int.bmod x.toInt 256 = x.toInt8.toInt32.toInt := by
  rw [Int8.toInt_toInt32, Int32.toInt_toInt8]
section Ins
variable {sa : Nat → Nat} {b : Nat} {aC : Nat → ClassId} {ph : Bool} {L : Nat} {xs : Nat → Int32} {G : va_G} {A : Nat → Prop} {n0 u0 : Int} {ads0 : List (Nat × Nat)}
variable {p : Program} {l : Launch} {e : Env} {R : Room} {s : State} {m : MethodId} {args : Array Value} {below : List Frame} {meth : Method} {c : Code} {mi : Nat}
variable {k : Nat → Lv → List Wd → St → Rs} {res : (Int ⊕ Int) × St} {Q : State → Prop} {i : Nat} {lv : Lv} {st : List Wd} {S : St} {ads : List (Nat × Nat)} {ws : va_W} {H : Heap} {locs : List Loc} {ls : Array Slot} {vs : List Value} {pc : Nat}

/-- something of a tag is pushed -/
theorem sn_push {t : Nat} {z : Int} {v : Value} {ln : Nat} (C : Cx G aC p s m meth c mi) (K : Kc sa b aC ph L xs G A n0 u0 ads0 p l e R s m args below meth c mi k res Q) (B : Bn sa b aC ph L xs G A n0 u0 ads0 s mi lv st S ads ws H locs ls vs) (hn : pcn mi (i + 1) = pc + ln) (hv : vr sa b ads t z v) (h : k (i + 1) lv ((t, z) :: st) S = some res)
    (row : W p l e R s m args below meth c H locs (S 2 0 0 - n0).toNat (S 3 0 0 - u0).toNat Q (F0 m (pc + ln) ls (v :: vs)) → W p l e R s m args below meth c H locs (S 2 0 0 - n0).toNat (S 3 0 0 - u0).toNat Q (F0 m pc ls vs)) : W p l e R s m args below meth c H locs (S 2 0 0 - n0).toNat (S 3 0 0 - u0).toNat Q (F0 m pc ls vs) := by
  obtain ⟨b1, b2, b3, b4, b5, b6, b7⟩ := B
  have := K (i + 1) lv ((t, z) :: st) S ads ws H locs ls (v :: vs) h ⟨b1, b2, b3, b4, b5, ⟨hv, b6⟩, b7⟩
  rw [hn] at this
  exact row this
theorem sn_iconst {n z : Int} (C : Cx G aC p s m meth c mi) (K : Kc sa b aC ph L xs G A n0 u0 ads0 p l e R s m args below meth c mi k res Q) (B : Bn sa b aC ph L xs G A n0 u0 ads0 s mi lv st S ads ws H locs ls vs) (hd : decode (mby mi) pc = .ok (.iconst n, 1)) (hn : pcn mi (i + 1) = pc + 1) (hz : (Int32.ofInt n).toInt = z) (h : k (i + 1) lv ((0, z) :: st) S = some res) : W p l e R s m args below meth c H locs (S 2 0 0 - n0).toNat (S 3 0 0 - u0).toNat Q (F0 m pc ls vs) :=
  sn_push (t := 0) (z := z) C K B hn (v := .int (Int32.ofInt n)) ⟨_, rfl, hz.symm⟩ h fun W1 => lv_iconst C.1 C.2.1 hd rfl W1
theorem sn_bipush {n z : Int} (C : Cx G aC p s m meth c mi) (K : Kc sa b aC ph L xs G A n0 u0 ads0 p l e R s m args below meth c mi k res Q) (B : Bn sa b aC ph L xs G A n0 u0 ads0 s mi lv st S ads ws H locs ls vs) (hd : decode (mby mi) pc = .ok (.bipush n, 2)) (hn : pcn mi (i + 1) = pc + 2) (hz : ((Int8.ofInt n).toInt32).toInt = z) (h : k (i + 1) lv ((0, z) :: st) S = some res) : W p l e R s m args below meth c H locs (S 2 0 0 - n0).toNat (S 3 0 0 - u0).toNat Q (F0 m pc ls vs) :=
  sn_push (t := 0) (z := z) C K B hn (v := .int ((Int8.ofInt n).toInt32)) ⟨_, rfl, hz.symm⟩ h fun W1 => lv_bipush C.1 C.2.1 hd rfl W1
theorem sn_sipush {n z : Int} (C : Cx G aC p s m meth c mi) (K : Kc sa b aC ph L xs G A n0 u0 ads0 p l e R s m args below meth c mi k res Q) (B : Bn sa b aC ph L xs G A n0 u0 ads0 s mi lv st S ads ws H locs ls vs) (hd : decode (mby mi) pc = .ok (.sipush n, 3)) (hn : pcn mi (i + 1) = pc + 3) (hz : ((Int16.ofInt n).toInt32).toInt = z) (h : k (i + 1) lv ((0, z) :: st) S = some res) : W p l e R s m args below meth c H locs (S 2 0 0 - n0).toNat (S 3 0 0 - u0).toNat Q (F0 m pc ls vs) :=
  sn_push (t := 0) (z := z) C K B hn (v := .int ((Int16.ofInt n).toInt32)) ⟨_, rfl, hz.symm⟩ h fun W1 => lv_sipush C.1 C.2.1 hd rfl W1
theorem sn_lconst {n : Fin 2} {z : Int} (C : Cx G aC p s m meth c mi) (K : Kc sa b aC ph L xs G A n0 u0 ads0 p l e R s m args below meth c mi k res Q) (B : Bn sa b aC ph L xs G A n0 u0 ads0 s mi lv st S ads ws H locs ls vs) (hd : decode (mby mi) pc = .ok (.lconst n, 1)) (hn : pcn mi (i + 1) = pc + 1) (hz : (Int64.ofNat (n : Nat)).toInt = z) (h : k (i + 1) lv ((1, z) :: st) S = some res) : W p l e R s m args below meth c H locs (S 2 0 0 - n0).toNat (S 3 0 0 - u0).toNat Q (F0 m pc ls vs) :=
  sn_push (t := 1) (z := z) C K B hn (v := .long (Int64.ofNat (n : Nat))) ⟨_, rfl, hz.symm⟩ h fun W1 => lv_lconst C.1 C.2.1 hd rfl W1
theorem sn_null (C : Cx G aC p s m meth c mi) (K : Kc sa b aC ph L xs G A n0 u0 ads0 p l e R s m args below meth c mi k res Q) (B : Bn sa b aC ph L xs G A n0 u0 ads0 s mi lv st S ads ws H locs ls vs) (hd : decode (mby mi) pc = .ok (.aconst_null, 1)) (hn : pcn mi (i + 1) = pc + 1) (h : k (i + 1) lv ((2, 0) :: st) S = some res) : W p l e R s m args below meth c H locs (S 2 0 0 - n0).toNat (S 3 0 0 - u0).toNat Q (F0 m pc ls vs) :=
  sn_push (t := 2) (z := 0) C K B hn (v := .null) ⟨rfl, rfl⟩ h fun W1 => lv_null C.1 C.2.1 hd W1
theorem sn_ldc {n : Nat} {z : Int} (C : Cx G aC p s m meth c mi) (K : Kc sa b aC ph L xs G A n0 u0 ads0 p l e R s m args below meth c mi k res Q) (B : Bn sa b aC ph L xs G A n0 u0 ads0 s mi lv st S ads ws H locs ls vs) (hd : decode (mby mi) pc = .ok (.ldc n, 2)) (hn : pcn mi (i + 1) = pc + 2) (hm : (own mi, n, z) ∈ cik) (hz : (Int32.ofInt z).toInt = z) (h : k (i + 1) lv ((0, z) :: st) S = some res) : W p l e R s m args below meth c H locs (S 2 0 0 - n0).toNat (S 3 0 0 - u0).toNat Q (F0 m pc ls vs) :=
  sn_push (t := 0) (z := z) C K B hn (v := .int (Int32.ofInt z)) ⟨_, rfl, hz.symm⟩ h fun W1 => lv_ldc C.1 C.2.1 C.2.2.2.2.1 (C.2.2.2.2.2.2.2.1.w (cik_ok _ hm) args) hd W1
theorem sn_ldcw {n : Nat} {z : Int} (C : Cx G aC p s m meth c mi) (K : Kc sa b aC ph L xs G A n0 u0 ads0 p l e R s m args below meth c mi k res Q) (B : Bn sa b aC ph L xs G A n0 u0 ads0 s mi lv st S ads ws H locs ls vs) (hd : decode (mby mi) pc = .ok (.ldc_w n, 3)) (hn : pcn mi (i + 1) = pc + 3) (hm : (own mi, n, z) ∈ cik) (hz : (Int32.ofInt z).toInt = z) (h : k (i + 1) lv ((0, z) :: st) S = some res) : W p l e R s m args below meth c H locs (S 2 0 0 - n0).toNat (S 3 0 0 - u0).toNat Q (F0 m pc ls vs) :=
  sn_push (t := 0) (z := z) C K B hn (v := .int (Int32.ofInt z)) ⟨_, rfl, hz.symm⟩ h fun W1 => lv_ldcw C.1 C.2.1 C.2.2.2.2.1 (C.2.2.2.2.2.2.2.1.w (cik_ok _ hm) args) hd W1
theorem sn_ldc2 {n : Nat} {z : Int} (C : Cx G aC p s m meth c mi) (K : Kc sa b aC ph L xs G A n0 u0 ads0 p l e R s m args below meth c mi k res Q) (B : Bn sa b aC ph L xs G A n0 u0 ads0 s mi lv st S ads ws H locs ls vs) (hd : decode (mby mi) pc = .ok (.ldc2_w n, 3)) (hn : pcn mi (i + 1) = pc + 3) (hm : (own mi, n, z) ∈ cjk) (hz : (Int64.ofInt z).toInt = z) (h : k (i + 1) lv ((1, z) :: st) S = some res) : W p l e R s m args below meth c H locs (S 2 0 0 - n0).toNat (S 3 0 0 - u0).toNat Q (F0 m pc ls vs) :=
  sn_push (t := 1) (z := z) C K B hn (v := .long (Int64.ofInt z)) ⟨_, rfl, hz.symm⟩ h fun W1 => lv_ldc2 C.1 C.2.1 C.2.2.2.2.1 (C.2.2.2.2.2.2.2.1.w (cjk_ok _ hm) args) hd W1
theorem sn_iload {j : Nat} (C : Cx G aC p s m meth c mi) (K : Kc sa b aC ph L xs G A n0 u0 ads0 p l e R s m args below meth c mi k res Q) (B : Bn sa b aC ph L xs G A n0 u0 ads0 s mi lv st S ads ws H locs ls vs) (hd : decode (mby mi) pc = .ok (.iload j, 2)) (hn : pcn mi (i + 1) = pc + 2) (h : (pl 0 j lv fun a => k (i + 1) lv ((0, a) :: st) S) = some res) : W p l e R s m args below meth c H locs (S 2 0 0 - n0).toNat (S 3 0 0 - u0).toNat Q (F0 m pc ls vs) := by
  obtain ⟨v, h1, h2⟩ := pl_sp h
  obtain ⟨ms, m1, m2⟩ := B.2.2.2.2.1
  obtain ⟨w, w1, w2⟩ := lr_get m1 h1
  obtain ⟨x, rfl, hx⟩ := w2
  exact sn_push (t := 0) (z := v) C K B hn (v := .int x) ⟨x, rfl, hx⟩ h2 fun W1 => lv_iload C.1 C.2.1 hd (m2.2.2 _ w1) W1
theorem sn_iload_n {j : Fin 4} (C : Cx G aC p s m meth c mi) (K : Kc sa b aC ph L xs G A n0 u0 ads0 p l e R s m args below meth c mi k res Q) (B : Bn sa b aC ph L xs G A n0 u0 ads0 s mi lv st S ads ws H locs ls vs) (hd : decode (mby mi) pc = .ok (.iload_n j, 1)) (hn : pcn mi (i + 1) = pc + 1) (h : (pl 0 j.val lv fun a => k (i + 1) lv ((0, a) :: st) S) = some res) : W p l e R s m args below meth c H locs (S 2 0 0 - n0).toNat (S 3 0 0 - u0).toNat Q (F0 m pc ls vs) := by
  obtain ⟨v, h1, h2⟩ := pl_sp h
  obtain ⟨ms, m1, m2⟩ := B.2.2.2.2.1
  obtain ⟨w, w1, w2⟩ := lr_get m1 h1
  obtain ⟨x, rfl, hx⟩ := w2
  exact sn_push (t := 0) (z := v) C K B hn (v := .int x) ⟨x, rfl, hx⟩ h2 fun W1 => lv_iload_n C.1 C.2.1 hd rfl (m2.2.2 _ w1) W1
theorem sn_lload {j : Nat} (C : Cx G aC p s m meth c mi) (K : Kc sa b aC ph L xs G A n0 u0 ads0 p l e R s m args below meth c mi k res Q) (B : Bn sa b aC ph L xs G A n0 u0 ads0 s mi lv st S ads ws H locs ls vs) (hd : decode (mby mi) pc = .ok (.lload j, 2)) (hn : pcn mi (i + 1) = pc + 2) (h : (pl 1 j lv fun a => k (i + 1) lv ((1, a) :: st) S) = some res) : W p l e R s m args below meth c H locs (S 2 0 0 - n0).toNat (S 3 0 0 - u0).toNat Q (F0 m pc ls vs) := by
  obtain ⟨v, h1, h2⟩ := pl_sp h
  obtain ⟨ms, m1, m2⟩ := B.2.2.2.2.1
  obtain ⟨w, w1, w2⟩ := lr_get m1 h1
  obtain ⟨x, rfl, hx⟩ := w2
  exact sn_push (t := 1) (z := v) C K B hn (v := .long x) ⟨x, rfl, hx⟩ h2 fun W1 => lv_lload C.1 C.2.1 hd (m2.2.2 _ w1) W1
theorem sn_lload_n {j : Fin 4} (C : Cx G aC p s m meth c mi) (K : Kc sa b aC ph L xs G A n0 u0 ads0 p l e R s m args below meth c mi k res Q) (B : Bn sa b aC ph L xs G A n0 u0 ads0 s mi lv st S ads ws H locs ls vs) (hd : decode (mby mi) pc = .ok (.lload_n j, 1)) (hn : pcn mi (i + 1) = pc + 1) (h : (pl 1 j.val lv fun a => k (i + 1) lv ((1, a) :: st) S) = some res) : W p l e R s m args below meth c H locs (S 2 0 0 - n0).toNat (S 3 0 0 - u0).toNat Q (F0 m pc ls vs) := by
  obtain ⟨v, h1, h2⟩ := pl_sp h
  obtain ⟨ms, m1, m2⟩ := B.2.2.2.2.1
  obtain ⟨w, w1, w2⟩ := lr_get m1 h1
  obtain ⟨x, rfl, hx⟩ := w2
  exact sn_push (t := 1) (z := v) C K B hn (v := .long x) ⟨x, rfl, hx⟩ h2 fun W1 => lv_lload_n C.1 C.2.1 hd rfl (m2.2.2 _ w1) W1
theorem sn_aload {j : Nat} (C : Cx G aC p s m meth c mi) (K : Kc sa b aC ph L xs G A n0 u0 ads0 p l e R s m args below meth c mi k res Q) (B : Bn sa b aC ph L xs G A n0 u0 ads0 s mi lv st S ads ws H locs ls vs) (hd : decode (mby mi) pc = .ok (.aload j, 2)) (hn : pcn mi (i + 1) = pc + 2) (h : (plr j lv fun g a => k (i + 1) lv ((g, a) :: st) S) = some res) : W p l e R s m args below meth c H locs (S 2 0 0 - n0).toNat (S 3 0 0 - u0).toNat Q (F0 m pc ls vs) := by
  obtain ⟨g, v, h1, h0, h2⟩ := plr_sp h
  obtain ⟨ms, m1, m2⟩ := B.2.2.2.2.1
  obtain ⟨w, w1, w2⟩ := lr_get m1 h1
  rcases vr_cases w2 h0 with rfl | ⟨a, rfl⟩
  · exact sn_push (t := g) (z := v) C K B hn (v := .null) w2 h2 fun W1 => lv_aloadN C.1 C.2.1 hd (m2.2.2 _ w1) W1
  · exact sn_push (t := g) (z := v) C K B hn (v := .ref a) w2 h2 fun W1 => lv_aload C.1 C.2.1 hd (m2.2.2 _ w1) W1
theorem sn_aload_n {j : Fin 4} (C : Cx G aC p s m meth c mi) (K : Kc sa b aC ph L xs G A n0 u0 ads0 p l e R s m args below meth c mi k res Q) (B : Bn sa b aC ph L xs G A n0 u0 ads0 s mi lv st S ads ws H locs ls vs) (hd : decode (mby mi) pc = .ok (.aload_n j, 1)) (hn : pcn mi (i + 1) = pc + 1) (h : (plr j.val lv fun g a => k (i + 1) lv ((g, a) :: st) S) = some res) : W p l e R s m args below meth c H locs (S 2 0 0 - n0).toNat (S 3 0 0 - u0).toNat Q (F0 m pc ls vs) := by
  obtain ⟨g, v, h1, h0, h2⟩ := plr_sp h
  obtain ⟨ms, m1, m2⟩ := B.2.2.2.2.1
  obtain ⟨w, w1, w2⟩ := lr_get m1 h1
  rcases vr_cases w2 h0 with rfl | ⟨a, rfl⟩
  · exact sn_push (t := g) (z := v) C K B hn (v := .null) w2 h2 fun W1 => lv_aload_nN C.1 C.2.1 hd rfl (m2.2.2 _ w1) W1
  · exact sn_push (t := g) (z := v) C K B hn (v := .ref a) w2 h2 fun W1 => lv_aload_n C.1 C.2.1 hd rfl (m2.2.2 _ w1) W1
theorem sn_istore {j : Nat} (C : Cx G aC p s m meth c mi) (K : Kc sa b aC ph L xs G A n0 u0 ads0 p l e R s m args below meth c mi k res Q) (B : Bn sa b aC ph L xs G A n0 u0 ads0 s mi lv st S ads ws H locs ls vs) (hd : decode (mby mi) pc = .ok (.istore j, 2)) (hn : pcn mi (i + 1) = pc + 2) (hj : j < mxl mi) (h : (p1 0 st fun a s => lt_ a fun a => k (i + 1) (ls1 lv j (0, a)) s S) = some res) : W p l e R s m args below meth c H locs (S 2 0 0 - n0).toNat (S 3 0 0 - u0).toNat Q (F0 m pc ls vs) := by
  obtain ⟨v, s1, rfl, h2⟩ := p1_sp h
  obtain ⟨b1, b2, b3, b4, ⟨ms, m1, m2⟩, b6, b7⟩ := B
  obtain ⟨w, vs', rfl, w1, w2⟩ := sr_cons b6
  obtain ⟨x, rfl, hx⟩ := w1
  refine lv_istore C.1 C.2.1 hd m2 hj rfl fun ls' hl => ?_
  have := K (i + 1) (ls1 lv j (0, v)) s1 S ads ws H locs ls' vs' h2 ⟨b1, b2, b3, b4, ⟨_, lr_ls1 m1 j (w := (0, v)) (x := .int x) ⟨x, rfl, hx⟩, hl⟩, w2, b7⟩
  rw [hn] at this
  exact this
theorem sn_istore_n {j : Fin 4} (C : Cx G aC p s m meth c mi) (K : Kc sa b aC ph L xs G A n0 u0 ads0 p l e R s m args below meth c mi k res Q) (B : Bn sa b aC ph L xs G A n0 u0 ads0 s mi lv st S ads ws H locs ls vs) (hd : decode (mby mi) pc = .ok (.istore_n j, 1)) (hn : pcn mi (i + 1) = pc + 1) (hj : j.val < mxl mi) (h : (p1 0 st fun a s => lt_ a fun a => k (i + 1) (ls1 lv j.val (0, a)) s S) = some res) : W p l e R s m args below meth c H locs (S 2 0 0 - n0).toNat (S 3 0 0 - u0).toNat Q (F0 m pc ls vs) := by
  obtain ⟨v, s1, rfl, h2⟩ := p1_sp h
  obtain ⟨b1, b2, b3, b4, ⟨ms, m1, m2⟩, b6, b7⟩ := B
  obtain ⟨w, vs', rfl, w1, w2⟩ := sr_cons b6
  obtain ⟨x, rfl, hx⟩ := w1
  refine lv_istore_n C.1 C.2.1 hd rfl m2 hj rfl fun ls' hl => ?_
  have := K (i + 1) (ls1 lv j.val (0, v)) s1 S ads ws H locs ls' vs' h2 ⟨b1, b2, b3, b4, ⟨_, lr_ls1 m1 j.val (w := (0, v)) (x := .int x) ⟨x, rfl, hx⟩, hl⟩, w2, b7⟩
  rw [hn] at this
  exact this
theorem sn_lstore {j : Nat} (C : Cx G aC p s m meth c mi) (K : Kc sa b aC ph L xs G A n0 u0 ads0 p l e R s m args below meth c mi k res Q) (B : Bn sa b aC ph L xs G A n0 u0 ads0 s mi lv st S ads ws H locs ls vs) (hd : decode (mby mi) pc = .ok (.lstore j, 2)) (hn : pcn mi (i + 1) = pc + 2) (hj : j + 1 < mxl mi) (h : (p1 1 st fun a s => lt_ a fun a => k (i + 1) (ls2 lv j (1, a)) s S) = some res) : W p l e R s m args below meth c H locs (S 2 0 0 - n0).toNat (S 3 0 0 - u0).toNat Q (F0 m pc ls vs) := by
  obtain ⟨v, s1, rfl, h2⟩ := p1_sp h
  obtain ⟨b1, b2, b3, b4, ⟨ms, m1, m2⟩, b6, b7⟩ := B
  obtain ⟨w, vs', rfl, w1, w2⟩ := sr_cons b6
  obtain ⟨x, rfl, hx⟩ := w1
  refine lv_lstore C.1 C.2.1 hd m2 hj rfl fun ls' hl => ?_
  have := K (i + 1) (ls2 lv j (1, v)) s1 S ads ws H locs ls' vs' h2 ⟨b1, b2, b3, b4, ⟨_, lr_ls2 m1 j (w := (1, v)) (x := .long x) ⟨x, rfl, hx⟩, hl⟩, w2, b7⟩
  rw [hn] at this
  exact this
theorem sn_lstore_n {j : Fin 4} (C : Cx G aC p s m meth c mi) (K : Kc sa b aC ph L xs G A n0 u0 ads0 p l e R s m args below meth c mi k res Q) (B : Bn sa b aC ph L xs G A n0 u0 ads0 s mi lv st S ads ws H locs ls vs) (hd : decode (mby mi) pc = .ok (.lstore_n j, 1)) (hn : pcn mi (i + 1) = pc + 1) (hj : j.val + 1 < mxl mi) (h : (p1 1 st fun a s => lt_ a fun a => k (i + 1) (ls2 lv j.val (1, a)) s S) = some res) : W p l e R s m args below meth c H locs (S 2 0 0 - n0).toNat (S 3 0 0 - u0).toNat Q (F0 m pc ls vs) := by
  obtain ⟨v, s1, rfl, h2⟩ := p1_sp h
  obtain ⟨b1, b2, b3, b4, ⟨ms, m1, m2⟩, b6, b7⟩ := B
  obtain ⟨w, vs', rfl, w1, w2⟩ := sr_cons b6
  obtain ⟨x, rfl, hx⟩ := w1
  refine lv_lstore_n C.1 C.2.1 hd rfl m2 hj rfl fun ls' hl => ?_
  have := K (i + 1) (ls2 lv j.val (1, v)) s1 S ads ws H locs ls' vs' h2 ⟨b1, b2, b3, b4, ⟨_, lr_ls2 m1 j.val (w := (1, v)) (x := .long x) ⟨x, rfl, hx⟩, hl⟩, w2, b7⟩
  rw [hn] at this
  exact this
theorem sn_astore {j : Nat} (C : Cx G aC p s m meth c mi) (K : Kc sa b aC ph L xs G A n0 u0 ads0 p l e R s m args below meth c mi k res Q) (B : Bn sa b aC ph L xs G A n0 u0 ads0 s mi lv st S ads ws H locs ls vs) (hd : decode (mby mi) pc = .ok (.astore j, 2)) (hn : pcn mi (i + 1) = pc + 2) (hj : j < mxl mi) (h : (pr st fun g a s => lt_ a fun a => k (i + 1) (ls1 lv j (g, a)) s S) = some res) : W p l e R s m args below meth c H locs (S 2 0 0 - n0).toNat (S 3 0 0 - u0).toNat Q (F0 m pc ls vs) := by
  obtain ⟨g, v, s1, rfl, h0, h2⟩ := pr_sp h
  obtain ⟨b1, b2, b3, b4, ⟨ms, m1, m2⟩, b6, b7⟩ := B
  obtain ⟨w, vs', rfl, w1, w2⟩ := sr_cons b6
  have fin : ∀ ls', lv_has ls' (mxl mi) ((j, w) :: ms.filter (fun q => !(q.1 == j) && !(q.1 + 1 == j && q.2.category == 2))) → W p l e R s m args below meth c H locs (S 2 0 0 - n0).toNat (S 3 0 0 - u0).toNat Q (F0 m (pc + 2) ls' vs') := by
    intro ls' hl
    have := K (i + 1) (ls1 lv j (g, v)) s1 S ads ws H locs ls' vs' h2 ⟨b1, b2, b3, b4, ⟨_, lr_ls1 m1 j (w := (g, v)) (x := w) w1, hl⟩, w2, b7⟩
    rw [hn] at this
    exact this
  rcases vr_cases w1 h0 with rfl | ⟨a, rfl⟩
  · exact lv_astoreN C.1 C.2.1 hd m2 hj rfl fin
  · exact lv_astore C.1 C.2.1 hd m2 hj rfl fin
theorem sn_astore_n {j : Fin 4} (C : Cx G aC p s m meth c mi) (K : Kc sa b aC ph L xs G A n0 u0 ads0 p l e R s m args below meth c mi k res Q) (B : Bn sa b aC ph L xs G A n0 u0 ads0 s mi lv st S ads ws H locs ls vs) (hd : decode (mby mi) pc = .ok (.astore_n j, 1)) (hn : pcn mi (i + 1) = pc + 1) (hj : j.val < mxl mi) (h : (pr st fun g a s => lt_ a fun a => k (i + 1) (ls1 lv j.val (g, a)) s S) = some res) : W p l e R s m args below meth c H locs (S 2 0 0 - n0).toNat (S 3 0 0 - u0).toNat Q (F0 m pc ls vs) := by
  obtain ⟨g, v, s1, rfl, h0, h2⟩ := pr_sp h
  obtain ⟨b1, b2, b3, b4, ⟨ms, m1, m2⟩, b6, b7⟩ := B
  obtain ⟨w, vs', rfl, w1, w2⟩ := sr_cons b6
  have fin : ∀ ls', lv_has ls' (mxl mi) ((j.val, w) :: ms.filter (fun q => !(q.1 == j.val) && !(q.1 + 1 == j.val && q.2.category == 2))) → W p l e R s m args below meth c H locs (S 2 0 0 - n0).toNat (S 3 0 0 - u0).toNat Q (F0 m (pc + 1) ls' vs') := by
    intro ls' hl
    have := K (i + 1) (ls1 lv j.val (g, v)) s1 S ads ws H locs ls' vs' h2 ⟨b1, b2, b3, b4, ⟨_, lr_ls1 m1 j.val (w := (g, v)) (x := w) w1, hl⟩, w2, b7⟩
    rw [hn] at this
    exact this
  rcases vr_cases w1 h0 with rfl | ⟨a, rfl⟩
  · exact lv_astore_nN C.1 C.2.1 hd rfl m2 hj rfl fin
  · exact lv_astore_n C.1 C.2.1 hd rfl m2 hj rfl fin
theorem sn_iinc {j : Nat} {n : Int} (C : Cx G aC p s m meth c mi) (K : Kc sa b aC ph L xs G A n0 u0 ads0 p l e R s m args below meth c mi k res Q) (B : Bn sa b aC ph L xs G A n0 u0 ads0 s mi lv st S ads ws H locs ls vs) (hd : decode (mby mi) pc = .ok (.iinc j n, 3)) (hn : pcn mi (i + 1) = pc + 3) (hj : j < mxl mi) (h : (pl 0 j lv fun a => lt_ (w32 (a + n)) fun a => k (i + 1) (ls1 lv j (0, a)) st S) = some res) : W p l e R s m args below meth c H locs (S 2 0 0 - n0).toNat (S 3 0 0 - u0).toNat Q (F0 m pc ls vs) := by
  obtain ⟨v, h1, h2⟩ := pl_sp h
  obtain ⟨b1, b2, b3, b4, ⟨ms, m1, m2⟩, b6, b7⟩ := B
  obtain ⟨w, w1, w2⟩ := lr_get m1 h1
  obtain ⟨x, rfl, hx⟩ := w2
  have hx : v = x.toInt := hx
  obtain ⟨q, hq⟩ := List.getElem?_of_mem w1
  refine lv_iinc C.1 C.2.1 hd m2 hq rfl hj rfl fun ls' hl => ?_
  have := K (i + 1) (ls1 lv j (0, w32 (v + n))) st S ads ws H locs ls' vs h2 ⟨b1, b2, b3, b4, ⟨_, lr_ls1 m1 j (w := (0, w32 (v + n))) (x := .int (x + Int32.ofInt n)) ⟨_, rfl, by rw [hx]; exact w32_inc x n⟩, hl⟩, b6, b7⟩
  rw [hn] at this
  exact this
theorem sn_dup (C : Cx G aC p s m meth c mi) (K : Kc sa b aC ph L xs G A n0 u0 ads0 p l e R s m args below meth c mi k res Q) (B : Bn sa b aC ph L xs G A n0 u0 ads0 s mi lv st S ads ws H locs ls vs) (hd : decode (mby mi) pc = .ok (.dup, 1)) (hn : pcn mi (i + 1) = pc + 1) (h : (pa st fun w s => k (i + 1) lv (w :: w :: s) S) = some res) : W p l e R s m args below meth c H locs (S 2 0 0 - n0).toNat (S 3 0 0 - u0).toNat Q (F0 m pc ls vs) := by
  obtain ⟨w, s1, rfl, h1, h2⟩ := pa_sp h
  obtain ⟨b1, b2, b3, b4, b5, b6, b7⟩ := B
  obtain ⟨v, vs', rfl, w1, w2⟩ := sr_cons b6
  have hc := vr_cat w1
  rw [if_neg h1] at hc
  have := K (i + 1) lv (w :: w :: s1) S ads ws H locs ls (v :: v :: vs') h2 ⟨b1, b2, b3, b4, b5, ⟨w1, w1, w2⟩, b7⟩
  rw [hn] at this
  exact lv_dup C.1 C.2.1 hd hc this
theorem sn_pop (C : Cx G aC p s m meth c mi) (K : Kc sa b aC ph L xs G A n0 u0 ads0 p l e R s m args below meth c mi k res Q) (B : Bn sa b aC ph L xs G A n0 u0 ads0 s mi lv st S ads ws H locs ls vs) (hd : decode (mby mi) pc = .ok (.pop, 1)) (hn : pcn mi (i + 1) = pc + 1) (h : (pa st fun _ s => k (i + 1) lv s S) = some res) : W p l e R s m args below meth c H locs (S 2 0 0 - n0).toNat (S 3 0 0 - u0).toNat Q (F0 m pc ls vs) := by
  obtain ⟨w, s1, rfl, h1, h2⟩ := pa_sp h
  obtain ⟨b1, b2, b3, b4, b5, b6, b7⟩ := B
  obtain ⟨v, vs', rfl, w1, w2⟩ := sr_cons b6
  have hc := vr_cat w1
  rw [if_neg h1] at hc
  have := K (i + 1) lv s1 S ads ws H locs ls vs' h2 ⟨b1, b2, b3, b4, b5, w2, b7⟩
  rw [hn] at this
  exact lv_pop C.1 C.2.1 hd hc this
theorem sn_dup_x1 (C : Cx G aC p s m meth c mi) (K : Kc sa b aC ph L xs G A n0 u0 ads0 p l e R s m args below meth c mi k res Q) (B : Bn sa b aC ph L xs G A n0 u0 ads0 s mi lv st S ads ws H locs ls vs) (hd : decode (mby mi) pc = .ok (.dup_x1, 1)) (hn : pcn mi (i + 1) = pc + 1) (h : (pa st fun w s => pa s fun v s => k (i + 1) lv (w :: v :: w :: s) S) = some res) : W p l e R s m args below meth c H locs (S 2 0 0 - n0).toNat (S 3 0 0 - u0).toNat Q (F0 m pc ls vs) := by
  obtain ⟨w, s1, rfl, h1, h2⟩ := pa_sp h
  obtain ⟨v, s2, rfl, h3, h4⟩ := pa_sp h2
  obtain ⟨b1, b2, b3, b4, b5, b6, b7⟩ := B
  obtain ⟨x, vs', rfl, w1, w2⟩ := sr_cons b6
  obtain ⟨y, vs'', rfl, w3, w4⟩ := sr_cons w2
  have hc := vr_cat w1
  rw [if_neg h1] at hc
  have hc2 := vr_cat w3
  rw [if_neg h3] at hc2
  have := K (i + 1) lv (w :: v :: w :: s2) S ads ws H locs ls (x :: y :: x :: vs'') h4 ⟨b1, b2, b3, b4, b5, ⟨w1, w3, w1, w4⟩, b7⟩
  rw [hn] at this
  exact lv_dup_x1 C.1 C.2.1 hd hc hc2 this
theorem sn_dup2 (C : Cx G aC p s m meth c mi) (K : Kc sa b aC ph L xs G A n0 u0 ads0 p l e R s m args below meth c mi k res Q) (B : Bn sa b aC ph L xs G A n0 u0 ads0 s mi lv st S ads ws H locs ls vs) (hd : decode (mby mi) pc = .ok (.dup2, 1)) (hn : pcn mi (i + 1) = pc + 1) (h : (pa st fun w s => pa s fun v s => k (i + 1) lv (w :: v :: w :: v :: s) S) = some res) : W p l e R s m args below meth c H locs (S 2 0 0 - n0).toNat (S 3 0 0 - u0).toNat Q (F0 m pc ls vs) := by
  obtain ⟨w, s1, rfl, h1, h2⟩ := pa_sp h
  obtain ⟨v, s2, rfl, h3, h4⟩ := pa_sp h2
  obtain ⟨b1, b2, b3, b4, b5, b6, b7⟩ := B
  obtain ⟨x, vs', rfl, w1, w2⟩ := sr_cons b6
  obtain ⟨y, vs'', rfl, w3, w4⟩ := sr_cons w2
  have hc := vr_cat w1
  rw [if_neg h1] at hc
  have hc2 := vr_cat w3
  rw [if_neg h3] at hc2
  have := K (i + 1) lv (w :: v :: w :: v :: s2) S ads ws H locs ls (x :: y :: x :: y :: vs'') h4 ⟨b1, b2, b3, b4, b5, ⟨w1, w3, w1, w3, w4⟩, b7⟩
  rw [hn] at this
  exact lv_dup2_11 C.1 C.2.1 hd hc hc2 this
theorem sn_iadd (C : Cx G aC p s m meth c mi) (K : Kc sa b aC ph L xs G A n0 u0 ads0 p l e R s m args below meth c mi k res Q) (B : Bn sa b aC ph L xs G A n0 u0 ads0 s mi lv st S ads ws H locs ls vs) (hd : decode (mby mi) pc = .ok (.iadd, 1)) (hn : pcn mi (i + 1) = pc + 1) (h : (p1 0 st fun b s => p1 0 s fun a s => k (i + 1) lv ((0, w32 (a + b)) :: s) S) = some res) : W p l e R s m args below meth c H locs (S 2 0 0 - n0).toNat (S 3 0 0 - u0).toNat Q (F0 m pc ls vs) := by
  obtain ⟨v2, s1, rfl, h1⟩ := p1_sp h
  obtain ⟨v1, s2, rfl, h2⟩ := p1_sp h1
  obtain ⟨b1, b2, b3, b4, b5, b6, b7⟩ := B
  obtain ⟨w, vs', rfl, w1, w2⟩ := sr_cons b6
  obtain ⟨w', vs'', rfl, w3, w4⟩ := sr_cons w2
  obtain ⟨y, rfl, hy⟩ := w1
  obtain ⟨x, rfl, hx⟩ := w3
  have hx : v1 = x.toInt := hx
  have hy : v2 = y.toInt := hy
  have := K _ _ _ _ ads ws H locs ls (.int (x + y) :: vs'') h2 ⟨b1, b2, b3, b4, b5, ⟨⟨_, rfl, by simp only [hx, hy]; exact cv_iadd x y⟩, w4⟩, b7⟩
  rw [hn] at this
  exact lv_iadd C.1 C.2.1 hd this
theorem sn_isub (C : Cx G aC p s m meth c mi) (K : Kc sa b aC ph L xs G A n0 u0 ads0 p l e R s m args below meth c mi k res Q) (B : Bn sa b aC ph L xs G A n0 u0 ads0 s mi lv st S ads ws H locs ls vs) (hd : decode (mby mi) pc = .ok (.isub, 1)) (hn : pcn mi (i + 1) = pc + 1) (h : (p1 0 st fun b s => p1 0 s fun a s => k (i + 1) lv ((0, w32 (a - b)) :: s) S) = some res) : W p l e R s m args below meth c H locs (S 2 0 0 - n0).toNat (S 3 0 0 - u0).toNat Q (F0 m pc ls vs) := by
  obtain ⟨v2, s1, rfl, h1⟩ := p1_sp h
  obtain ⟨v1, s2, rfl, h2⟩ := p1_sp h1
  obtain ⟨b1, b2, b3, b4, b5, b6, b7⟩ := B
  obtain ⟨w, vs', rfl, w1, w2⟩ := sr_cons b6
  obtain ⟨w', vs'', rfl, w3, w4⟩ := sr_cons w2
  obtain ⟨y, rfl, hy⟩ := w1
  obtain ⟨x, rfl, hx⟩ := w3
  have hx : v1 = x.toInt := hx
  have hy : v2 = y.toInt := hy
  have := K _ _ _ _ ads ws H locs ls (.int (x - y) :: vs'') h2 ⟨b1, b2, b3, b4, b5, ⟨⟨_, rfl, by simp only [hx, hy]; exact cv_isub x y⟩, w4⟩, b7⟩
  rw [hn] at this
  exact lv_isub C.1 C.2.1 hd this
theorem sn_imul (C : Cx G aC p s m meth c mi) (K : Kc sa b aC ph L xs G A n0 u0 ads0 p l e R s m args below meth c mi k res Q) (B : Bn sa b aC ph L xs G A n0 u0 ads0 s mi lv st S ads ws H locs ls vs) (hd : decode (mby mi) pc = .ok (.imul, 1)) (hn : pcn mi (i + 1) = pc + 1) (h : (p1 0 st fun b s => p1 0 s fun a s => k (i + 1) lv ((0, w32 (a * b)) :: s) S) = some res) : W p l e R s m args below meth c H locs (S 2 0 0 - n0).toNat (S 3 0 0 - u0).toNat Q (F0 m pc ls vs) := by
  obtain ⟨v2, s1, rfl, h1⟩ := p1_sp h
  obtain ⟨v1, s2, rfl, h2⟩ := p1_sp h1
  obtain ⟨b1, b2, b3, b4, b5, b6, b7⟩ := B
  obtain ⟨w, vs', rfl, w1, w2⟩ := sr_cons b6
  obtain ⟨w', vs'', rfl, w3, w4⟩ := sr_cons w2
  obtain ⟨y, rfl, hy⟩ := w1
  obtain ⟨x, rfl, hx⟩ := w3
  have hx : v1 = x.toInt := hx
  have hy : v2 = y.toInt := hy
  have := K _ _ _ _ ads ws H locs ls (.int (x * y) :: vs'') h2 ⟨b1, b2, b3, b4, b5, ⟨⟨_, rfl, by simp only [hx, hy]; exact cv_imul x y⟩, w4⟩, b7⟩
  rw [hn] at this
  exact lv_imul C.1 C.2.1 hd this
theorem sn_ladd (C : Cx G aC p s m meth c mi) (K : Kc sa b aC ph L xs G A n0 u0 ads0 p l e R s m args below meth c mi k res Q) (B : Bn sa b aC ph L xs G A n0 u0 ads0 s mi lv st S ads ws H locs ls vs) (hd : decode (mby mi) pc = .ok (.ladd, 1)) (hn : pcn mi (i + 1) = pc + 1) (h : (p1 1 st fun b s => p1 1 s fun a s => k (i + 1) lv ((1, w64 (a + b)) :: s) S) = some res) : W p l e R s m args below meth c H locs (S 2 0 0 - n0).toNat (S 3 0 0 - u0).toNat Q (F0 m pc ls vs) := by
  obtain ⟨v2, s1, rfl, h1⟩ := p1_sp h
  obtain ⟨v1, s2, rfl, h2⟩ := p1_sp h1
  obtain ⟨b1, b2, b3, b4, b5, b6, b7⟩ := B
  obtain ⟨w, vs', rfl, w1, w2⟩ := sr_cons b6
  obtain ⟨w', vs'', rfl, w3, w4⟩ := sr_cons w2
  obtain ⟨y, rfl, hy⟩ := w1
  obtain ⟨x, rfl, hx⟩ := w3
  have hx : v1 = x.toInt := hx
  have hy : v2 = y.toInt := hy
  have := K _ _ _ _ ads ws H locs ls (.long (x + y) :: vs'') h2 ⟨b1, b2, b3, b4, b5, ⟨⟨_, rfl, by simp only [hx, hy]; exact cv_ladd x y⟩, w4⟩, b7⟩
  rw [hn] at this
  exact lv_ladd C.1 C.2.1 hd this
theorem sn_lsub (C : Cx G aC p s m meth c mi) (K : Kc sa b aC ph L xs G A n0 u0 ads0 p l e R s m args below meth c mi k res Q) (B : Bn sa b aC ph L xs G A n0 u0 ads0 s mi lv st S ads ws H locs ls vs) (hd : decode (mby mi) pc = .ok (.lsub, 1)) (hn : pcn mi (i + 1) = pc + 1) (h : (p1 1 st fun b s => p1 1 s fun a s => k (i + 1) lv ((1, w64 (a - b)) :: s) S) = some res) : W p l e R s m args below meth c H locs (S 2 0 0 - n0).toNat (S 3 0 0 - u0).toNat Q (F0 m pc ls vs) := by
  obtain ⟨v2, s1, rfl, h1⟩ := p1_sp h
  obtain ⟨v1, s2, rfl, h2⟩ := p1_sp h1
  obtain ⟨b1, b2, b3, b4, b5, b6, b7⟩ := B
  obtain ⟨w, vs', rfl, w1, w2⟩ := sr_cons b6
  obtain ⟨w', vs'', rfl, w3, w4⟩ := sr_cons w2
  obtain ⟨y, rfl, hy⟩ := w1
  obtain ⟨x, rfl, hx⟩ := w3
  have hx : v1 = x.toInt := hx
  have hy : v2 = y.toInt := hy
  have := K _ _ _ _ ads ws H locs ls (.long (x - y) :: vs'') h2 ⟨b1, b2, b3, b4, b5, ⟨⟨_, rfl, by simp only [hx, hy]; exact cv_lsub x y⟩, w4⟩, b7⟩
  rw [hn] at this
  exact lv_lsub C.1 C.2.1 hd this
theorem sn_lmul (C : Cx G aC p s m meth c mi) (K : Kc sa b aC ph L xs G A n0 u0 ads0 p l e R s m args below meth c mi k res Q) (B : Bn sa b aC ph L xs G A n0 u0 ads0 s mi lv st S ads ws H locs ls vs) (hd : decode (mby mi) pc = .ok (.lmul, 1)) (hn : pcn mi (i + 1) = pc + 1) (h : (p1 1 st fun b s => p1 1 s fun a s => k (i + 1) lv ((1, w64 (a * b)) :: s) S) = some res) : W p l e R s m args below meth c H locs (S 2 0 0 - n0).toNat (S 3 0 0 - u0).toNat Q (F0 m pc ls vs) := by
  obtain ⟨v2, s1, rfl, h1⟩ := p1_sp h
  obtain ⟨v1, s2, rfl, h2⟩ := p1_sp h1
  obtain ⟨b1, b2, b3, b4, b5, b6, b7⟩ := B
  obtain ⟨w, vs', rfl, w1, w2⟩ := sr_cons b6
  obtain ⟨w', vs'', rfl, w3, w4⟩ := sr_cons w2
  obtain ⟨y, rfl, hy⟩ := w1
  obtain ⟨x, rfl, hx⟩ := w3
  have hx : v1 = x.toInt := hx
  have hy : v2 = y.toInt := hy
  have := K _ _ _ _ ads ws H locs ls (.long (x * y) :: vs'') h2 ⟨b1, b2, b3, b4, b5, ⟨⟨_, rfl, by simp only [hx, hy]; exact cv_lmul x y⟩, w4⟩, b7⟩
  rw [hn] at this
  exact lv_lmul C.1 C.2.1 hd this
theorem sn_idiv (C : Cx G aC p s m meth c mi) (K : Kc sa b aC ph L xs G A n0 u0 ads0 p l e R s m args below meth c mi k res Q) (B : Bn sa b aC ph L xs G A n0 u0 ads0 s mi lv st S ads ws H locs ls vs) (hd : decode (mby mi) pc = .ok (.idiv, 1)) (hn : pcn mi (i + 1) = pc + 1) (h : (p1 0 st fun b s => p1 0 s fun a s => nz b (k (i + 1) lv ((0, w32 (Int.tdiv a b)) :: s) S)) = some res) : W p l e R s m args below meth c H locs (S 2 0 0 - n0).toNat (S 3 0 0 - u0).toNat Q (F0 m pc ls vs) := by
  obtain ⟨v2, s1, rfl, h1⟩ := p1_sp h
  obtain ⟨v1, s2, rfl, h2⟩ := p1_sp h1
  obtain ⟨b1, b2, b3, b4, b5, b6, b7⟩ := B
  obtain ⟨w, vs', rfl, w1, w2⟩ := sr_cons b6
  obtain ⟨w', vs'', rfl, w3, w4⟩ := sr_cons w2
  obtain ⟨y, rfl, hy⟩ := w1
  obtain ⟨x, rfl, hx⟩ := w3
  have hx : v1 = x.toInt := hx
  have hy : v2 = y.toInt := hy
  obtain ⟨hnz, h2⟩ := nz_sp h2
  have hy0 : ¬ y = 0 := fun q => hnz (by rw [hy, q]; rfl)
  have := K _ _ _ _ ads ws H locs ls (.int (x / y) :: vs'') h2 ⟨b1, b2, b3, b4, b5, ⟨⟨_, rfl, by simp only [hx, hy]; exact cv_idiv x y⟩, w4⟩, b7⟩
  rw [hn] at this
  exact lv_idiv C.1 C.2.1 hd hy0 this
theorem sn_irem (C : Cx G aC p s m meth c mi) (K : Kc sa b aC ph L xs G A n0 u0 ads0 p l e R s m args below meth c mi k res Q) (B : Bn sa b aC ph L xs G A n0 u0 ads0 s mi lv st S ads ws H locs ls vs) (hd : decode (mby mi) pc = .ok (.irem, 1)) (hn : pcn mi (i + 1) = pc + 1) (h : (p1 0 st fun b s => p1 0 s fun a s => nz b (k (i + 1) lv ((0, Int.tmod a b) :: s) S)) = some res) : W p l e R s m args below meth c H locs (S 2 0 0 - n0).toNat (S 3 0 0 - u0).toNat Q (F0 m pc ls vs) := by
  obtain ⟨v2, s1, rfl, h1⟩ := p1_sp h
  obtain ⟨v1, s2, rfl, h2⟩ := p1_sp h1
  obtain ⟨b1, b2, b3, b4, b5, b6, b7⟩ := B
  obtain ⟨w, vs', rfl, w1, w2⟩ := sr_cons b6
  obtain ⟨w', vs'', rfl, w3, w4⟩ := sr_cons w2
  obtain ⟨y, rfl, hy⟩ := w1
  obtain ⟨x, rfl, hx⟩ := w3
  have hx : v1 = x.toInt := hx
  have hy : v2 = y.toInt := hy
  obtain ⟨hnz, h2⟩ := nz_sp h2
  have hy0 : ¬ y = 0 := fun q => hnz (by rw [hy, q]; rfl)
  have := K _ _ _ _ ads ws H locs ls (.int (x - x / y * y) :: vs'') h2 ⟨b1, b2, b3, b4, b5, ⟨⟨_, rfl, by simp only [hx, hy]; exact cv_irem x y⟩, w4⟩, b7⟩
  rw [hn] at this
  exact lv_irem C.1 C.2.1 hd hy0 this
theorem sn_ldiv (C : Cx G aC p s m meth c mi) (K : Kc sa b aC ph L xs G A n0 u0 ads0 p l e R s m args below meth c mi k res Q) (B : Bn sa b aC ph L xs G A n0 u0 ads0 s mi lv st S ads ws H locs ls vs) (hd : decode (mby mi) pc = .ok (.ldiv, 1)) (hn : pcn mi (i + 1) = pc + 1) (h : (p1 1 st fun b s => p1 1 s fun a s => nz b (k (i + 1) lv ((1, w64 (Int.tdiv a b)) :: s) S)) = some res) : W p l e R s m args below meth c H locs (S 2 0 0 - n0).toNat (S 3 0 0 - u0).toNat Q (F0 m pc ls vs) := by
  obtain ⟨v2, s1, rfl, h1⟩ := p1_sp h
  obtain ⟨v1, s2, rfl, h2⟩ := p1_sp h1
  obtain ⟨b1, b2, b3, b4, b5, b6, b7⟩ := B
  obtain ⟨w, vs', rfl, w1, w2⟩ := sr_cons b6
  obtain ⟨w', vs'', rfl, w3, w4⟩ := sr_cons w2
  obtain ⟨y, rfl, hy⟩ := w1
  obtain ⟨x, rfl, hx⟩ := w3
  have hx : v1 = x.toInt := hx
  have hy : v2 = y.toInt := hy
  obtain ⟨hnz, h2⟩ := nz_sp h2
  have hy0 : ¬ y = 0 := fun q => hnz (by rw [hy, q]; rfl)
  have := K _ _ _ _ ads ws H locs ls (.long (x / y) :: vs'') h2 ⟨b1, b2, b3, b4, b5, ⟨⟨_, rfl, by simp only [hx, hy]; exact cv_ldiv x y⟩, w4⟩, b7⟩
  rw [hn] at this
  exact lv_ldiv C.1 C.2.1 hd hy0 this
theorem sn_lrem (C : Cx G aC p s m meth c mi) (K : Kc sa b aC ph L xs G A n0 u0 ads0 p l e R s m args below meth c mi k res Q) (B : Bn sa b aC ph L xs G A n0 u0 ads0 s mi lv st S ads ws H locs ls vs) (hd : decode (mby mi) pc = .ok (.lrem, 1)) (hn : pcn mi (i + 1) = pc + 1) (h : (p1 1 st fun b s => p1 1 s fun a s => nz b (k (i + 1) lv ((1, Int.tmod a b) :: s) S)) = some res) : W p l e R s m args below meth c H locs (S 2 0 0 - n0).toNat (S 3 0 0 - u0).toNat Q (F0 m pc ls vs) := by
  obtain ⟨v2, s1, rfl, h1⟩ := p1_sp h
  obtain ⟨v1, s2, rfl, h2⟩ := p1_sp h1
  obtain ⟨b1, b2, b3, b4, b5, b6, b7⟩ := B
  obtain ⟨w, vs', rfl, w1, w2⟩ := sr_cons b6
  obtain ⟨w', vs'', rfl, w3, w4⟩ := sr_cons w2
  obtain ⟨y, rfl, hy⟩ := w1
  obtain ⟨x, rfl, hx⟩ := w3
  have hx : v1 = x.toInt := hx
  have hy : v2 = y.toInt := hy
  obtain ⟨hnz, h2⟩ := nz_sp h2
  have hy0 : ¬ y = 0 := fun q => hnz (by rw [hy, q]; rfl)
  have := K _ _ _ _ ads ws H locs ls (.long (x - x / y * y) :: vs'') h2 ⟨b1, b2, b3, b4, b5, ⟨⟨_, rfl, by simp only [hx, hy]; exact cv_lrem x y⟩, w4⟩, b7⟩
  rw [hn] at this
  exact lv_lrem C.1 C.2.1 hd hy0 this
theorem sn_iand (C : Cx G aC p s m meth c mi) (K : Kc sa b aC ph L xs G A n0 u0 ads0 p l e R s m args below meth c mi k res Q) (B : Bn sa b aC ph L xs G A n0 u0 ads0 s mi lv st S ads ws H locs ls vs) (hd : decode (mby mi) pc = .ok (.iand, 1)) (hn : pcn mi (i + 1) = pc + 1) (h : (p1 0 st fun b s => p1 0 s fun a s => k (i + 1) lv ((0, i_and a b) :: s) S) = some res) : W p l e R s m args below meth c H locs (S 2 0 0 - n0).toNat (S 3 0 0 - u0).toNat Q (F0 m pc ls vs) := by
  obtain ⟨v2, s1, rfl, h1⟩ := p1_sp h
  obtain ⟨v1, s2, rfl, h2⟩ := p1_sp h1
  obtain ⟨b1, b2, b3, b4, b5, b6, b7⟩ := B
  obtain ⟨w, vs', rfl, w1, w2⟩ := sr_cons b6
  obtain ⟨w', vs'', rfl, w3, w4⟩ := sr_cons w2
  obtain ⟨y, rfl, hy⟩ := w1
  obtain ⟨x, rfl, hx⟩ := w3
  have hx : v1 = x.toInt := hx
  have hy : v2 = y.toInt := hy
  have := K _ _ _ _ ads ws H locs ls (.int (x &&& y) :: vs'') h2 ⟨b1, b2, b3, b4, b5, ⟨⟨_, rfl, by simp only [hx, hy]; exact cv_iand x y⟩, w4⟩, b7⟩
  rw [hn] at this
  exact lv_iand C.1 C.2.1 hd this
theorem sn_ior (C : Cx G aC p s m meth c mi) (K : Kc sa b aC ph L xs G A n0 u0 ads0 p l e R s m args below meth c mi k res Q) (B : Bn sa b aC ph L xs G A n0 u0 ads0 s mi lv st S ads ws H locs ls vs) (hd : decode (mby mi) pc = .ok (.ior, 1)) (hn : pcn mi (i + 1) = pc + 1) (h : (p1 0 st fun b s => p1 0 s fun a s => k (i + 1) lv ((0, i_or a b) :: s) S) = some res) : W p l e R s m args below meth c H locs (S 2 0 0 - n0).toNat (S 3 0 0 - u0).toNat Q (F0 m pc ls vs) := by
  obtain ⟨v2, s1, rfl, h1⟩ := p1_sp h
  obtain ⟨v1, s2, rfl, h2⟩ := p1_sp h1
  obtain ⟨b1, b2, b3, b4, b5, b6, b7⟩ := B
  obtain ⟨w, vs', rfl, w1, w2⟩ := sr_cons b6
  obtain ⟨w', vs'', rfl, w3, w4⟩ := sr_cons w2
  obtain ⟨y, rfl, hy⟩ := w1
  obtain ⟨x, rfl, hx⟩ := w3
  have hx : v1 = x.toInt := hx
  have hy : v2 = y.toInt := hy
  have := K _ _ _ _ ads ws H locs ls (.int (x ||| y) :: vs'') h2 ⟨b1, b2, b3, b4, b5, ⟨⟨_, rfl, by simp only [hx, hy]; exact cv_ior x y⟩, w4⟩, b7⟩
  rw [hn] at this
  exact lv_ior C.1 C.2.1 hd this
theorem sn_ixor (C : Cx G aC p s m meth c mi) (K : Kc sa b aC ph L xs G A n0 u0 ads0 p l e R s m args below meth c mi k res Q) (B : Bn sa b aC ph L xs G A n0 u0 ads0 s mi lv st S ads ws H locs ls vs) (hd : decode (mby mi) pc = .ok (.ixor, 1)) (hn : pcn mi (i + 1) = pc + 1) (h : (p1 0 st fun b s => p1 0 s fun a s => k (i + 1) lv ((0, i_xor a b) :: s) S) = some res) : W p l e R s m args below meth c H locs (S 2 0 0 - n0).toNat (S 3 0 0 - u0).toNat Q (F0 m pc ls vs) := by
  obtain ⟨v2, s1, rfl, h1⟩ := p1_sp h
  obtain ⟨v1, s2, rfl, h2⟩ := p1_sp h1
  obtain ⟨b1, b2, b3, b4, b5, b6, b7⟩ := B
  obtain ⟨w, vs', rfl, w1, w2⟩ := sr_cons b6
  obtain ⟨w', vs'', rfl, w3, w4⟩ := sr_cons w2
  obtain ⟨y, rfl, hy⟩ := w1
  obtain ⟨x, rfl, hx⟩ := w3
  have hx : v1 = x.toInt := hx
  have hy : v2 = y.toInt := hy
  have := K _ _ _ _ ads ws H locs ls (.int (x ^^^ y) :: vs'') h2 ⟨b1, b2, b3, b4, b5, ⟨⟨_, rfl, by simp only [hx, hy]; exact cv_ixor x y⟩, w4⟩, b7⟩
  rw [hn] at this
  exact lv_ixor C.1 C.2.1 hd this
theorem sn_land (C : Cx G aC p s m meth c mi) (K : Kc sa b aC ph L xs G A n0 u0 ads0 p l e R s m args below meth c mi k res Q) (B : Bn sa b aC ph L xs G A n0 u0 ads0 s mi lv st S ads ws H locs ls vs) (hd : decode (mby mi) pc = .ok (.land, 1)) (hn : pcn mi (i + 1) = pc + 1) (h : (p1 1 st fun b s => p1 1 s fun a s => k (i + 1) lv ((1, l_and a b) :: s) S) = some res) : W p l e R s m args below meth c H locs (S 2 0 0 - n0).toNat (S 3 0 0 - u0).toNat Q (F0 m pc ls vs) := by
  obtain ⟨v2, s1, rfl, h1⟩ := p1_sp h
  obtain ⟨v1, s2, rfl, h2⟩ := p1_sp h1
  obtain ⟨b1, b2, b3, b4, b5, b6, b7⟩ := B
  obtain ⟨w, vs', rfl, w1, w2⟩ := sr_cons b6
  obtain ⟨w', vs'', rfl, w3, w4⟩ := sr_cons w2
  obtain ⟨y, rfl, hy⟩ := w1
  obtain ⟨x, rfl, hx⟩ := w3
  have hx : v1 = x.toInt := hx
  have hy : v2 = y.toInt := hy
  have := K _ _ _ _ ads ws H locs ls (.long (x &&& y) :: vs'') h2 ⟨b1, b2, b3, b4, b5, ⟨⟨_, rfl, by simp only [hx, hy]; exact cv_land x y⟩, w4⟩, b7⟩
  rw [hn] at this
  exact lv_land C.1 C.2.1 hd this
theorem sn_lor (C : Cx G aC p s m meth c mi) (K : Kc sa b aC ph L xs G A n0 u0 ads0 p l e R s m args below meth c mi k res Q) (B : Bn sa b aC ph L xs G A n0 u0 ads0 s mi lv st S ads ws H locs ls vs) (hd : decode (mby mi) pc = .ok (.lor, 1)) (hn : pcn mi (i + 1) = pc + 1) (h : (p1 1 st fun b s => p1 1 s fun a s => k (i + 1) lv ((1, l_or a b) :: s) S) = some res) : W p l e R s m args below meth c H locs (S 2 0 0 - n0).toNat (S 3 0 0 - u0).toNat Q (F0 m pc ls vs) := by
  obtain ⟨v2, s1, rfl, h1⟩ := p1_sp h
  obtain ⟨v1, s2, rfl, h2⟩ := p1_sp h1
  obtain ⟨b1, b2, b3, b4, b5, b6, b7⟩ := B
  obtain ⟨w, vs', rfl, w1, w2⟩ := sr_cons b6
  obtain ⟨w', vs'', rfl, w3, w4⟩ := sr_cons w2
  obtain ⟨y, rfl, hy⟩ := w1
  obtain ⟨x, rfl, hx⟩ := w3
  have hx : v1 = x.toInt := hx
  have hy : v2 = y.toInt := hy
  have := K _ _ _ _ ads ws H locs ls (.long (x ||| y) :: vs'') h2 ⟨b1, b2, b3, b4, b5, ⟨⟨_, rfl, by simp only [hx, hy]; exact cv_lor x y⟩, w4⟩, b7⟩
  rw [hn] at this
  exact lv_lor C.1 C.2.1 hd this
theorem sn_lxor (C : Cx G aC p s m meth c mi) (K : Kc sa b aC ph L xs G A n0 u0 ads0 p l e R s m args below meth c mi k res Q) (B : Bn sa b aC ph L xs G A n0 u0 ads0 s mi lv st S ads ws H locs ls vs) (hd : decode (mby mi) pc = .ok (.lxor, 1)) (hn : pcn mi (i + 1) = pc + 1) (h : (p1 1 st fun b s => p1 1 s fun a s => k (i + 1) lv ((1, l_xor a b) :: s) S) = some res) : W p l e R s m args below meth c H locs (S 2 0 0 - n0).toNat (S 3 0 0 - u0).toNat Q (F0 m pc ls vs) := by
  obtain ⟨v2, s1, rfl, h1⟩ := p1_sp h
  obtain ⟨v1, s2, rfl, h2⟩ := p1_sp h1
  obtain ⟨b1, b2, b3, b4, b5, b6, b7⟩ := B
  obtain ⟨w, vs', rfl, w1, w2⟩ := sr_cons b6
  obtain ⟨w', vs'', rfl, w3, w4⟩ := sr_cons w2
  obtain ⟨y, rfl, hy⟩ := w1
  obtain ⟨x, rfl, hx⟩ := w3
  have hx : v1 = x.toInt := hx
  have hy : v2 = y.toInt := hy
  have := K _ _ _ _ ads ws H locs ls (.long (x ^^^ y) :: vs'') h2 ⟨b1, b2, b3, b4, b5, ⟨⟨_, rfl, by simp only [hx, hy]; exact cv_lxor x y⟩, w4⟩, b7⟩
  rw [hn] at this
  exact lv_lxor C.1 C.2.1 hd this
theorem sn_ishl (C : Cx G aC p s m meth c mi) (K : Kc sa b aC ph L xs G A n0 u0 ads0 p l e R s m args below meth c mi k res Q) (B : Bn sa b aC ph L xs G A n0 u0 ads0 s mi lv st S ads ws H locs ls vs) (hd : decode (mby mi) pc = .ok (.ishl, 1)) (hn : pcn mi (i + 1) = pc + 1) (h : (p1 0 st fun b s => p1 0 s fun a s => k (i + 1) lv ((0, i_shl a b) :: s) S) = some res) : W p l e R s m args below meth c H locs (S 2 0 0 - n0).toNat (S 3 0 0 - u0).toNat Q (F0 m pc ls vs) := by
  obtain ⟨v2, s1, rfl, h1⟩ := p1_sp h
  obtain ⟨v1, s2, rfl, h2⟩ := p1_sp h1
  obtain ⟨b1, b2, b3, b4, b5, b6, b7⟩ := B
  obtain ⟨w, vs', rfl, w1, w2⟩ := sr_cons b6
  obtain ⟨w', vs'', rfl, w3, w4⟩ := sr_cons w2
  obtain ⟨y, rfl, hy⟩ := w1
  obtain ⟨x, rfl, hx⟩ := w3
  have hx : v1 = x.toInt := hx
  have hy : v2 = y.toInt := hy
  have := K _ _ _ _ ads ws H locs ls (.int (x <<< (y &&& 31)) :: vs'') h2 ⟨b1, b2, b3, b4, b5, ⟨⟨_, rfl, by simp only [hx, hy]; exact cv_ishl x y⟩, w4⟩, b7⟩
  rw [hn] at this
  exact lv_ishl C.1 C.2.1 hd this
theorem sn_ishr (C : Cx G aC p s m meth c mi) (K : Kc sa b aC ph L xs G A n0 u0 ads0 p l e R s m args below meth c mi k res Q) (B : Bn sa b aC ph L xs G A n0 u0 ads0 s mi lv st S ads ws H locs ls vs) (hd : decode (mby mi) pc = .ok (.ishr, 1)) (hn : pcn mi (i + 1) = pc + 1) (h : (p1 0 st fun b s => p1 0 s fun a s => k (i + 1) lv ((0, i_shr a b) :: s) S) = some res) : W p l e R s m args below meth c H locs (S 2 0 0 - n0).toNat (S 3 0 0 - u0).toNat Q (F0 m pc ls vs) := by
  obtain ⟨v2, s1, rfl, h1⟩ := p1_sp h
  obtain ⟨v1, s2, rfl, h2⟩ := p1_sp h1
  obtain ⟨b1, b2, b3, b4, b5, b6, b7⟩ := B
  obtain ⟨w, vs', rfl, w1, w2⟩ := sr_cons b6
  obtain ⟨w', vs'', rfl, w3, w4⟩ := sr_cons w2
  obtain ⟨y, rfl, hy⟩ := w1
  obtain ⟨x, rfl, hx⟩ := w3
  have hx : v1 = x.toInt := hx
  have hy : v2 = y.toInt := hy
  have := K _ _ _ _ ads ws H locs ls (.int (x >>> (y &&& 31)) :: vs'') h2 ⟨b1, b2, b3, b4, b5, ⟨⟨_, rfl, by simp only [hx, hy]; exact cv_ishr x y⟩, w4⟩, b7⟩
  rw [hn] at this
  exact lv_ishr C.1 C.2.1 hd this
theorem sn_iushr (C : Cx G aC p s m meth c mi) (K : Kc sa b aC ph L xs G A n0 u0 ads0 p l e R s m args below meth c mi k res Q) (B : Bn sa b aC ph L xs G A n0 u0 ads0 s mi lv st S ads ws H locs ls vs) (hd : decode (mby mi) pc = .ok (.iushr, 1)) (hn : pcn mi (i + 1) = pc + 1) (h : (p1 0 st fun b s => p1 0 s fun a s => k (i + 1) lv ((0, i_ushr a b) :: s) S) = some res) : W p l e R s m args below meth c H locs (S 2 0 0 - n0).toNat (S 3 0 0 - u0).toNat Q (F0 m pc ls vs) := by
  obtain ⟨v2, s1, rfl, h1⟩ := p1_sp h
  obtain ⟨v1, s2, rfl, h2⟩ := p1_sp h1
  obtain ⟨b1, b2, b3, b4, b5, b6, b7⟩ := B
  obtain ⟨w, vs', rfl, w1, w2⟩ := sr_cons b6
  obtain ⟨w', vs'', rfl, w3, w4⟩ := sr_cons w2
  obtain ⟨y, rfl, hy⟩ := w1
  obtain ⟨x, rfl, hx⟩ := w3
  have hx : v1 = x.toInt := hx
  have hy : v2 = y.toInt := hy
  have := K _ _ _ _ ads ws H locs ls (.int ((x.toUInt32 >>> (y.toUInt32 &&& Int32.toUInt32 31)).toInt32) :: vs'') h2 ⟨b1, b2, b3, b4, b5, ⟨⟨_, rfl, by simp only [hx, hy]; exact cv_iushr x y⟩, w4⟩, b7⟩
  rw [hn] at this
  exact lv_iushr C.1 C.2.1 hd rfl this
theorem sn_lshl (C : Cx G aC p s m meth c mi) (K : Kc sa b aC ph L xs G A n0 u0 ads0 p l e R s m args below meth c mi k res Q) (B : Bn sa b aC ph L xs G A n0 u0 ads0 s mi lv st S ads ws H locs ls vs) (hd : decode (mby mi) pc = .ok (.lshl, 1)) (hn : pcn mi (i + 1) = pc + 1) (h : (p1 0 st fun b s => p1 1 s fun a s => k (i + 1) lv ((1, l_shl a b) :: s) S) = some res) : W p l e R s m args below meth c H locs (S 2 0 0 - n0).toNat (S 3 0 0 - u0).toNat Q (F0 m pc ls vs) := by
  obtain ⟨v2, s1, rfl, h1⟩ := p1_sp h
  obtain ⟨v1, s2, rfl, h2⟩ := p1_sp h1
  obtain ⟨b1, b2, b3, b4, b5, b6, b7⟩ := B
  obtain ⟨w, vs', rfl, w1, w2⟩ := sr_cons b6
  obtain ⟨w', vs'', rfl, w3, w4⟩ := sr_cons w2
  obtain ⟨y, rfl, hy⟩ := w1
  obtain ⟨x, rfl, hx⟩ := w3
  have hx : v1 = x.toInt := hx
  have hy : v2 = y.toInt := hy
  have := K _ _ _ _ ads ws H locs ls (.long (x <<< (y.toInt64 &&& 63)) :: vs'') h2 ⟨b1, b2, b3, b4, b5, ⟨⟨_, rfl, by simp only [hx, hy]; exact cv_lshl x y⟩, w4⟩, b7⟩
  rw [hn] at this
  exact lv_lshl C.1 C.2.1 hd rfl this
theorem sn_lshr (C : Cx G aC p s m meth c mi) (K : Kc sa b aC ph L xs G A n0 u0 ads0 p l e R s m args below meth c mi k res Q) (B : Bn sa b aC ph L xs G A n0 u0 ads0 s mi lv st S ads ws H locs ls vs) (hd : decode (mby mi) pc = .ok (.lshr, 1)) (hn : pcn mi (i + 1) = pc + 1) (h : (p1 0 st fun b s => p1 1 s fun a s => k (i + 1) lv ((1, l_shr a b) :: s) S) = some res) : W p l e R s m args below meth c H locs (S 2 0 0 - n0).toNat (S 3 0 0 - u0).toNat Q (F0 m pc ls vs) := by
  obtain ⟨v2, s1, rfl, h1⟩ := p1_sp h
  obtain ⟨v1, s2, rfl, h2⟩ := p1_sp h1
  obtain ⟨b1, b2, b3, b4, b5, b6, b7⟩ := B
  obtain ⟨w, vs', rfl, w1, w2⟩ := sr_cons b6
  obtain ⟨w', vs'', rfl, w3, w4⟩ := sr_cons w2
  obtain ⟨y, rfl, hy⟩ := w1
  obtain ⟨x, rfl, hx⟩ := w3
  have hx : v1 = x.toInt := hx
  have hy : v2 = y.toInt := hy
  have := K _ _ _ _ ads ws H locs ls (.long (x >>> (y.toInt64 &&& 63)) :: vs'') h2 ⟨b1, b2, b3, b4, b5, ⟨⟨_, rfl, by simp only [hx, hy]; exact cv_lshr x y⟩, w4⟩, b7⟩
  rw [hn] at this
  exact lv_lshr C.1 C.2.1 hd rfl this
theorem sn_lushr (C : Cx G aC p s m meth c mi) (K : Kc sa b aC ph L xs G A n0 u0 ads0 p l e R s m args below meth c mi k res Q) (B : Bn sa b aC ph L xs G A n0 u0 ads0 s mi lv st S ads ws H locs ls vs) (hd : decode (mby mi) pc = .ok (.lushr, 1)) (hn : pcn mi (i + 1) = pc + 1) (h : (p1 0 st fun b s => p1 1 s fun a s => k (i + 1) lv ((1, l_ushr a b) :: s) S) = some res) : W p l e R s m args below meth c H locs (S 2 0 0 - n0).toNat (S 3 0 0 - u0).toNat Q (F0 m pc ls vs) := by
  obtain ⟨v2, s1, rfl, h1⟩ := p1_sp h
  obtain ⟨v1, s2, rfl, h2⟩ := p1_sp h1
  obtain ⟨b1, b2, b3, b4, b5, b6, b7⟩ := B
  obtain ⟨w, vs', rfl, w1, w2⟩ := sr_cons b6
  obtain ⟨w', vs'', rfl, w3, w4⟩ := sr_cons w2
  obtain ⟨y, rfl, hy⟩ := w1
  obtain ⟨x, rfl, hx⟩ := w3
  have hx : v1 = x.toInt := hx
  have hy : v2 = y.toInt := hy
  have := K _ _ _ _ ads ws H locs ls (.long ((x.toUInt64 >>> (y.toInt64.toUInt64 &&& Int64.toUInt64 63)).toInt64) :: vs'') h2 ⟨b1, b2, b3, b4, b5, ⟨⟨_, rfl, by simp only [hx, hy]; exact cv_lushr x y⟩, w4⟩, b7⟩
  rw [hn] at this
  exact lv_lushr C.1 C.2.1 hd rfl this
theorem sn_ineg (C : Cx G aC p s m meth c mi) (K : Kc sa b aC ph L xs G A n0 u0 ads0 p l e R s m args below meth c mi k res Q) (B : Bn sa b aC ph L xs G A n0 u0 ads0 s mi lv st S ads ws H locs ls vs) (hd : decode (mby mi) pc = .ok (.ineg, 1)) (hn : pcn mi (i + 1) = pc + 1) (h : (p1 0 st fun a s => k (i + 1) lv ((0, w32 (-a)) :: s) S) = some res) : W p l e R s m args below meth c H locs (S 2 0 0 - n0).toNat (S 3 0 0 - u0).toNat Q (F0 m pc ls vs) := by
  obtain ⟨v1, s1, rfl, h1⟩ := p1_sp h
  obtain ⟨b1, b2, b3, b4, b5, b6, b7⟩ := B
  obtain ⟨w, vs', rfl, w1, w2⟩ := sr_cons b6
  obtain ⟨x, rfl, hx⟩ := w1
  have hx : v1 = x.toInt := hx
  have := K _ _ _ _ ads ws H locs ls (.int (-x) :: vs') h1 ⟨b1, b2, b3, b4, b5, ⟨⟨_, rfl, by simp only [hx]; exact cv_ineg x⟩, w2⟩, b7⟩
  rw [hn] at this
  exact lv_ineg C.1 C.2.1 hd this
theorem sn_lneg (C : Cx G aC p s m meth c mi) (K : Kc sa b aC ph L xs G A n0 u0 ads0 p l e R s m args below meth c mi k res Q) (B : Bn sa b aC ph L xs G A n0 u0 ads0 s mi lv st S ads ws H locs ls vs) (hd : decode (mby mi) pc = .ok (.lneg, 1)) (hn : pcn mi (i + 1) = pc + 1) (h : (p1 1 st fun a s => k (i + 1) lv ((1, w64 (-a)) :: s) S) = some res) : W p l e R s m args below meth c H locs (S 2 0 0 - n0).toNat (S 3 0 0 - u0).toNat Q (F0 m pc ls vs) := by
  obtain ⟨v1, s1, rfl, h1⟩ := p1_sp h
  obtain ⟨b1, b2, b3, b4, b5, b6, b7⟩ := B
  obtain ⟨w, vs', rfl, w1, w2⟩ := sr_cons b6
  obtain ⟨x, rfl, hx⟩ := w1
  have hx : v1 = x.toInt := hx
  have := K _ _ _ _ ads ws H locs ls (.long (-x) :: vs') h1 ⟨b1, b2, b3, b4, b5, ⟨⟨_, rfl, by simp only [hx]; exact cv_lneg x⟩, w2⟩, b7⟩
  rw [hn] at this
  exact lv_lneg C.1 C.2.1 hd this
theorem sn_i2l (C : Cx G aC p s m meth c mi) (K : Kc sa b aC ph L xs G A n0 u0 ads0 p l e R s m args below meth c mi k res Q) (B : Bn sa b aC ph L xs G A n0 u0 ads0 s mi lv st S ads ws H locs ls vs) (hd : decode (mby mi) pc = .ok (.i2l, 1)) (hn : pcn mi (i + 1) = pc + 1) (h : (p1 0 st fun a s => k (i + 1) lv ((1, a) :: s) S) = some res) : W p l e R s m args below meth c H locs (S 2 0 0 - n0).toNat (S 3 0 0 - u0).toNat Q (F0 m pc ls vs) := by
  obtain ⟨v1, s1, rfl, h1⟩ := p1_sp h
  obtain ⟨b1, b2, b3, b4, b5, b6, b7⟩ := B
  obtain ⟨w, vs', rfl, w1, w2⟩ := sr_cons b6
  obtain ⟨x, rfl, hx⟩ := w1
  have hx : v1 = x.toInt := hx
  have := K _ _ _ _ ads ws H locs ls (.long x.toInt64 :: vs') h1 ⟨b1, b2, b3, b4, b5, ⟨⟨_, rfl, by simp only [hx]; exact cv_i2l x⟩, w2⟩, b7⟩
  rw [hn] at this
  exact lv_i2l C.1 C.2.1 hd rfl this
theorem sn_l2i (C : Cx G aC p s m meth c mi) (K : Kc sa b aC ph L xs G A n0 u0 ads0 p l e R s m args below meth c mi k res Q) (B : Bn sa b aC ph L xs G A n0 u0 ads0 s mi lv st S ads ws H locs ls vs) (hd : decode (mby mi) pc = .ok (.l2i, 1)) (hn : pcn mi (i + 1) = pc + 1) (h : (p1 1 st fun a s => k (i + 1) lv ((0, w32 a) :: s) S) = some res) : W p l e R s m args below meth c H locs (S 2 0 0 - n0).toNat (S 3 0 0 - u0).toNat Q (F0 m pc ls vs) := by
  obtain ⟨v1, s1, rfl, h1⟩ := p1_sp h
  obtain ⟨b1, b2, b3, b4, b5, b6, b7⟩ := B
  obtain ⟨w, vs', rfl, w1, w2⟩ := sr_cons b6
  obtain ⟨x, rfl, hx⟩ := w1
  have hx : v1 = x.toInt := hx
  have := K _ _ _ _ ads ws H locs ls (.int x.toInt32 :: vs') h1 ⟨b1, b2, b3, b4, b5, ⟨⟨_, rfl, by simp only [hx]; exact cv_l2i x⟩, w2⟩, b7⟩
  rw [hn] at this
  exact lv_l2i C.1 C.2.1 hd rfl this
theorem sn_i2b (C : Cx G aC p s m meth c mi) (K : Kc sa b aC ph L xs G A n0 u0 ads0 p l e R s m args below meth c mi k res Q) (B : Bn sa b aC ph L xs G A n0 u0 ads0 s mi lv st S ads ws H locs ls vs) (hd : decode (mby mi) pc = .ok (.i2b, 1)) (hn : pcn mi (i + 1) = pc + 1) (h : (p1 0 st fun a s => k (i + 1) lv ((0, Int.bmod a 256) :: s) S) = some res) : W p l e R s m args below meth c H locs (S 2 0 0 - n0).toNat (S 3 0 0 - u0).toNat Q (F0 m pc ls vs) := by
  obtain ⟨v1, s1, rfl, h1⟩ := p1_sp h
  obtain ⟨b1, b2, b3, b4, b5, b6, b7⟩ := B
  obtain ⟨w, vs', rfl, w1, w2⟩ := sr_cons b6
  obtain ⟨x, rfl, hx⟩ := w1
  have hx : v1 = x.toInt := hx
  have := K _ _ _ _ ads ws H locs ls (.int x.toInt8.toInt32 :: vs') h1 ⟨b1, b2, b3, b4, b5, ⟨⟨_, rfl, by simp only [hx]; exact cv_i2b x⟩, w2⟩, b7⟩
  rw [hn] at this
  exact lv_i2b C.1 C.2.1 hd rfl this
end Ins
