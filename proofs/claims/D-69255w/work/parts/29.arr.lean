/-! SOUNDNESS, 6: arrays -/
theorem atx_p {g : Nat} (h : akd g < 4) : atx g = akd g := by
  unfold atx
  rw [Nat.blt_eq.mpr h]; rfl
def atqB (g : Nat) : Bool := Nat.ble 4 (atx g) && (Nat.blt (atx g) 11 && (decide (atl.getD (atx g) .int = .object (cn (ael g))) && (Nat.ble 10 (ael g) && (Nat.blt (ael g) 60 && (kl.all fun k => !(sb (ael g) k) || (Nat.beq k (ael g) || decide ((k, ael g) ∈ ctk)))))))
theorem at_q0 : ((List.range 300).all fun g => !(Nat.beq (akd g) 4) || atqB g) = true := by decide +kernel
theorem at_q (g : Nat) (hg : g < 300) (h : akd g = 4) : 4 ≤ atx g ∧ atx g < 11 ∧ atl.getD (atx g) .int = .object (cn (ael g)) ∧ 10 ≤ ael g ∧ ael g < 60 ∧ (∀ k ∈ kl, sb (ael g) k = true → k = ael g ∨ (k, ael g) ∈ ctk) := by
  have := List.all_eq_true.mp at_q0 g (List.mem_range.mpr hg)
  rw [h] at this
  have : atqB g = true := this
  unfold atqB at this
  simp only [Bool.and_eq_true] at this
  obtain ⟨h1, h2, h3, h4, h5, h6⟩ := this
  refine ⟨Nat.ble_eq.mp h1, Nat.blt_eq.mp h2, of_decide_eq_true h3, Nat.ble_eq.mp h4, Nat.blt_eq.mp h5, fun k hk hs => ?_⟩
  have := List.all_eq_true.mp h6 k hk
  rw [hs] at this
  have this : (Nat.beq k (ael g) || decide ((k, ael g) ∈ ctk)) = true := this
  rcases Bool.or_eq_true_iff.mp this with e | e
  · exact Or.inl (Nat.eq_of_beq_eq_true e)
  · exact Or.inr (of_decide_eq_true e)
theorem nI_i {n : Nat} (h : n < 2147483648) : (Int32.ofNat n).toInt = (n : Int) := nI_toInt (n := n) (by omega)
section Arr
variable {sa : Nat → Nat} {b : Nat} {aC : Nat → ClassId} {ph : Bool} {L : Nat} {xs : Nat → Int32} {ads : List (Nat × Nat)} {ws : va_W} {S : St}
/-- an array that is not null -/
theorem Rl.arr (h : Rl sa b aC ph L xs ads ws S) {g : Nat} {r : Int} {w : Value} (hv : vr sa b ads g r w) (hg : akd g < 5) (hr : r ≠ 0) :
    ∃ (j a n : Nat) (c : (Nat → Int32) ⊕ (Nat → Int64) ⊕ (Nat → UInt32) ⊕ (Nat → UInt64) ⊕ (Nat → Option Nat)), r = (j : Int) + 1 ∧ w = .ref a ∧ ads[j]? = some (a, g) ∧ ws[j]? = some (a, .inl (aC (atx g), n, c)) ∧ aln g r S = (n : Int) ∧ n < 100000 ∧ atx g < 11 ∧ er sa b aC ads S r g (.inl (aC (atx g), n, c)) := by
  have hg2 := akd_rng hg
  obtain ⟨j, a, kd, e, e0, e1, e2, e3, e4, e5, e6⟩ := h.obj hv (by omega) hr
  have hkk := h.kok j a kd e2
  have : kd = g := kind_arr hkk (by omega) e3
  subst this
  cases e with
  | inr q => exact absurd (kl_lt kd e6.1).2 (by omega)
  | inl q =>
    obtain ⟨cA, n, c⟩ := q
    have e6' := e6
    obtain ⟨a1, a2, a3, a4, a5, a6, a7, -⟩ := e6
    have a4 : cA = aC (atx kd) := a4
    subst a4
    refine ⟨j, a, n, c, e0, e1, e2, e4, ?_, a6, a3, e6'⟩
    unfold aln
    cases hl : alc kd with
    | none => exact a5
    | some l => exact a7 l hl
end Arr
section Ins
variable {sa : Nat → Nat} {b : Nat} {aC : Nat → ClassId} {ph : Bool} {L : Nat} {xs : Nat → Int32} {G : va_G} {A : Nat → Prop} {n0 u0 : Int} {ads0 : List (Nat × Nat)}
variable {p : Program} {l : Launch} {e : Env} {R : Room} {s : State} {m : MethodId} {args : Array Value} {below : List Frame} {meth : Method} {c : Code} {mi : Nat}
variable {k : Nat → Lv → List Wd → St → Rs} {res : (Int ⊕ Int) × St} {Q : State → Prop} {i : Nat} {lv : Lv} {st : List Wd} {S : St} {ads : List (Nat × Nat)} {ws : va_W} {H : Heap} {locs : List Loc} {ls : Array Slot} {vs : List Value} {pc : Nat}

theorem sn_alen (C : Cx G aC p s m meth c mi) (K : Kc sa b aC ph L xs G A n0 u0 ads0 p l e R s m args below meth c mi k res Q) (B : Bn sa b aC ph L xs G A n0 u0 ads0 s mi lv st S ads ws H locs ls vs) (hd : decode (mby mi) pc = .ok (.arraylength, 1)) (hn : pcn mi (i + 1) = pc + 1) (hX : va_X b L xs s s.heap) (hbl : b < s.heap.size) (hbA : ¬ A b)
    (h : (pr st fun g r s => cond (Nat.beq g 4) (ck ph (k (i + 1) lv ((0, S 5 0 0) :: s) S)) (ck (Nat.blt (akd g) 5) (nz r (k (i + 1) lv ((0, aln g r S) :: s) S)))) = some res) : W p l e R s m args below meth c H locs (S 2 0 0 - n0).toNat (S 3 0 0 - u0).toNat Q (F0 m pc ls vs) := by
  obtain ⟨g, r, s1, rfl, h0, h1⟩ := pr_sp h
  obtain ⟨b1, b2, b3, b4, b5, b6, b7⟩ := B
  obtain ⟨w, vs', rfl, w1, w2⟩ := sr_cons b6
  cases hg : Nat.beq g 4 with
  | true =>
    rw [hg] at h1
    have hg := Nat.eq_of_beq_eq_true hg
    subst hg
    have w1 : w = .ref b := w1
    subst w1
    obtain ⟨hp, h1⟩ := ck_sp (show ck ph _ = some res from h1)
    have := K (i + 1) lv ((0, S 5 0 0) :: s1) S ads ws H locs ls (.int (Int32.ofNat L) :: vs') h1 ⟨b1, b2, b3, b4, b5, ⟨⟨_, rfl, by rw [nI_i (b1.2.2.2.2.1 hp).2.1]; exact (b1.2.2.2.2.1 hp).1⟩, w2⟩, b7⟩
    rw [hn] at this
    exact va_slen C.1 C.2.1 hX hbl hbA b4 hd this
  | false =>
    rw [hg] at h1
    obtain ⟨hk, h2⟩ := ck_sp h1
    obtain ⟨hr, h3⟩ := nz_sp h2
    obtain ⟨j, a, n, cc, e0, rfl, e2, e3, e4, e5, e6, e7⟩ := b1.arr w1 (Nat.blt_eq.mp hk) hr
    have e4 : aln g r S = (n : Int) := e4
    have := K (i + 1) lv ((0, aln g r S) :: s1) S ads ws H locs ls (.int (Int32.ofNat n) :: vs') h3 ⟨b1, b2, b3, b4, b5, ⟨⟨_, rfl, by rw [nI_i (by omega)]; exact e4⟩, w2⟩, b7⟩
    rw [hn] at this
    exact va_alen C.1 C.2.1 C.K b2 j (atx g) e3 (tysA_at aC e6) rfl hd this
theorem sn_iald (C : Cx G aC p s m meth c mi) (K : Kc sa b aC ph L xs G A n0 u0 ads0 p l e R s m args below meth c mi k res Q) (B : Bn sa b aC ph L xs G A n0 u0 ads0 s mi lv st S ads ws H locs ls vs) (hd : decode (mby mi) pc = .ok (.iaload, 1)) (hn : pcn mi (i + 1) = pc + 1) (hX : va_X b L xs s s.heap) (hbl : b < s.heap.size) (hbA : ¬ A b)
    (h : (p1 0 st fun j s => pr s fun g r s => cond (Nat.beq g 4) (ck ph (ib j (S 5 0 0) (k (i + 1) lv ((0, S 4 0 j) :: s) S))) (ck (Nat.beq (akd g) 0) (nz r (ib j (aln g r S) (k (i + 1) lv ((0, S g r j) :: s) S))))) = some res) : W p l e R s m args below meth c H locs (S 2 0 0 - n0).toNat (S 3 0 0 - u0).toNat Q (F0 m pc ls vs) := by
  obtain ⟨jj, s0, rfl, hh⟩ := p1_sp h
  obtain ⟨g, r, s1, rfl, h0, h1⟩ := pr_sp hh
  obtain ⟨b1, b2, b3, b4, b5, b6, b7⟩ := B
  obtain ⟨wi, vs0, rfl, wi1, w0⟩ := sr_cons b6
  obtain ⟨w, vs', rfl, w1, w2⟩ := sr_cons w0
  obtain ⟨y, rfl, hy⟩ := wi1
  have hy : jj = y.toInt := hy
  cases hg : Nat.beq g 4 with
  | true =>
    rw [hg] at h1
    have hg := Nat.eq_of_beq_eq_true hg
    subst hg
    have w1 : w = .ref b := w1
    subst w1
    obtain ⟨hp, h1⟩ := ck_sp (show ck ph _ = some res from h1)
    obtain ⟨⟨i1, i2⟩, h2⟩ := ib_sp h1
    rw [(b1.2.2.2.2.1 hp).1] at i2
    obtain ⟨y1, y2⟩ := ix_in hy i1 i2
    have hv := (b1.2.2.2.2.1 hp).2.2 jj.toNat (by omega)
    rw [Int.toNat_of_nonneg i1, ← y2] at hv
    have := K (i + 1) lv ((0, S 4 0 jj) :: s1) S ads ws H locs ls (.int (xs y.toNatClampNeg) :: vs') h2 ⟨b1, b2, b3, b4, b5, ⟨⟨_, rfl, hv⟩, w2⟩, b7⟩
    rw [hn] at this
    exact va_sld C.1 C.2.1 hX hbl hbA b4 y1 hd this
  | false =>
    rw [hg] at h1
    obtain ⟨hk, h2⟩ := ck_sp h1
    have hk := Nat.eq_of_beq_eq_true hk
    obtain ⟨hr, h3⟩ := nz_sp h2
    obtain ⟨j, a, n, cc, e0, rfl, e2, e3, e4, e5, e6, e7⟩ := b1.arr w1 (by simp only; omega) hr
    have e4 : aln g r S = (n : Int) := e4
    rw [e4] at h3
    obtain ⟨⟨i1, i2⟩, h4⟩ := ib_sp h3
    obtain ⟨y1, y2⟩ := ix_in hy i1 i2
    obtain ⟨f, rfl, f2⟩ := e7.2.2.2.2.2.2.2.1 (by simp only; omega)
    have hv := f2 jj.toNat (by simp only; omega)
    rw [Int.toNat_of_nonneg i1, ← y2] at hv
    have ht := tysA_at aC e6
    rw [atx_p (by simp only; omega), hk] at ht e3
    have := K (i + 1) lv ((0, S g r jj) :: s1) S ads ws H locs ls (.int (f y.toNatClampNeg) :: vs') h4 ⟨b1, b2, b3, b4, b5, ⟨⟨_, rfl, hv⟩, w2⟩, b7⟩
    rw [hn] at this
    exact va_iald C.1 C.2.1 C.K b2 j 0 e3 ht y1 hd this
theorem sn_bald (C : Cx G aC p s m meth c mi) (K : Kc sa b aC ph L xs G A n0 u0 ads0 p l e R s m args below meth c mi k res Q) (B : Bn sa b aC ph L xs G A n0 u0 ads0 s mi lv st S ads ws H locs ls vs) (hd : decode (mby mi) pc = .ok (.baload, 1)) (hn : pcn mi (i + 1) = pc + 1)
    (h : (p1 0 st fun j s => pr s fun g r s => ck (Nat.beq (akd g) 1 || Nat.beq (akd g) 2) (nz r (ib j (aln g r S) (k (i + 1) lv ((0, S g r j) :: s) S)))) = some res) : W p l e R s m args below meth c H locs (S 2 0 0 - n0).toNat (S 3 0 0 - u0).toNat Q (F0 m pc ls vs) := by
  obtain ⟨jj, s0, rfl, hh⟩ := p1_sp h
  obtain ⟨g, r, s1, rfl, h0, h1⟩ := pr_sp hh
  obtain ⟨b1, b2, b3, b4, b5, b6, b7⟩ := B
  obtain ⟨wi, vs0, rfl, wi1, w0⟩ := sr_cons b6
  obtain ⟨w, vs', rfl, w1, w2⟩ := sr_cons w0
  obtain ⟨y, rfl, hy⟩ := wi1
  have hy : jj = y.toInt := hy
  obtain ⟨hk, h2⟩ := ck_sp h1
  have hk : akd g = 1 ∨ akd g = 2 := (Bool.or_eq_true_iff.mp hk).elim (fun q => Or.inl (Nat.eq_of_beq_eq_true q)) (fun q => Or.inr (Nat.eq_of_beq_eq_true q))
  obtain ⟨hr, h3⟩ := nz_sp h2
  obtain ⟨j, a, n, cc, e0, rfl, e2, e3, e4, e5, e6, e7⟩ := b1.arr w1 (by simp only; omega) hr
  have e4 : aln g r S = (n : Int) := e4
  rw [e4] at h3
  obtain ⟨⟨i1, i2⟩, h4⟩ := ib_sp h3
  obtain ⟨y1, y2⟩ := ix_in hy i1 i2
  obtain ⟨f, rfl, f2⟩ := e7.2.2.2.2.2.2.2.1 (by simp only; omega)
  have hv := f2 jj.toNat (by simp only; omega)
  rw [Int.toNat_of_nonneg i1, ← y2] at hv
  have ht := tysA_at aC e6
  have := K (i + 1) lv ((0, S g r jj) :: s1) S ads ws H locs ls (.int (f y.toNatClampNeg) :: vs') h4 ⟨b1, b2, b3, b4, b5, ⟨⟨_, rfl, hv⟩, w2⟩, b7⟩
  rw [hn] at this
  rcases hk with hk | hk
  · rw [atx_p (by simp only; omega), hk] at ht e3
    exact va_bald C.1 C.2.1 C.K b2 j 1 e3 ht y1 hd this
  · rw [atx_p (by simp only; omega), hk] at ht e3
    exact va_zald C.1 C.2.1 C.K b2 j 2 e3 ht y1 hd this
theorem sn_lald (C : Cx G aC p s m meth c mi) (K : Kc sa b aC ph L xs G A n0 u0 ads0 p l e R s m args below meth c mi k res Q) (B : Bn sa b aC ph L xs G A n0 u0 ads0 s mi lv st S ads ws H locs ls vs) (hd : decode (mby mi) pc = .ok (.laload, 1)) (hn : pcn mi (i + 1) = pc + 1)
    (h : (p1 0 st fun j s => pr s fun g r s => ck (Nat.beq (akd g) 3) (nz r (ib j (aln g r S) (k (i + 1) lv ((1, S g r j) :: s) S)))) = some res) : W p l e R s m args below meth c H locs (S 2 0 0 - n0).toNat (S 3 0 0 - u0).toNat Q (F0 m pc ls vs) := by
  obtain ⟨jj, s0, rfl, hh⟩ := p1_sp h
  obtain ⟨g, r, s1, rfl, h0, h1⟩ := pr_sp hh
  obtain ⟨b1, b2, b3, b4, b5, b6, b7⟩ := B
  obtain ⟨wi, vs0, rfl, wi1, w0⟩ := sr_cons b6
  obtain ⟨w, vs', rfl, w1, w2⟩ := sr_cons w0
  obtain ⟨y, rfl, hy⟩ := wi1
  have hy : jj = y.toInt := hy
  obtain ⟨hk, h2⟩ := ck_sp h1
  have hk := Nat.eq_of_beq_eq_true hk
  obtain ⟨hr, h3⟩ := nz_sp h2
  obtain ⟨j, a, n, cc, e0, rfl, e2, e3, e4, e5, e6, e7⟩ := b1.arr w1 (by simp only; omega) hr
  have e4 : aln g r S = (n : Int) := e4
  rw [e4] at h3
  obtain ⟨⟨i1, i2⟩, h4⟩ := ib_sp h3
  obtain ⟨y1, y2⟩ := ix_in hy i1 i2
  obtain ⟨f, rfl, f2⟩ := e7.2.2.2.2.2.2.2.2.1 (by simp only; omega)
  have hv := f2 jj.toNat (by simp only; omega)
  rw [Int.toNat_of_nonneg i1, ← y2] at hv
  have ht := tysA_at aC e6
  have := K (i + 1) lv ((1, S g r jj) :: s1) S ads ws H locs ls (.long (f y.toNatClampNeg) :: vs') h4 ⟨b1, b2, b3, b4, b5, ⟨⟨_, rfl, hv⟩, w2⟩, b7⟩
  rw [hn] at this
  rw [atx_p (by simp only; omega), hk] at ht e3
  exact va_lald C.1 C.2.1 C.K b2 j 3 e3 ht y1 hd this
theorem sn_aald (C : Cx G aC p s m meth c mi) (K : Kc sa b aC ph L xs G A n0 u0 ads0 p l e R s m args below meth c mi k res Q) (B : Bn sa b aC ph L xs G A n0 u0 ads0 s mi lv st S ads ws H locs ls vs) (hd : decode (mby mi) pc = .ok (.aaload, 1)) (hn : pcn mi (i + 1) = pc + 1)
    (h : (p1 0 st fun j s => pr s fun g r s => ck (Nat.beq (akd g) 4) (nz r (ib j (aln g r S) (k (i + 1) lv ((ael g, S g r j) :: s) S)))) = some res) : W p l e R s m args below meth c H locs (S 2 0 0 - n0).toNat (S 3 0 0 - u0).toNat Q (F0 m pc ls vs) := by
  obtain ⟨jj, s0, rfl, hh⟩ := p1_sp h
  obtain ⟨g, r, s1, rfl, h0, h1⟩ := pr_sp hh
  obtain ⟨b1, b2, b3, b4, b5, b6, b7⟩ := B
  obtain ⟨wi, vs0, rfl, wi1, w0⟩ := sr_cons b6
  obtain ⟨w, vs', rfl, w1, w2⟩ := sr_cons w0
  obtain ⟨y, rfl, hy⟩ := wi1
  have hy : jj = y.toInt := hy
  obtain ⟨hk, h2⟩ := ck_sp h1
  have hk := Nat.eq_of_beq_eq_true hk
  obtain ⟨hr, h3⟩ := nz_sp h2
  obtain ⟨j, a, n, cc, e0, rfl, e2, e3, e4, e5, e6, e7⟩ := b1.arr w1 (by simp only; omega) hr
  have e4 : aln g r S = (n : Int) := e4
  rw [e4] at h3
  obtain ⟨⟨i1, i2⟩, h4⟩ := ib_sp h3
  obtain ⟨y1, y2⟩ := ix_in hy i1 i2
  obtain ⟨f, rfl, f2⟩ := e7.2.2.2.2.2.2.2.2.2.1 (by simp only; omega)
  have hv := f2 jj.toNat (by simp only; omega)
  rw [Int.toNat_of_nonneg i1, ← y2] at hv
  have hq := at_q g (by have := akd_rng (g := g) (by omega); omega) hk
  have ht := tysA_at aC e6
  rw [hq.2.2.1] at ht
  have := K (i + 1) lv ((ael g, S g r jj) :: s1) S ads ws H locs ls (va_rf (f y.toNatClampNeg) :: vs') h4 ⟨b1, b2, b3, b4, b5, ⟨hv, w2⟩, b7⟩
  rw [hn] at this
  exact va_aldq C.1 C.2.1 C.K b2 j (atx g) e3 ht y1 hd this
/-- an int, byte or boolean goes into an array -/
theorem sn_ist {x : Nat} {jj r v : Int} {y : Int32} {z : Int32} {w : Value} {s1 : List Wd} {vs' : List Value} (C : Cx G aC p s m meth c mi) (K : Kc sa b aC ph L xs G A n0 u0 ads0 p l e R s m args below meth c mi k res Q) (B : Bn sa b aC ph L xs G A n0 u0 ads0 s mi lv s1 S ads ws H locs ls vs')
    (hn : pcn mi (i + 1) = pc + 1) (hk : akd x < 3) (hr : r ≠ 0) (hw : vr sa b ads x r w) (hy : jj = y.toInt) (hib : 0 ≤ jj ∧ jj < aln x r S) (hv : v = z.toInt) (hv8 : akd x = 1 → -128 ≤ v ∧ v < 128)
    (h : k (i + 1) lv s1 (up S x r jj v) = some res)
    (row : ∀ (a j n : Nat) (f : Nat → Int32), w = .ref a → ws[j]? = some (a, .inl (aC (akd x), n, .inl f)) → vp_in y n → (∀ (H1 : Heap) (locs1 : List Loc), va_P G clK (ws.set j (a, .inl (aC (akd x), n, .inl (upd f y.toNatClampNeg z)))) H1 → va_D A (ws.set j (a, .inl (aC (akd x), n, .inl (upd f y.toNatClampNeg z)))) → va_S A s.heap H1 locs1 → W p l e R s m args below meth c H1 locs1 (S 2 0 0 - n0).toNat (S 3 0 0 - u0).toNat Q (F0 m (pc + 1) ls vs')) → W p l e R s m args below meth c H locs (S 2 0 0 - n0).toNat (S 3 0 0 - u0).toNat Q (F0 m pc ls vs)) : W p l e R s m args below meth c H locs (S 2 0 0 - n0).toNat (S 3 0 0 - u0).toNat Q (F0 m pc ls vs) := by
  obtain ⟨b1, b2, b3, b4, b5, b6, b7, b8, b9⟩ := B
  obtain ⟨j, a, n, cc, e0, e1, e2, e3, e4, e5, e6, e7⟩ := b1.arr hw (by omega) hr
  rw [e4] at hib
  obtain ⟨y1, y2⟩ := ix_in hy hib.1 hib.2
  obtain ⟨f, rfl, f2⟩ := e7.2.2.2.2.2.2.2.1 (by omega)
  have hx := akd_rng (g := x) (by omega)
  subst e0
  refine row a j n f e1 (by rw [← atx_p (by omega)]; exact e3) y1 fun H1 locs1 p1 p2 p3 => ?_
  rw [← atx_p (by omega)] at p1 p2
  have q1 : up S x ((j : Int) + 1) jj v 2 0 0 = S 2 0 0 := up_f (by omega)
  have q2 : up S x ((j : Int) + 1) jj v 3 0 0 = S 3 0 0 := up_f (by omega)
  have hR : Rl sa b aC ph L xs ads (ws.set j (a, .inl (aC (atx x), n, .inl (upd f y.toNatClampNeg z)))) (up S x ((j : Int) + 1) jj v) := by
    refine b1.ast e2 e3 ⟨hx.1, hx.2⟩ (fun g' r' i' hne => if_neg fun q => hne ⟨q.1, q.2.1⟩) fun e7 => ?_
    obtain ⟨a1, a2, a3, a4, a5, a6, a7, a8, a9, a10, a11⟩ := e7
    refine ⟨a1, a2, a3, a4, by rw [up_f (by omega)]; exact a5, a6, a7, fun _ => ⟨_, rfl, fun i' hi' => ?_⟩, fun q => by omega, fun q => by omega, fun hk1 i' hi' => (by
      by_cases hii : (i' : Int) = jj
      · rw [hii, up_at]; exact hv8 hk1
      · rw [up_i hii]; exact a11 hk1 i' hi')⟩
    unfold upd
    by_cases hii : i' = y.toNatClampNeg
    · rw [if_pos hii, hii, y2, Int.toNat_of_nonneg hib.1, up_at]; exact hv
    · rw [if_neg hii, up_i (by rw [y2] at hii; omega)]; exact f2 i' hi'
  have := K (i + 1) lv s1 _ ads _ H1 locs1 ls vs' h ⟨hR, p1, p2, p3, b5, b6, by rw [q1]; exact b7, by rw [q2]; exact b8, b9⟩
  rw [q1, q2, hn] at this
  exact this
theorem sn_iast {x : Nat} (C : Cx G aC p s m meth c mi) (K : Kc sa b aC ph L xs G A n0 u0 ads0 p l e R s m args below meth c mi k res Q) (B : Bn sa b aC ph L xs G A n0 u0 ads0 s mi lv st S ads ws H locs ls vs) (hd : decode (mby mi) pc = .ok (.iastore, 1)) (hn : pcn mi (i + 1) = pc + 1) (h : (p1 0 st fun v s => p1 0 s fun j s => pr s fun g r s => ck (Nat.beq g x && Nat.beq (akd x) 0) (nz r (ib j (aln x r S) (lt_ (up S x r j v) fun S => k (i + 1) lv s S)))) = some res) : W p l e R s m args below meth c H locs (S 2 0 0 - n0).toNat (S 3 0 0 - u0).toNat Q (F0 m pc ls vs) := by
  obtain ⟨v, s0, rfl, hh⟩ := p1_sp h
  obtain ⟨jj, s00, rfl, hh1⟩ := p1_sp hh
  obtain ⟨g, r, s1, rfl, h0, h1⟩ := pr_sp hh1
  obtain ⟨hk, h2⟩ := ck_sp h1
  obtain ⟨hk1, hk2⟩ := Bool.and_eq_true_iff.mp hk
  have hk1 := Nat.eq_of_beq_eq_true hk1
  subst hk1
  have hk2 := Nat.eq_of_beq_eq_true hk2
  obtain ⟨hr, h3⟩ := nz_sp h2
  obtain ⟨hib, h4⟩ := ib_sp h3
  obtain ⟨b1, b2, b3, b4, b5, b6, b7⟩ := B
  obtain ⟨wv, vs0, rfl, wv1, w0⟩ := sr_cons b6
  obtain ⟨wi, vs1, rfl, wi1, w00⟩ := sr_cons w0
  obtain ⟨w, vs', rfl, w1, w2⟩ := sr_cons w00
  obtain ⟨z, rfl, hz⟩ := wv1
  obtain ⟨y, rfl, hy⟩ := wi1
  refine sn_ist (x := g) (r := r) (jj := jj) C K ⟨b1, b2, b3, b4, b5, w2, b7⟩ hn (by omega) hr w1 hy hib (v := v) (z := z) hz (fun q => by omega) h4 fun a j n f e1 e3 y1 kk => ?_
  subst e1
  have ht := tysA_at aC (j := 0) (by omega)
  rw [hk2] at e3 kk
  exact va_iast C.1 C.2.1 C.K b2 b3 b4 j 0 e3 ht y1 hd kk
theorem bm8 (v : Int) : -128 ≤ Int.bmod v 256 ∧ Int.bmod v 256 < 128 := by
  have h1 := @Int.le_bmod v 256 (by decide)
  have h2 := @Int.bmod_lt v 256 (by decide)
  exact ⟨by omega, by omega⟩
theorem nar_b (x : Int32) : (vp_nar .byte x).toInt = Int.bmod x.toInt 256 := by rw [vp_nar_byte]; exact (cv_i2b x).symm
theorem nar_z {x : Int32} {v : Int} (hx : v = x.toInt) (h : v = 0 ∨ v = 1) : vp_nar .boolean x = x := by
  have : x = 0 ∨ x = 1 := h.elim (fun q => Or.inl (Int32.toInt_inj.mp (by rw [← hx, q]; rfl))) (fun q => Or.inr (Int32.toInt_inj.mp (by rw [← hx, q]; rfl)))
  rcases this with e | e <;> subst e <;> rfl
theorem sn_bast {x : Nat} (C : Cx G aC p s m meth c mi) (K : Kc sa b aC ph L xs G A n0 u0 ads0 p l e R s m args below meth c mi k res Q) (B : Bn sa b aC ph L xs G A n0 u0 ads0 s mi lv st S ads ws H locs ls vs) (hd : decode (mby mi) pc = .ok (.bastore, 1)) (hn : pcn mi (i + 1) = pc + 1) (h : (p1 0 st fun v s => p1 0 s fun j s => pr s fun g r s => ck (Nat.beq g x) (nz r (ib j (aln x r S) (cond (Nat.beq (akd x) 1) (lt_ (up S x r j (Int.bmod v 256)) fun S => k (i + 1) lv s S) (ck (Nat.beq (akd x) 2) (tv v (lt_ (up S x r j v) fun S => k (i + 1) lv s S))))))) = some res) : W p l e R s m args below meth c H locs (S 2 0 0 - n0).toNat (S 3 0 0 - u0).toNat Q (F0 m pc ls vs) := by
  obtain ⟨v, s0, rfl, hh⟩ := p1_sp h
  obtain ⟨jj, s00, rfl, hh1⟩ := p1_sp hh
  obtain ⟨g, r, s1, rfl, h0, h1⟩ := pr_sp hh1
  obtain ⟨hk, h2⟩ := ck_sp h1
  have hk1 := Nat.eq_of_beq_eq_true hk
  subst hk1
  obtain ⟨hr, h3⟩ := nz_sp h2
  obtain ⟨hib, h4⟩ := ib_sp h3
  obtain ⟨b1, b2, b3, b4, b5, b6, b7⟩ := B
  obtain ⟨wv, vs0, rfl, wv1, w0⟩ := sr_cons b6
  obtain ⟨wi, vs1, rfl, wi1, w00⟩ := sr_cons w0
  obtain ⟨w, vs', rfl, w1, w2⟩ := sr_cons w00
  obtain ⟨z, rfl, hz⟩ := wv1
  have hz : v = z.toInt := hz
  obtain ⟨y, rfl, hy⟩ := wi1
  cases hk2 : Nat.beq (akd g) 1 with
  | true =>
    rw [hk2] at h4
    have hk2 := Nat.eq_of_beq_eq_true hk2
    refine sn_ist (x := g) (r := r) (jj := jj) C K ⟨b1, b2, b3, b4, b5, w2, b7⟩ hn (by omega) hr w1 hy hib (v := Int.bmod v 256) (z := vp_nar .byte z) (by rw [nar_b, hz]) (fun _ => bm8 v) h4 fun a j n f e1 e3 y1 kk => ?_
    subst e1
    have ht := tysA_at aC (j := 1) (by omega)
    rw [hk2] at e3 kk
    exact va_bast C.1 C.2.1 C.K b2 b3 b4 j 1 e3 ht y1 hd kk
  | false =>
    rw [hk2] at h4
    obtain ⟨hk3, h5⟩ := ck_sp h4
    have hk3 := Nat.eq_of_beq_eq_true hk3
    obtain ⟨hb, h6⟩ := tv_sp h5
    have en := nar_z hz hb
    refine sn_ist (x := g) (r := r) (jj := jj) C K ⟨b1, b2, b3, b4, b5, w2, b7⟩ hn (by omega) hr w1 hy hib (v := v) (z := vp_nar .boolean z) (by rw [en]; exact hz) (fun q => by omega) h6 fun a j n f e1 e3 y1 kk => ?_
    subst e1
    have ht := tysA_at aC (j := 2) (by omega)
    rw [hk3] at e3 kk
    exact va_zast C.1 C.2.1 C.K b2 b3 b4 j 2 e3 ht y1 hd kk
theorem sn_last {x : Nat} (C : Cx G aC p s m meth c mi) (K : Kc sa b aC ph L xs G A n0 u0 ads0 p l e R s m args below meth c mi k res Q) (B : Bn sa b aC ph L xs G A n0 u0 ads0 s mi lv st S ads ws H locs ls vs) (hd : decode (mby mi) pc = .ok (.lastore, 1)) (hn : pcn mi (i + 1) = pc + 1) (h : (p1 1 st fun v s => p1 0 s fun j s => pr s fun g r s => ck (Nat.beq g x && Nat.beq (akd x) 3) (nz r (ib j (aln x r S) (lt_ (up S x r j v) fun S => k (i + 1) lv s S)))) = some res) : W p l e R s m args below meth c H locs (S 2 0 0 - n0).toNat (S 3 0 0 - u0).toNat Q (F0 m pc ls vs) := by
  obtain ⟨v, s0, rfl, hh⟩ := p1_sp h
  obtain ⟨jj, s00, rfl, hh1⟩ := p1_sp hh
  obtain ⟨g, r, s1, rfl, h0, h1⟩ := pr_sp hh1
  obtain ⟨hk, h2⟩ := ck_sp h1
  obtain ⟨hk1, hk2⟩ := Bool.and_eq_true_iff.mp hk
  have hk1 := Nat.eq_of_beq_eq_true hk1
  subst hk1
  have hk2 := Nat.eq_of_beq_eq_true hk2
  obtain ⟨hr, h3⟩ := nz_sp h2
  obtain ⟨hib, h4⟩ := ib_sp h3
  obtain ⟨b1, b2, b3, b4, b5, b6, b7, b8, b9⟩ := B
  obtain ⟨wv, vs0, rfl, wv1, w0⟩ := sr_cons b6
  obtain ⟨wi, vs1, rfl, wi1, w00⟩ := sr_cons w0
  obtain ⟨w, vs', rfl, w1, w2⟩ := sr_cons w00
  obtain ⟨z, rfl, hz⟩ := wv1
  have hz : v = z.toInt := hz
  obtain ⟨y, rfl, hy⟩ := wi1
  have hy : jj = y.toInt := hy
  obtain ⟨j, a, n, cc, e0, rfl, e2, e3, e4, e5, e6, e7⟩ := b1.arr w1 (by simp only; omega) hr
  have e0 : r = (j : Int) + 1 := e0
  have e4 : aln g r S = (n : Int) := e4
  rw [e4] at hib
  obtain ⟨y1, y2⟩ := ix_in hy hib.1 hib.2
  obtain ⟨f, rfl, f2⟩ := e7.2.2.2.2.2.2.2.2.1 (by simp only; omega)
  have hx := akd_rng (g := g) (by omega)
  subst e0
  have hat : atx g = 3 := by rw [atx_p (by omega)]; exact hk2
  have ht := tysA_at aC (j := 3) (by omega)
  rw [hat] at e3
  refine va_last C.1 C.2.1 C.K b2 b3 b4 j 3 e3 ht y1 hd fun H1 locs1 p1 p2 p3 => ?_
  have q1 : up S g ((j : Int) + 1) jj v 2 0 0 = S 2 0 0 := up_f (by omega)
  have q2 : up S g ((j : Int) + 1) jj v 3 0 0 = S 3 0 0 := up_f (by omega)
  have hR : Rl sa b aC ph L xs ads (ws.set j (a, .inl (aC 3, n, .inr (.inl (vp_updL f y.toNatClampNeg z))))) (up S g ((j : Int) + 1) jj v) := by
    refine b1.ast e2 e3 ⟨hx.1, hx.2⟩ (fun g' r' i' hne => if_neg fun q => hne ⟨q.1, q.2.1⟩) fun e7 => ?_
    obtain ⟨a1, a2, a3, a4, a5, a6, a7, a8, a9, a10, a11⟩ := e7
    refine ⟨a1, a2, a3, a4, by rw [up_f (by omega)]; exact a5, a6, a7, fun q => absurd (show akd g < 3 from q) (by omega), fun _ => ⟨_, rfl, fun i' hi' => ?_⟩, fun q => absurd (show akd g = 4 from q) (by omega), fun q => absurd (show akd g = 1 from q) (by omega)⟩
    unfold vp_updL
    by_cases hii : i' = y.toNatClampNeg
    · rw [if_pos hii, hii, y2, Int.toNat_of_nonneg hib.1, up_at]; exact hz
    · rw [if_neg hii, up_i (by rw [y2] at hii; omega)]; exact f2 i' hi'
  have := K (i + 1) lv s1 _ ads _ H1 locs1 ls vs' h4 ⟨hR, p1, p2, p3, b5, w2, by rw [q1]; exact b7, by rw [q2]; exact b8, b9⟩
  rw [q1, q2, hn] at this
  exact this
theorem sn_aast {x : Nat} (C : Cx G aC p s m meth c mi) (K : Kc sa b aC ph L xs G A n0 u0 ads0 p l e R s m args below meth c mi k res Q) (B : Bn sa b aC ph L xs G A n0 u0 ads0 s mi lv st S ads ws H locs ls vs) (hd : decode (mby mi) pc = .ok (.aastore, 1)) (hn : pcn mi (i + 1) = pc + 1) (h : (pr st fun h v s => p1 0 s fun j s => pr s fun g r s => ck (Nat.beq g x && (Nat.beq (akd x) 4 && sb (ael x) h)) (nz r (ib j (aln x r S) (lt_ (up S x r j v) fun S => k (i + 1) lv s S)))) = some res) : W p l e R s m args below meth c H locs (S 2 0 0 - n0).toNat (S 3 0 0 - u0).toNat Q (F0 m pc ls vs) := by
  obtain ⟨gv, v, s0, rfl, h00, hh⟩ := pr_sp h
  obtain ⟨jj, s00, rfl, hh1⟩ := p1_sp hh
  obtain ⟨g, r, s1, rfl, h0, h1⟩ := pr_sp hh1
  obtain ⟨hk, h2⟩ := ck_sp h1
  obtain ⟨hk1, hk2⟩ := Bool.and_eq_true_iff.mp hk
  obtain ⟨hk2, hk3⟩ := Bool.and_eq_true_iff.mp hk2
  have hk1 := Nat.eq_of_beq_eq_true hk1
  subst hk1
  have hk2 := Nat.eq_of_beq_eq_true hk2
  obtain ⟨hr, h3⟩ := nz_sp h2
  obtain ⟨hib, h4⟩ := ib_sp h3
  obtain ⟨b1, b2, b3, b4, b5, b6, b7, b8, b9⟩ := B
  obtain ⟨wv, vs0, rfl, wv1, w0⟩ := sr_cons b6
  obtain ⟨wi, vs1, rfl, wi1, w00⟩ := sr_cons w0
  obtain ⟨w, vs', rfl, w1, w2⟩ := sr_cons w00
  obtain ⟨y, rfl, hy⟩ := wi1
  have hy : jj = y.toInt := hy
  obtain ⟨j, a, n, cc, e0, rfl, e2, e3, e4, e5, e6, e7⟩ := b1.arr w1 (by simp only; omega) hr
  have e0 : r = (j : Int) + 1 := e0
  have e4 : aln g r S = (n : Int) := e4
  rw [e4] at hib
  obtain ⟨y1, y2⟩ := ix_in hy hib.1 hib.2
  obtain ⟨f, rfl, f2⟩ := e7.2.2.2.2.2.2.2.2.2.1 (by simp only; omega)
  have hx := akd_rng (g := g) (by omega)
  subst e0
  have hq := at_q g (by omega) hk2
  have ht := tysA_at aC e6
  rw [hq.2.2.1] at ht
  have wv2 : vr sa b ads (ael g) v wv := vr_sb b1.kok wv1 hk3
  have q1 : up S g ((j : Int) + 1) jj v 2 0 0 = S 2 0 0 := up_f (by omega)
  have q2 : up S g ((j : Int) + 1) jj v 3 0 0 = S 3 0 0 := up_f (by omega)
  have kk : ∀ (rv : Option Nat), wv = va_rf rv → ∀ (H1 : Heap) (locs1 : List Loc), va_P G clK (ws.set j (a, .inl (aC (atx g), n, .inr (.inr (.inr (.inr (va_up f y.toNatClampNeg rv))))))) H1 → va_D A (ws.set j (a, .inl (aC (atx g), n, .inr (.inr (.inr (.inr (va_up f y.toNatClampNeg rv))))))) → va_S A s.heap H1 locs1 → W p l e R s m args below meth c H1 locs1 (S 2 0 0 - n0).toNat (S 3 0 0 - u0).toNat Q (F0 m (pc + 1) ls vs') := by
    intro rv hrv H1 locs1 p1 p2 p3
    have hR : Rl sa b aC ph L xs ads (ws.set j (a, .inl (aC (atx g), n, .inr (.inr (.inr (.inr (va_up f y.toNatClampNeg rv))))))) (up S g ((j : Int) + 1) jj v) := by
      refine b1.ast e2 e3 ⟨hx.1, hx.2⟩ (fun g' r' i' hne => if_neg fun q => hne ⟨q.1, q.2.1⟩) fun e7 => ?_
      obtain ⟨a1, a2, a3, a4, a5, a6, a7, a8, a9, a10, a11⟩ := e7
      refine ⟨a1, a2, a3, a4, by rw [up_f (by omega)]; exact a5, a6, a7, fun q => absurd (show akd g < 3 from q) (by omega), fun q => absurd (show akd g = 3 from q) (by omega), fun _ => ⟨_, rfl, fun i' hi' => ?_⟩, fun q => absurd (show akd g = 1 from q) (by omega)⟩
      unfold va_up
      by_cases hii : i' = y.toNatClampNeg
      · rw [if_pos hii, hii, y2, Int.toNat_of_nonneg hib.1, up_at, ← hrv]; exact wv2
      · rw [if_neg hii, up_i (by rw [y2] at hii; omega)]; exact f2 i' hi'
    have := K (i + 1) lv s1 _ ads _ H1 locs1 ls vs' h4 ⟨hR, p1, p2, p3, b5, w2, by rw [q1]; exact b7, by rw [q2]; exact b8, b9⟩
    rw [q1, q2, hn] at this
    exact this
  by_cases hv0 : v = 0
  · rcases (vr_ref (by omega)).mp wv2 with ⟨-, hwv⟩ | ⟨j1, a1, k1, c1, -⟩
    · subst hwv
      exact va_astqN C.1 C.2.1 C.K b2 b3 b4 j (atx g) e3 ht y1 hd (kk none rfl)
    · omega
  · obtain ⟨j1, a1, k1, en, d0, rfl, d2, d3, d4, d5, d6⟩ := b1.obj wv2 (by omega) hv0
    have hkd := kind_obj (b1.kok j1 a1 k1 d2) hq.2.2.2.2.1 d3
    cases en with
    | inl q => exact absurd d6.1 (by have := kl_lt k1 hkd; omega)
    | inr q =>
      obtain ⟨ci, fs⟩ := q
      have f2 : ci = kix k1 := d6.2.1
      subst f2
      rcases hq.2.2.2.2.2 k1 hkd d3 with hc | hc
      · subst hc
        exact va_astq C.1 C.2.1 C.K b2 b3 b4 j (atx g) j1 (kix (ael g)) (r := (cn (ael g), fT (ael g), fN (ael g))) e3 ht d4 (clK_at hkd) y1 hd (kk (some a1) rfl)
      · exact va_astqO C.1 C.2.1 C.K b2 b3 b4 j (atx g) j1 (kix k1) (r := (cn k1, fT k1, fN k1)) e3 ht (C.ws.2.2.2.1 (k1, ael g) hc) d4 (clK_at hkd) y1 hd (kk (some a1) rfl)
end Ins
