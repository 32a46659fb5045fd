/-! SOUNDNESS, 16: String constants and arraycopy, instruction by instruction -/
set_option maxRecDepth 100000
section Ins
variable {sa : Nat → Nat} {b : Nat} {aC : Nat → ClassId} {ph : Bool} {L : Nat} {xs : Nat → Int32} {G : va_G} {A : Nat → Prop} {n0 u0 : Int} {ads0 : List (Nat × Nat)}
variable {p : Program} {l : Launch} {e : Env} {R : Room} {s : State} {m : MethodId} {args : Array Value} {below : List Frame} {meth : Method} {c : Code} {mi : Nat}
variable {k : Nat → Lv → List Wd → St → Rs} {res : (Int ⊕ Int) × St} {Q : State → Prop} {i : Nat} {lv : Lv} {st : List Wd} {S : St} {ads : List (Nat × Nat)} {ws : va_W} {H : Heap} {locs : List Loc} {ls : Array Slot} {vs : List Value} {pc : Nat}

variable {sv : Nat → Nat}
theorem ldcw_str {T : State} {cells slots : Nat} (X : Stand p l e R s m args below meth c T locs cells slots) (hexec : p.tables.exec = Jvm.exec) {own text : String} {index : Nat} {a : Addr} (hown : s.vm.findClass own = some m.cls)
    (hconst : (Cond.stringRef own index text).before args s = true) (hev : (Term.string own index).eval args s none [] s = some (.ref a)) {g : JFrame} (hg : g.method = m) (hdg : decode c.code g.pc = .ok (.ldc_w index, 3)) :
    ∀ target, Steps p.tables e below (T.setTop { g with pc := g.pc + 3, stack := .ref a :: g.stack }) target → Steps p.tables e below (T.setTop g) target := by
  obtain ⟨k, cf, i, a', hk, hcf, hcp, -, hr, hev'⟩ := Cond.stringRef_spec hown hconst
  cases hev.symm.trans hev'
  obtain ⟨k', hk', he⟩ := X.warmed.alike.2.2 _ _ hk
  have hr' : k'.resolved[index]? = some (some (.string a)) := by
    rcases X.warmed.entry hk hk' index with h | ⟨h, -⟩
    · rw [h]; exact hr
    · rw [hr] at h; cases h
  intro target hrest
  subst hg
  jvm_step X.here [hexec, hdg, ldc_w.wp_string (e := e) (s := T) (f := g) X.here.top hk' (by rw [he]; exact hcf) hcp hr']
  exact hrest
theorem va_ldcwS {cells slots : Nat} {rest : List Value} (hexec : p.tables.exec = Jvm.exec) {cc : ByteArray} (hb : c.code = cc) {own tx : String} {index q : Nat} (hown : s.vm.findClass own = some m.cls) (hZ : vk_R own index tx q s) (hdg : decode cc pc = .ok (.ldc_w index, 3))
    (k : W p l e R s m args below meth c H locs cells slots Q (F0 m (pc + 3) ls (.ref q :: rest))) : W p l e R s m args below meth c H locs cells slots Q (F0 m pc ls rest) := by
  intro T hT X
  obtain ⟨t, a1, b1⟩ := k T hT X
  exact ⟨t, ldcw_str X hexec hown (text := tx) (a := q) hZ.1 hZ.2 (g := F0 m pc ls rest) rfl (by rw [hb]; exact hdg) t a1, b1⟩
theorem sn_ldcS {n z : Nat} (C : Cx G aC p s m meth c mi) (K : Kc sa b aC ph L xs G A n0 u0 ads0 p l e R s m args below meth c mi k res Q) (B : Bn sa b aC ph L xs G A n0 u0 ads0 s mi lv st S ads ws H locs ls vs) (hE : Exa sa sv A s) (hd : decode (mby mi) pc = .ok (.ldc n, 2)) (hn : pcn mi (i + 1) = pc + 2) (hm : (own mi, n, z) ∈ srk) (hz : z < 50) (h : k (i + 1) lv ((3, (z : Int)) :: st) S = some res) : W p l e R s m args below meth c H locs (S 2 0 0 - n0).toNat (S 3 0 0 - u0).toNat Q (F0 m pc ls vs) :=
  sn_push (t := 3) (z := (z : Int)) C K B hn (v := .ref (sa z)) ⟨by rw [Int.toNat_natCast], Int.natCast_nonneg _, by omega⟩ h fun W1 => va_ldcS C.1 C.2.1 C.own (hE.2.2.1 (own mi, n, z) hm) hd W1
theorem sn_ldcwS {n z : Nat} (C : Cx G aC p s m meth c mi) (K : Kc sa b aC ph L xs G A n0 u0 ads0 p l e R s m args below meth c mi k res Q) (B : Bn sa b aC ph L xs G A n0 u0 ads0 s mi lv st S ads ws H locs ls vs) (hE : Exa sa sv A s) (hd : decode (mby mi) pc = .ok (.ldc_w n, 3)) (hn : pcn mi (i + 1) = pc + 3) (hm : (own mi, n, z) ∈ srk) (hz : z < 50) (h : k (i + 1) lv ((3, (z : Int)) :: st) S = some res) : W p l e R s m args below meth c H locs (S 2 0 0 - n0).toNat (S 3 0 0 - u0).toNat Q (F0 m pc ls vs) :=
  sn_push (t := 3) (z := (z : Int)) C K B hn (v := .ref (sa z)) ⟨by rw [Int.toNat_natCast], Int.natCast_nonneg _, by omega⟩ h fun W1 => va_ldcwS C.1 C.2.1 C.own (hE.2.2.1 (own mi, n, z) hm) hd W1
theorem txn_l {r : Nat} {l : List Int} (h : txn r = some l) : l = txl r := by unfold txl; rw [h]
set_option maxHeartbeats 1000000 in
theorem sn_slen {idx : Nat} (C : Cx G aC p s m meth c mi) (K : Kc sa b aC ph L xs G A n0 u0 ads0 p l e R s m args below meth c mi k res Q) (B : Bn sa b aC ph L xs G A n0 u0 ads0 s mi lv st S ads ws H locs ls vs) (hE : Exa sa sv A s) (hd : decode (mby mi) pc = .ok (.invokevirtual idx, 3)) (hn : pcn mi (i + 1) = pc + 3) (hmono : ∀ i lv st S1, k i lv st S1 = some res → S1 2 0 0 ≤ res.2 2 0 0 ∧ S1 3 0 0 ≤ res.2 3 0 0) (hRc : (res.2 2 0 0 - n0).toNat ≤ R.cells) (hRs : (res.2 3 0 0 - u0).toNat ≤ R.slots) {d : Nat} (hR : RoomOk (d + 1) R) (hl : (own mi, idx) ∈ jlk)
    (h : (p1 3 st fun r s => ck (Nat.ble s.length 12) (cko (txn r.toNat) fun l => k (i + 1) lv ((0, (l.length : Int)) :: s) S)) = some res) : W p l e R s m args below meth c H locs (S 2 0 0 - n0).toNat (S 3 0 0 - u0).toNat Q (F0 m pc ls vs) := by
  obtain ⟨r, s1, rfl, h1⟩ := p1_sp h
  obtain ⟨h2, h3⟩ := ck_sp h1
  obtain ⟨tx, h4, h5⟩ := cko_sp h3
  have e4 := txn_l h4
  subst e4
  obtain ⟨b1, b2, b3, b4, ⟨ms, m1, m2⟩, b6, b7, b8, b9⟩ := B
  obtain ⟨w, vs', rfl, w1, w2⟩ := sr_cons b6
  obtain ⟨rfl, r0, r1⟩ : w = .ref (sa r.toNat) ∧ 0 ≤ r ∧ r < 50 := w1
  have hi : r.toNat < 50 := by omega
  have hL := (tx_all r.toNat hi).1
  have hsum := sr_sum w2
  have hlen : s1.length ≤ 12 := Nat.ble_eq.mp h2
  obtain ⟨k1, k2⟩ := hmono _ _ _ _ h5
  obtain ⟨r1', r2'⟩ := hR
  obtain ⟨mk, methk, ck, hf'⟩ := jf_of C.ws jc_L
  have kk := K (i + 1) lv ((0, ((txl r.toNat).length : Int)) :: s1) S ads ws H locs ls (.int (Int32.ofNat (txl r.toNat).length) :: vs') h5 ⟨b1, b2, b3, b4, ⟨ms, m1, m2⟩, ⟨⟨_, rfl, (nI_i (by omega)).symm⟩, w2⟩, b7, b8, b9⟩
  rw [hn] at kk
  exact pj_call (exa_m sa sv A) C.1 C.ws hE b4 (pj_L hi) hf' (by decide +kernel) (by decide) (by rw [C.2.1]; exact hd) (m2.1.trans C.2.2.2.1.symm) (by omega) (by omega) (by omega) (by omega) (by omega)
    (fun T hT X => lk_jv (va := []) (rest := vs') C.1 C.ws C.own X hf' (jlk_ok _ hl) ji_L js_L (by decide) dj_L (by rw [hT]; exact hE.2.rcv hi b4) (by rw [C.2.1]; exact hd)) kk
set_option maxHeartbeats 1000000 in
theorem sn_sch {idx : Nat} (C : Cx G aC p s m meth c mi) (K : Kc sa b aC ph L xs G A n0 u0 ads0 p l e R s m args below meth c mi k res Q) (B : Bn sa b aC ph L xs G A n0 u0 ads0 s mi lv st S ads ws H locs ls vs) (hE : Exa sa sv A s) (hd : decode (mby mi) pc = .ok (.invokevirtual idx, 3)) (hn : pcn mi (i + 1) = pc + 3) (hmono : ∀ i lv st S1, k i lv st S1 = some res → S1 2 0 0 ≤ res.2 2 0 0 ∧ S1 3 0 0 ≤ res.2 3 0 0) (hRc : (res.2 2 0 0 - n0).toNat ≤ R.cells) (hRs : (res.2 3 0 0 - u0).toNat ≤ R.slots) {d : Nat} (hR : RoomOk (d + 1) R) (hl : (own mi, idx) ∈ jak)
    (h : (p1 0 st fun j s => p1 3 s fun r s => ck (Nat.ble s.length 12) (cko (txn r.toNat) fun l => ib j (l.length : Int) (k (i + 1) lv ((0, l.getD j.toNat 0) :: s) S))) = some res) : W p l e R s m args below meth c H locs (S 2 0 0 - n0).toNat (S 3 0 0 - u0).toNat Q (F0 m pc ls vs) := by
  obtain ⟨j, s0, rfl, h0⟩ := p1_sp h
  obtain ⟨r, s1, rfl, h1⟩ := p1_sp h0
  obtain ⟨h2, h3⟩ := ck_sp h1
  obtain ⟨tx, h4, h5⟩ := cko_sp h3
  obtain ⟨⟨j0, j1⟩, h6⟩ := ib_sp h5
  have e4 := txn_l h4
  subst e4
  obtain ⟨b1, b2, b3, b4, ⟨ms, m1, m2⟩, b6, b7, b8, b9⟩ := B
  obtain ⟨wj, vs0, rfl, wj1, w0⟩ := sr_cons b6
  obtain ⟨w, vs', rfl, w1, w2⟩ := sr_cons w0
  obtain ⟨y, rfl, hy⟩ := wj1
  have hy : j = y.toInt := hy
  obtain ⟨rfl, r0, r1⟩ : w = .ref (sa r.toNat) ∧ 0 ≤ r ∧ r < 50 := w1
  have hi : r.toNat < 50 := by omega
  have hL := (tx_all r.toNat hi).1
  have hj : j.toNat < (txl r.toNat).length := by omega
  have ey : y = Int32.ofNat j.toNat := Int32.toInt_inj.mp (by rw [nI_i (by omega), ← hy]; omega)
  obtain ⟨t1, t2, t3⟩ := tx_at hi hj
  have hsum := sr_sum w2
  have hlen : s1.length ≤ 12 := Nat.ble_eq.mp h2
  obtain ⟨k1, k2⟩ := hmono _ _ _ _ h6
  obtain ⟨r1', r2'⟩ := hR
  obtain ⟨mk, methk, ck, hf'⟩ := jf_of C.ws jc_A
  have kk := K (i + 1) lv ((0, (txl r.toNat).getD j.toNat 0) :: s1) S ads ws H locs ls (.int (Int32.ofInt ((txl r.toNat).getD j.toNat 0)) :: vs') h6 ⟨b1, b2, b3, b4, ⟨ms, m1, m2⟩, ⟨⟨_, rfl, t3.symm⟩, w2⟩, b7, b8, b9⟩
  rw [hn] at kk
  rw [ey]
  exact pj_call (exa_m sa sv A) C.1 C.ws hE b4 (pj_A hi hj) hf' (by decide +kernel) (by decide) (by rw [C.2.1]; exact hd) (m2.1.trans C.2.2.2.1.symm) (by omega) (by omega) (by omega) (by omega) (by omega)
    (fun T hT X => lk_jv (va := [.int (Int32.ofNat j.toNat)]) (rest := vs') C.1 C.ws C.own X hf' (jak_ok _ hl) ji_A js_A (by decide) dj_A (by rw [hT]; exact hE.2.rcv hi b4) (by rw [C.2.1]; exact hd)) kk
theorem cp_f {S : St} {c0 : Nat} {r sp : Int} {e0 : Nat} {d dp n : Int} {g : Nat} {a i : Int} (h : ¬ (g = e0 ∧ a = d)) : cp S c0 r sp e0 d dp n g a i = S g a i := if_neg fun q => h ⟨q.1, q.2.1⟩
theorem cp_in {S : St} {c0 : Nat} {r sp : Int} {e0 : Nat} {d dp n : Int} {i : Int} (h : dp ≤ i ∧ i < dp + n) : cp S c0 r sp e0 d dp n e0 d i = S c0 r (sp + (i - dp)) := if_pos ⟨rfl, rfl, h.1, h.2⟩
theorem cp_out {S : St} {c0 : Nat} {r sp : Int} {e0 : Nat} {d dp n : Int} {i : Int} (h : ¬ (dp ≤ i ∧ i < dp + n)) : cp S c0 r sp e0 d dp n e0 d i = S e0 d i := if_neg fun q => h ⟨q.2.2.1, q.2.2.2⟩
theorem i32_nn {y : Int32} {v : Int} (h : v = y.toInt) (h0 : 0 ≤ v) : ¬ y < 0 ∧ (y.toNatClampNeg : Int) = v := by
  refine ⟨fun q => ?_, ?_⟩
  · have := i32_lt.mp q
    rw [i32_0] at this
    omega
  · show ((y.toInt.toNat : Nat) : Int) = v
    omega
theorem fit8 {y : Int32} (h : -128 ≤ y.toInt ∧ y.toInt < 128) : fits .byte (.int y) = true := by
  have h1 : (-128 : Int32) ≤ y := Int32.le_iff_toInt_le.mpr (by rw [show (-128 : Int32).toInt = -128 by decide]; exact h.1)
  have h2 : y ≤ (127 : Int32) := Int32.le_iff_toInt_le.mpr (by rw [show (127 : Int32).toInt = 127 by decide]; omega)
  simp [fits, h1, h2]
set_option maxHeartbeats 2000000 in
theorem sn_copy {idx x : Nat} (C : Cx G aC p s m meth c mi) (K : Kc sa b aC ph L xs G A n0 u0 ads0 p l e R s m args below meth c mi k res Q) (B : Bn sa b aC ph L xs G A n0 u0 ads0 s mi lv st S ads ws H locs ls vs) (hd : decode (mby mi) pc = .ok (.invokestatic idx, 3)) (hn : pcn mi (i + 1) = pc + 3) {d' : Nat} (hR : RoomOk (d' + 1) R) (hl : (own mi, idx) ∈ ylk) (hso : akd x = 4 → ∀ kd ∈ kl, sb (ael x) kd = true → kd = ael x)
    (h : (p1 0 st fun n s => p1 0 s fun dp s => pr s fun h d s => p1 0 s fun sp s => pr s fun g r s => ck (Nat.ble s.length 12 && (Nat.beq h x && (Nat.beq (akd g) (akd x) && (Nat.beq (akd x) 1 || (Nat.beq (akd x) 4 && Nat.beq g x))))) (nz d (nz r (if 0 ≤ n ∧ 0 ≤ sp ∧ sp + n ≤ aln g r S ∧ 0 ≤ dp ∧ dp + n ≤ aln x d S then lt_ (cp S g r sp x d dp n) fun S => k (i + 1) lv s S else none)))) = some res) : W p l e R s m args below meth c H locs (S 2 0 0 - n0).toNat (S 3 0 0 - u0).toNat Q (F0 m pc ls vs) := by
  obtain ⟨n, s0, rfl, h1⟩ := p1_sp h
  obtain ⟨dp, s2, rfl, h2⟩ := p1_sp h1
  obtain ⟨hh, d, s3, rfl, hh2, h3⟩ := pr_sp h2
  obtain ⟨sp, s4, rfl, h4⟩ := p1_sp h3
  obtain ⟨g, r, s5, rfl, hg2, h5⟩ := pr_sp h4
  obtain ⟨hc, h6⟩ := ck_sp h5
  obtain ⟨hd0, h7⟩ := nz_sp h6
  obtain ⟨hr0, h8⟩ := nz_sp h7
  simp only [Bool.and_eq_true] at hc
  obtain ⟨hc1, hc2, hc3, hc4⟩ := hc
  have hc1 : s5.length ≤ 12 := Nat.ble_eq.mp hc1
  have hc2 := Nat.eq_of_beq_eq_true hc2
  subst hc2
  have hc3 := Nat.eq_of_beq_eq_true hc3
  by_cases hcn : 0 ≤ n ∧ 0 ≤ sp ∧ sp + n ≤ aln g r S ∧ 0 ≤ dp ∧ dp + n ≤ aln hh d S
  · rw [if_pos hcn] at h8
    obtain ⟨q1, q2, q3, q4, q5⟩ := hcn
    obtain ⟨b1, b2, b3, b4, ⟨ms, m1, m2⟩, b6, b7, b8, b9⟩ := B
    obtain ⟨wn, v0, rfl, wn1, w0⟩ := sr_cons b6
    obtain ⟨wdp, v1, rfl, wdp1, w1⟩ := sr_cons w0
    obtain ⟨wd, v2, rfl, wd1, w2⟩ := sr_cons w1
    obtain ⟨wsp, v3, rfl, wsp1, w3⟩ := sr_cons w2
    obtain ⟨wr, vs', rfl, wr1, w4⟩ := sr_cons w3
    obtain ⟨yn, rfl, hyn⟩ := wn1
    obtain ⟨ydp, rfl, hydp⟩ := wdp1
    obtain ⟨ysp, rfl, hysp⟩ := wsp1
    have hk5 : akd hh < 5 := by
      rcases Bool.or_eq_true_iff.mp hc4 with q | q
      · rw [Nat.eq_of_beq_eq_true q]; decide
      · rw [Nat.eq_of_beq_eq_true (Bool.and_eq_true_iff.mp q).1]; decide
    obtain ⟨jd, ad, nd, cd, d0, rfl, d2, d3, d4, d5, d6, d7⟩ := b1.arr wd1 hk5 hd0
    obtain ⟨jr, ar, nr, cr, r0, rfl, r2, r3, r4, r5, r6, r7⟩ := b1.arr wr1 (by simp only; rw [hc3]; exact hk5) hr0
    have d0 : d = (jd : Int) + 1 := d0
    have r0 : r = (jr : Int) + 1 := r0
    have r4 : aln g r S = (nr : Int) := r4
    have d4 : aln hh d S = (nd : Int) := d4
    rw [r4] at q3
    rw [d4] at q5
    subst d0
    subst r0
    obtain ⟨n1, n2⟩ := i32_nn hyn q1
    obtain ⟨p1, p2⟩ := i32_nn hydp q4
    obtain ⟨t1, t2⟩ := i32_nn hysp q2
    have hx := akd_rng (g := hh) hk5
    have hsum := sr_sum w4
    obtain ⟨r1', r2'⟩ := hR
    have e1 : cp S g ((jr : Int) + 1) sp hh ((jd : Int) + 1) dp n 2 0 0 = S 2 0 0 := cp_f (by omega)
    have e2 : cp S g ((jr : Int) + 1) sp hh ((jd : Int) + 1) dp n 3 0 0 = S 3 0 0 := cp_f (by omega)
    have el : ∀ a, cp S g ((jr : Int) + 1) sp hh ((jd : Int) + 1) dp n 1 a 0 = S 1 a 0 := fun a => cp_f (by omega)
    have hloc : (vs'.map fun v => v.category).sum + (nativeFrameWords "java/lang/System" "arraycopy" 5 + 11) ≤ R.locals := by
      have : nativeFrameWords "java/lang/System" "arraycopy" 5 = 7 := by decide
      rw [this]; omega
    have nat : ∀ a c : Nat, (a : Int) < c → a < c := fun a c h => by omega
    rcases Bool.or_eq_true_iff.mp hc4 with q | q
    · have hk1 : akd hh = 1 := Nat.eq_of_beq_eq_true q
      have hkg : akd g = 1 := hc3.trans hk1
      obtain ⟨f, rfl, f2⟩ := r7.2.2.2.2.2.2.2.1 (show akd g < 3 by omega)
      obtain ⟨f', rfl, f2'⟩ := d7.2.2.2.2.2.2.2.1 (show akd hh < 3 by omega)
      have fr := r7.2.2.2.2.2.2.2.2.2.2 hkg
      have had : atx hh = 1 := by rw [atx_p (by omega)]; exact hk1
      have har : atx g = 1 := by rw [atx_p (by omega)]; exact hkg
      rw [had] at d3
      rw [har] at r3
      refine va_copyi C.1 C.2.1 (C.2.2.2.1.trans m2.1.symm) C.own (C.ws.w (ylk_ok _ hl) args) (C.ws.w ynt args) (C.ws.w yst args) (C.ws.w yin args) C.K b2 b3 b4 jr jd 1 1 r3 d3 (tysA_at aC (by omega)) (tysA_at aC (by omega)) rfl t1 p1 n1 (by omega) (by omega) (fun i' hi' => ?_) (by omega) hloc hd fun H1 locs1 g1 g2 g3 => ?_
      · have hb := fr (ysp.toNatClampNeg + i') (show ysp.toNatClampNeg + i' < nr by omega)
        rw [f2 (ysp.toNatClampNeg + i') (show ysp.toNatClampNeg + i' < nr by omega)] at hb
        exact fit8 hb
      · have hRl : Rl sa b aC ph L xs ads (ws.set jd (ad, .inl (aC 1, nd, .inl (va_cpy f f' ysp.toNatClampNeg ydp.toNatClampNeg yn.toNatClampNeg)))) (cp S g ((jr : Int) + 1) sp hh ((jd : Int) + 1) dp n) := by
          refine b1.ast d2 d3 ⟨hx.1, hx.2⟩ (fun g' r' i' hne => cp_f hne) fun e7 => ?_
          obtain ⟨a1, a2, a3, a4, a5, a6, a7, a8, a9, a10, a11⟩ := e7
          have a5 : S 1 ((jd : Int) + 1) 0 = (nd : Int) := a5
          refine ⟨a1, a2, a3, a4, by rw [el]; exact a5, a6, a7, fun _ => ⟨_, rfl, fun i' hi' => ?_⟩, fun q => absurd (show akd hh = 3 from q) (by omega), fun q => absurd (show akd hh = 4 from q) (by omega), fun hk i' hi' => ?_⟩
          · have hi' : i' < nd := hi'
            unfold va_cpy
            by_cases hii : ydp.toNatClampNeg ≤ i' ∧ i' < ydp.toNatClampNeg + yn.toNatClampNeg
            · rw [if_pos hii, cp_in (by omega)]
              rw [show sp + ((i' : Int) - dp) = ((ysp.toNatClampNeg + (i' - ydp.toNatClampNeg) : Nat) : Int) by omega]
              exact f2 _ (show ysp.toNatClampNeg + (i' - ydp.toNatClampNeg) < nr by omega)
            · rw [if_neg hii, cp_out (by omega)]
              exact f2' i' hi'
          · have hi' : i' < nd := hi'
            by_cases hii : dp ≤ (i' : Int) ∧ (i' : Int) < dp + n
            · rw [cp_in hii]
              rw [show sp + ((i' : Int) - dp) = ((ysp.toNatClampNeg + (i' - ydp.toNatClampNeg) : Nat) : Int) by omega]
              exact fr _ (show ysp.toNatClampNeg + (i' - ydp.toNatClampNeg) < nr by omega)
            · rw [cp_out hii]
              exact a11 hk i' hi'
        have := K (i + 1) lv s5 _ ads _ H1 locs1 ls vs' h8 ⟨hRl, g1, g2, g3, ⟨ms, m1, m2⟩, w4, by rw [e1]; exact b7, by rw [e2]; exact b8, b9⟩
        rw [e1, e2, hn] at this
        exact this
    · obtain ⟨hk4, hgx⟩ := Bool.and_eq_true_iff.mp q
      have hk4 := Nat.eq_of_beq_eq_true hk4
      have hgx := Nat.eq_of_beq_eq_true hgx
      subst hgx
      obtain ⟨f, rfl, f2⟩ := r7.2.2.2.2.2.2.2.2.2.1 hk4
      obtain ⟨f', rfl, f2'⟩ := d7.2.2.2.2.2.2.2.2.2.1 hk4
      have hq := at_q g (by omega) hk4
      have ht := tysA_at aC d6
      rw [hq.2.2.1] at ht
      refine va_copyq (C := cn (ael g)) C.1 C.2.1 (C.2.2.2.1.trans m2.1.symm) C.own (C.ws.w (ylk_ok _ hl) args) (C.ws.w ynt args) (C.ws.w yst args) (C.ws.w yin args) C.K b2 b3 b4 jr jd (atx g) (atx g) r3 d3 ht ht t1 p1 n1 (by omega) (by omega) (fun i' hi' y hy => ?_) (fun c1 c2 z1 z2 => by cases z1.symm.trans z2; exact va_asg _ _) (by omega) hloc hd fun H1 locs1 g1 g2 g3 => ?_
      · have hv := f2 (ysp.toNatClampNeg + i') (show ysp.toNatClampNeg + i' < nr by omega)
        rw [hy] at hv
        have hv : vr sa b ads (ael g) (S g ((jr : Int) + 1) ((ysp.toNatClampNeg + i' : Nat) : Int)) (va_rf (some y)) := hv
        rcases (vr_ref (by omega)).mp hv with ⟨-, z⟩ | ⟨j1, a1, k1, v1, v2, v3, v4⟩
        · cases z
        · cases v3
          have hkd := kind_obj (b1.kok j1 _ k1 v2) hq.2.2.2.2.1 v4
          have hk1 := hso hk4 k1 hkd v4
          obtain ⟨en, f1, -, f3⟩ := b1.2.2.1 j1 _ k1 v2
          cases en with
          | inl q => exact absurd f3.1 (by have := kl_lt k1 hkd; omega)
          | inr q =>
            obtain ⟨ci, fs⟩ := q
            have e1 : ci = kix k1 := f3.2.1
            subst e1
            obtain ⟨cell, c1, c2, c3⟩ := va_recv C.K b2 (clK_at hkd) f1
            rw [hk1] at c3
            exact ⟨cell, c1, c2, c3⟩
      · have hRl : Rl sa b aC ph L xs ads (ws.set jd (ad, .inl (aC (atx g), nd, .inr (.inr (.inr (.inr (va_cpy f f' ysp.toNatClampNeg ydp.toNatClampNeg yn.toNatClampNeg))))))) (cp S g ((jr : Int) + 1) sp g ((jd : Int) + 1) dp n) := by
          refine b1.ast d2 d3 ⟨hx.1, hx.2⟩ (fun g' r' i' hne => cp_f hne) fun e7 => ?_
          obtain ⟨a1, a2, a3, a4, a5, a6, a7, a8, a9, a10, a11⟩ := e7
          have a5 : S 1 ((jd : Int) + 1) 0 = (nd : Int) := a5
          refine ⟨a1, a2, a3, a4, by rw [el]; exact a5, a6, a7, fun q => absurd (show akd g < 3 from q) (by omega), fun q => absurd (show akd g = 3 from q) (by omega), fun _ => ⟨_, rfl, fun i' hi' => ?_⟩, fun q => absurd (show akd g = 1 from q) (by omega)⟩
          have hi' : i' < nd := hi'
          unfold va_cpy
          by_cases hii : ydp.toNatClampNeg ≤ i' ∧ i' < ydp.toNatClampNeg + yn.toNatClampNeg
          · rw [if_pos hii, cp_in (by omega)]
            rw [show sp + ((i' : Int) - dp) = ((ysp.toNatClampNeg + (i' - ydp.toNatClampNeg) : Nat) : Int) by omega]
            exact f2 _ (show ysp.toNatClampNeg + (i' - ydp.toNatClampNeg) < nr by omega)
          · rw [if_neg hii, cp_out (by omega)]
            exact f2' i' hi'
        have := K (i + 1) lv s5 _ ads _ H1 locs1 ls vs' h8 ⟨hRl, g1, g2, g3, ⟨ms, m1, m2⟩, w4, by rw [e1]; exact b7, by rw [e2]; exact b8, b9⟩
        rw [e1, e2, hn] at this
        exact this
  · rw [if_neg hcn] at h8
    cases h8
end Ins
