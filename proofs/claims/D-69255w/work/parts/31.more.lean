/-! SOUNDNESS, 8: casts, switches, returns, Object's constructor -/
theorem isk_sb : ∀ x, x < 60 → 10 ≤ x → ∀ kd ∈ kl, isk x (kd : Int) = sb x kd := by decide +kernel
theorem swc_sp {a : Int} {k : Nat → Rs} {d : Rs} {r : (Int ⊕ Int) × St} : ∀ {tg : List Nat} {lo : Int}, swc a lo tg k d = some r → (∃ j : Nat, j < tg.length ∧ a = lo + (j : Int) ∧ k (tg.getD j 0) = some r) ∨ ((a < lo ∨ lo + (tg.length : Int) ≤ a) ∧ d = some r) := by
  intro tg
  induction tg with
  | nil => intro lo h; exact Or.inr ⟨by simp only [List.length_nil]; omega, h⟩
  | cons t tg ih =>
    intro lo h
    simp only [swc] at h
    by_cases e : a = lo
    · rw [if_pos e] at h
      exact Or.inl ⟨0, by simp, by omega, h⟩
    · rw [if_neg e] at h
      rcases ih h with ⟨j, h1, h2, h3⟩ | ⟨h1, h2⟩
      · exact Or.inl ⟨j + 1, by simpa using h1, by omega, h3⟩
      · refine Or.inr ⟨?_, h2⟩
        simp only [List.length_cons]
        omega
theorem W.mono {p : Program} {l : Launch} {e : Env} {R : Room} {s : State} {m : MethodId} {args : Array Value} {below : List Frame} {meth : Method} {c : Code} {H : Heap} {locs : List Loc} {cells slots : Nat} {Q Q' : State → Prop} {g : JFrame} (hq : ∀ t, Q t → Q' t) (h : W p l e R s m args below meth c H locs cells slots Q g) : W p l e R s m args below meth c H locs cells slots Q' g := by
  intro T hT X
  obtain ⟨t, a1, a2⟩ := h T hT X
  exact ⟨t, a1, hq t a2⟩
/-- the end of an activation, whether it returns or throws -/
def MF (below : List Frame) (Qc : Array Value → State → Outcome → State → Prop) (a : Array Value) (s : State) (mc ms : Nat) (free : Addr → Prop) : State → Prop := fun t =>
  ∃ o, t.status = .running ∧ Ended t below o ∧ Qc a s o t ∧ ∃ L, s.WarmedH t.vm ∧ s.sameButNew ({ t with vm := s.vm } : State) L mc ms ∧ ∀ q ∈ L, free q.base
theorem mf_mq {below : List Frame} {Qc : Array Value → State → Outcome → State → Prop} {a : Array Value} {s : State} {mc ms : Nat} {free : Addr → Prop} {t : State} (h : MQ below Qc a s mc ms free t) : MF below Qc a s mc ms free t := by
  obtain ⟨o, h1, h2, h3, L, ⟨-, h4, h5⟩, h6⟩ := h
  exact ⟨o, h1, h2, h3, L, h4, h5, h6⟩
section Ins
variable {sa : Nat → Nat} {b : Nat} {aC : Nat → ClassId} {ph : Bool} {L : Nat} {xs : Nat → Int32} {G : va_G} {A : Nat → Prop} {n0 u0 : Int} {ads0 : List (Nat × Nat)}
variable {p : Program} {l : Launch} {e : Env} {R : Room} {s : State} {m : MethodId} {args : Array Value} {below : List Frame} {meth : Method} {c : Code} {mi : Nat}
variable {k : Nat → Lv → List Wd → St → Rs} {res : (Int ⊕ Int) × St} {Q : State → Prop} {i : Nat} {lv : Lv} {st : List Wd} {S : St} {ads : List (Nat × Nat)} {ws : va_W} {H : Heap} {locs : List Loc} {ls : Array Slot} {vs : List Value} {pc : Nat}

theorem sn_cast {n x : Nat} (C : Cx G aC p s m meth c mi) (K : Kc sa b aC ph L xs G A n0 u0 ads0 p l e R s m args below meth c mi k res Q) (B : Bn sa b aC ph L xs G A n0 u0 ads0 s mi lv st S ads ws H locs ls vs) (hd : decode (mby mi) pc = .ok (.checkcast n, 3)) (hn : pcn mi (i + 1) = pc + 3) (hm : (own mi, n, x) ∈ clk) (hx : x < 60) (hx10 : 10 ≤ x) (hc : ∀ kd ∈ kl, sb x kd = true → kd = x ∨ (kd, x) ∈ ctk)
    (h : (pr st fun g r s => ck (Nat.ble 10 g && Nat.blt g 70) (cond (sb x g) (k (i + 1) lv ((x, r) :: s) S) (if r = 0 ∨ isk x (S 0 r 0) = true then k (i + 1) lv ((x, r) :: s) S else none))) = some res) : W p l e R s m args below meth c H locs (S 2 0 0 - n0).toNat (S 3 0 0 - u0).toNat Q (F0 m pc ls vs) := by
  obtain ⟨g, r, s1, rfl, h0, h1⟩ := pr_sp h
  obtain ⟨hg, h2⟩ := ck_sp h1
  obtain ⟨hg1, hg2⟩ := Bool.and_eq_true_iff.mp hg
  have hg1 := Nat.ble_eq.mp hg1
  have hg2 := Nat.blt_eq.mp hg2
  have ⟨hcs, h3⟩ : (sb x g = true ∨ r = 0 ∨ isk x (S 0 r 0) = true) ∧ k (i + 1) lv ((x, r) :: s1) S = some res := by
    cases hs : sb x g with
    | true => rw [hs] at h2; exact ⟨Or.inl rfl, h2⟩
    | false =>
      rw [hs] at h2
      by_cases q : r = 0 ∨ isk x (S 0 r 0) = true
      · rw [cond_false, if_pos q] at h2; exact ⟨Or.inr q, h2⟩
      · rw [cond_false, if_neg q] at h2; cases h2
  obtain ⟨b1, b2, b3, b4, b5, b6, b7⟩ := B
  obtain ⟨w, vs', rfl, w1, w2⟩ := sr_cons b6
  by_cases hr : r = 0
  · rcases (vr_ref (by simp only; omega)).mp w1 with ⟨-, hw⟩ | ⟨j, a, kd, q0, -⟩
    · subst hw
      have := K (i + 1) lv ((x, r) :: s1) S ads ws H locs ls (.null :: vs') h3 ⟨b1, b2, b3, b4, b5, ⟨(vr_ref (by simp only; omega)).mpr (Or.inl ⟨hr, rfl⟩), w2⟩, b7⟩
      rw [hn] at this
      exact lv_castN C.1 C.2.1 hd this
    · simp only at q0; omega
  · obtain ⟨j, a, kd, en, e0, rfl, e2, e3, e4, e5, e6⟩ := b1.obj w1 (by simp only; omega) hr
    have hkk := b1.kok j a kd e2
    have e3 : sb g kd = true := e3
    have hkd : kd ∈ kl := by
      rcases hkk with q | q
      · exact q
      · exfalso
        cases en with
        | inr o => exact absurd (kl_lt kd e6.1).2 (by omega)
        | inl o =>
          unfold sb at e3
          rcases Bool.or_eq_true_iff.mp e3 with z | z
          · have := Nat.eq_of_beq_eq_true z; omega
          · obtain ⟨z1, z2⟩ := Bool.and_eq_true_iff.mp z
            rcases Bool.or_eq_true_iff.mp z2 with z3 | z3
            · have := Nat.eq_of_beq_eq_true z3; omega
            · rw [sbc_no2 (by omega)] at z3; simp at z3
    have hsx : sb x kd = true := by
      rcases hcs with q | q | q
      · exact sb_trans (ads := ads) hkk hg1 q e3
      · exact absurd q hr
      · rw [show S 0 r 0 = (kd : Int) from e5, isk_sb x hx hx10 kd hkd] at q; exact q
    cases en with
    | inl q => exact absurd e6.1 (by have := kl_lt kd hkd; omega)
    | inr q =>
      obtain ⟨ci, fs⟩ := q
      have f2 : ci = kix kd := e6.2.1
      subst f2
      have hrec := va_recv C.K b2 (clK_at hkd) e4
      have := K (i + 1) lv ((x, r) :: s1) S ads ws H locs ls (.ref a :: vs') h3 ⟨b1, b2, b3, b4, b5, ⟨(vr_ref (by simp only; omega)).mpr (Or.inr ⟨j, a, kd, e0, e2, rfl, hsx⟩), w2⟩, b7⟩
      rw [hn] at this
      rcases hc kd hkd hsx with q | q
      · subst q
        exact va_castS (cC := G.1 (kix kd)) C.1 C.2.1 C.own (C.ws.w (clk_ok _ hm) args) (C.K.1 (kix kd) _ (clK_at hkd)).2 hrec hd this
      · exact va_castY (C := cn kd) C.1 C.2.1 C.own (C.ws.w (clk_ok _ hm) args) (C.ws.2.2.2.1 (kd, x) q) hrec hd this
theorem sn_inst {n x : Nat} (C : Cx G aC p s m meth c mi) (K : Kc sa b aC ph L xs G A n0 u0 ads0 p l e R s m args below meth c mi k res Q) (B : Bn sa b aC ph L xs G A n0 u0 ads0 s mi lv st S ads ws H locs ls vs) (hd : decode (mby mi) pc = .ok (.instanceof n, 3)) (hn : pcn mi (i + 1) = pc + 3) (hm : (own mi, n, x) ∈ clk) (hx : x < 60) (hx10 : 10 ≤ x) (hc : ∀ kd ∈ kl, sb x kd = true → kd = x ∨ (kd, x) ∈ ctk) (hno : ∀ g, g < 70 → ∀ kd ∈ kl, g = 22 → sb g kd = true → sb x kd = false → (kd, x) ∈ nck)
    (h : (pr st fun g r s => ck (Nat.beq g 22) (if r ≠ 0 ∧ isk x (S 0 r 0) = true then k (i + 1) lv ((0, 1) :: s) S else k (i + 1) lv ((0, 0) :: s) S)) = some res) : W p l e R s m args below meth c H locs (S 2 0 0 - n0).toNat (S 3 0 0 - u0).toNat Q (F0 m pc ls vs) := by
  obtain ⟨g, r, s1, rfl, h0, h1⟩ := pr_sp h
  obtain ⟨hg, h2⟩ := ck_sp h1
  have hg := Nat.eq_of_beq_eq_true hg
  obtain ⟨b1, b2, b3, b4, b5, b6, b7⟩ := B
  obtain ⟨w, vs', rfl, w1, w2⟩ := sr_cons b6
  have fin : ∀ (z : Int32) (zz : Int), zz = z.toInt → k (i + 1) lv ((0, zz) :: s1) S = some res → W p l e R s m args below meth c H locs (S 2 0 0 - n0).toNat (S 3 0 0 - u0).toNat Q (F0 m (pc + 3) ls (.int z :: vs')) := by
    intro z zz hz h3
    have := K (i + 1) lv ((0, zz) :: s1) S ads ws H locs ls (.int z :: vs') h3 ⟨b1, b2, b3, b4, b5, ⟨⟨z, rfl, hz⟩, w2⟩, b7⟩
    rw [hn] at this
    exact this
  by_cases hr : r = 0
  · rw [if_neg (fun q => q.1 hr)] at h2
    rcases (vr_ref (by simp only; omega)).mp w1 with ⟨-, hw⟩ | ⟨j, a, kd, q0, -⟩
    · subst hw
      exact lv_instN C.1 C.2.1 hd (fin 0 0 rfl h2)
    · simp only at q0; omega
  · obtain ⟨j, a, kd, en, e0, rfl, e2, e3, e4, e5, e6⟩ := b1.obj w1 (by simp only; omega) hr
    have hkk := b1.kok j a kd e2
    have e3 : sb g kd = true := e3
    have hkd : kd ∈ kl := kind_obj hkk (by omega) e3
    have e5 : S 0 r 0 = (kd : Int) := e5
    rw [e5, isk_sb x hx hx10 kd hkd] at h2
    cases en with
    | inl q => exact absurd e6.1 (by have := kl_lt kd hkd; omega)
    | inr q =>
      obtain ⟨ci, fs⟩ := q
      have f2 : ci = kix kd := e6.2.1
      subst f2
      have hrec := va_recv C.K b2 (clK_at hkd) e4
      by_cases hsx : sb x kd = true
      · rw [if_pos ⟨hr, hsx⟩] at h2
        rcases hc kd hkd hsx with q | q
        · subst q
          exact va_instS (cC := G.1 (kix kd)) C.1 C.2.1 C.own (C.ws.w (clk_ok _ hm) args) (C.K.1 (kix kd) _ (clK_at hkd)).2 hrec hd (fin 1 1 rfl h2)
        · exact va_instY (C := cn kd) C.1 C.2.1 C.own (C.ws.w (clk_ok _ hm) args) (C.ws.2.2.2.1 (kd, x) q) hrec hd (fin 1 1 rfl h2)
      · rw [if_neg (fun q => hsx q.2)] at h2
        exact va_instNo (C := cn kd) C.1 C.2.1 C.own (C.ws.w (clk_ok _ hm) args) (C.ws.2.2.2.2.2.1 (kd, x) (hno g (by omega) kd hkd hg e3 (Bool.eq_false_iff.mpr hsx))) hrec hd (fin 0 0 rfl h2)
theorem sn_tsw {dflt lo hi : Int} {offs : Array Int} {len x : Nat} {tg : List Nat} (C : Cx G aC p s m meth c mi) (K : Kc sa b aC ph L xs G A n0 u0 ads0 p l e R s m args below meth c mi k res Q) (B : Bn sa b aC ph L xs G A n0 u0 ads0 s mi lv st S ads ws H locs ls vs) (hd : decode (mby mi) pc = .ok (.tableswitch dflt lo hi offs, len)) (hj : (pc : Int) + dflt = (pcn mi x : Int)) (hl : tg.length = offs.size) (hhi : hi = lo + (offs.size : Int) - 1) (hjs : ∀ j, j < tg.length → (pc : Int) + offs.getD j 0 = (pcn mi (tg.getD j 0) : Int))
    (h : (p1 0 st fun a s => swc a lo tg (fun j => k j lv s S) (k x lv s S)) = some res) : W p l e R s m args below meth c H locs (S 2 0 0 - n0).toNat (S 3 0 0 - u0).toNat Q (F0 m pc ls vs) := by
  obtain ⟨v, s1, rfl, h1⟩ := p1_sp h
  obtain ⟨b1, b2, b3, b4, b5, b6, b7⟩ := B
  obtain ⟨w, vs', rfl, w1, w2⟩ := sr_cons b6
  obtain ⟨y, rfl, hy⟩ := w1
  have hy : v = y.toInt := hy
  have hB : Bn sa b aC ph L xs G A n0 u0 ads0 s mi lv s1 S ads ws H locs ls vs' := ⟨b1, b2, b3, b4, b5, w2, b7⟩
  rcases swc_sp h1 with ⟨j, c1, c2, c3⟩ | ⟨c1, c2⟩
  · refine lv_tableIn C.1 C.2.1 hd (by omega) (by omega) (off := offs.getD j 0) ?_ (hjs j c1) (K _ lv s1 S ads ws H locs ls vs' c3 hB)
    rw [show (y.toInt - lo).toNat = j by omega, Array.getD_eq_getD_getElem?, Array.getElem?_eq_getElem (by omega)]
    rfl
  · exact lv_tableOut C.1 C.2.1 hd (by omega) hj (K x lv s1 S ads ws H locs ls vs' c2 hB)
theorem sn_obj {n : Nat} (C : Cx G aC p s m meth c mi) (K : Kc sa b aC ph L xs G A n0 u0 ads0 p l e R s m args below meth c mi k res Q) (B : Bn sa b aC ph L xs G A n0 u0 ads0 s mi lv st S ads ws H locs ls vs) (hd : decode (mby mi) pc = .ok (.invokespecial n, 3)) (hn : pcn mi (i + 1) = pc + 3) (hm : (own mi, n) ∈ olk) (hRf : 1 ≤ R.frames) (hRl : 40 ≤ R.locals)
    (h : (pr st fun g r s => ck (Nat.ble 10 g && (Nat.blt g 70 && Nat.ble s.length 12)) (nz r (k (i + 1) lv s S))) = some res) : W p l e R s m args below meth c H locs (S 2 0 0 - n0).toNat (S 3 0 0 - u0).toNat Q (F0 m pc ls vs) := by
  obtain ⟨g, r, s1, rfl, h0, h1⟩ := pr_sp h
  obtain ⟨hg, h2⟩ := ck_sp h1
  have hg1 := Nat.ble_eq.mp (Bool.and_eq_true_iff.mp hg).1
  obtain ⟨hr, h3⟩ := nz_sp h2
  obtain ⟨b1, b2, b3, b4, ⟨ms, m1, m2⟩, b6, b7⟩ := B
  obtain ⟨w, vs', rfl, w1, w2⟩ := sr_cons b6
  obtain ⟨j, a, kd, en, e0, rfl, -⟩ := b1.obj w1 (by simp only; omega) hr
  have := K (i + 1) lv s1 S ads ws H locs ls vs' h3 ⟨b1, b2, b3, b4, ⟨ms, m1, m2⟩, w2, b7⟩
  rw [hn] at this
  have hsum := sr_sum w2
  have hst : s1.length ≤ 12 := Nat.ble_eq.mp (Bool.and_eq_true_iff.mp (Bool.and_eq_true_iff.mp hg).2).2
  refine W.objInit C.1 C.2.1 C.own (C.ws.w (olk_ok _ hm) args) (C.ws.w oim args) (C.ws.w ocd args) rfl (by rw [C.2.2.2.1]; exact m2.1) rfl hd hRf ?_ this
  show 2 * 0 + (vs'.map fun v => v.category).sum + 12 ≤ R.locals
  omega
theorem qs_ret (B : Bn sa b aC ph L xs G A n0 u0 ads0 s mi lv st S ads ws H locs ls vs) {o : Int ⊕ Int} {oc : Outcome} (ho : oR sa b ads (rtg mi) o oc) (t : State) (ht : t.heap = H) : Qs sa b aC ph L xs G A ads0 (rtg mi) (o, S) args s oc t := by
  obtain ⟨b1, b2, b3, b4, b5, b6, b7, b8, b9⟩ := B
  exact ⟨ads, ws, b1, b9, by rw [ht]; exact b2, b3, by rw [ht]; exact b4.1, fun q h1 h2 => by rw [ht]; exact b4.2.1 q h1 h2, ho⟩
theorem sn_iret {t : Nat} (C : Cx G aC p s m meth c mi) (B : Bn sa b aC ph L xs G A n0 u0 ads0 s mi lv st S ads ws H locs ls vs) (hd : decode (mby mi) pc = .ok (.ireturn, 1)) (hrt : rtg mi = 0) (hty : (mrt mi = some .int ∧ t = 0) ∨ (mrt mi = some .boolean ∧ t = 4))
    (h : (p1 0 st fun v s => ck s.isEmpty (cond (Nat.beq t 4) (tv v (some (.inl v, S))) (some (.inl v, S)))) = some res) : W p l e R s m args below meth c H locs (S 2 0 0 - n0).toNat (S 3 0 0 - u0).toNat (MF below (Qs sa b aC ph L xs G A ads0 (rtg mi) res) args s (res.2 2 0 0 - n0).toNat (res.2 3 0 0 - u0).toNat A) (F0 m pc ls vs) := by
  obtain ⟨v, s1, rfl, h1⟩ := p1_sp h
  obtain ⟨he, h2⟩ := ck_sp h1
  have he : s1 = [] := List.isEmpty_iff.mp he
  subst he
  have B' := B
  obtain ⟨b1, b2, b3, b4, b5, b6, b7⟩ := B
  obtain ⟨w, vs', rfl, w1, w2⟩ := sr_cons b6
  have := sr_nil w2
  subst this
  have w1' := w1
  obtain ⟨y, rfl, hy⟩ := w1
  have hy : v = y.toInt := hy
  have ho : oR sa b ads (rtg mi) (.inl v) (.returned (some (.int y))) := Or.inr ⟨by rw [hrt]; decide, _, rfl, by rw [hrt]; exact ⟨y, rfl, hy⟩⟩
  rcases hty with ⟨q1, q2⟩ | ⟨q1, q2⟩
  · subst q2
    cases h2
    exact W.mono (fun _ => mf_mq) (W.iret C.1 C.2.1 (C.2.2.1.trans q1) (fun t ht _ => qs_ret B' ho t ht) b4.2.2 hd C.locks)
  · subst q2
    obtain ⟨hv, h3⟩ := tv_sp h2
    cases h3
    refine W.mono (fun _ => mf_mq) (W.zret (ty := .boolean) C.1 C.2.1 (C.2.2.1.trans q1) ?_ (fun t ht _ => qs_ret B' ho t ht) b4.2.2 hd C.locks)
    have : y = 0 ∨ y = 1 := hv.elim (fun q => Or.inl (Int32.toInt_inj.mp (by rw [← hy, q]; rfl))) (fun q => Or.inr (Int32.toInt_inj.mp (by rw [← hy, q]; rfl)))
    rcases this with e | e <;> subst e <;> rfl
theorem sn_lret (C : Cx G aC p s m meth c mi) (B : Bn sa b aC ph L xs G A n0 u0 ads0 s mi lv st S ads ws H locs ls vs) (hd : decode (mby mi) pc = .ok (.lreturn, 1)) (hrt : rtg mi = 1) (hty : mrt mi = some .long)
    (h : (p1 1 st fun v s => ck s.isEmpty (some (.inl v, S))) = some res) : W p l e R s m args below meth c H locs (S 2 0 0 - n0).toNat (S 3 0 0 - u0).toNat (MF below (Qs sa b aC ph L xs G A ads0 (rtg mi) res) args s (res.2 2 0 0 - n0).toNat (res.2 3 0 0 - u0).toNat A) (F0 m pc ls vs) := by
  obtain ⟨v, s1, rfl, h1⟩ := p1_sp h
  obtain ⟨he, h2⟩ := ck_sp h1
  have he : s1 = [] := List.isEmpty_iff.mp he
  subst he
  cases h2
  have B' := B
  obtain ⟨b1, b2, b3, b4, b5, b6, b7⟩ := B
  obtain ⟨w, vs', rfl, w1, w2⟩ := sr_cons b6
  have := sr_nil w2
  subst this
  obtain ⟨y, rfl, hy⟩ := w1
  have hy : v = y.toInt := hy
  have ho : oR sa b ads (rtg mi) (.inl v) (.returned (some (.long y))) := Or.inr ⟨by rw [hrt]; decide, _, rfl, by rw [hrt]; exact ⟨y, rfl, hy⟩⟩
  exact W.mono (fun _ => mf_mq) (W.lret C.1 C.2.1 (C.2.2.1.trans hty) (fun t ht _ => qs_ret B' ho t ht) b4.2.2 hd C.locks)
theorem sn_vret (C : Cx G aC p s m meth c mi) (B : Bn sa b aC ph L xs G A n0 u0 ads0 s mi lv st S ads ws H locs ls vs) (hd : decode (mby mi) pc = .ok (.return_, 1)) (hrt : rtg mi = 9) (hty : mrt mi = none)
    (h : ck st.isEmpty (some (.inl 0, S)) = some res) : W p l e R s m args below meth c H locs (S 2 0 0 - n0).toNat (S 3 0 0 - u0).toNat (MF below (Qs sa b aC ph L xs G A ads0 (rtg mi) res) args s (res.2 2 0 0 - n0).toNat (res.2 3 0 0 - u0).toNat A) (F0 m pc ls vs) := by
  obtain ⟨he, h2⟩ := ck_sp h
  have he : st = [] := List.isEmpty_iff.mp he
  subst he
  cases h2
  have B' := B
  obtain ⟨b1, b2, b3, b4, b5, b6, b7⟩ := B
  have := sr_nil b6
  subst this
  have ho : oR sa b ads (rtg mi) (.inl 0) (.returned none) := Or.inl ⟨hrt, rfl⟩
  exact W.mono (fun _ => mf_mq) (W.vret C.1 C.2.1 (C.2.2.1.trans hty) (fun t ht _ => qs_ret B' ho t ht) b4.2.2 hd C.locks)
theorem sn_aret {t : Nat} (C : Cx G aC p s m meth c mi) (B : Bn sa b aC ph L xs G A n0 u0 ads0 s mi lv st S ads ws H locs ls vs) (hd : decode (mby mi) pc = .ok (.areturn, 1)) (hrt : rtg mi = t) (ht2 : 2 ≤ t) (ht9 : t ≠ 9) (hty : ∃ ty, mrt mi = some ty ∧ rty ty = true)
    (h : (pr st fun g v s => ck (s.isEmpty && sb t g) (some (.inl v, S))) = some res) : W p l e R s m args below meth c H locs (S 2 0 0 - n0).toNat (S 3 0 0 - u0).toNat (MF below (Qs sa b aC ph L xs G A ads0 (rtg mi) res) args s (res.2 2 0 0 - n0).toNat (res.2 3 0 0 - u0).toNat A) (F0 m pc ls vs) := by
  obtain ⟨g, v, s1, rfl, h0, h1⟩ := pr_sp h
  obtain ⟨he, h2⟩ := ck_sp h1
  obtain ⟨he, hs⟩ := Bool.and_eq_true_iff.mp he
  have he : s1 = [] := List.isEmpty_iff.mp he
  subst he
  cases h2
  have B' := B
  obtain ⟨b1, b2, b3, b4, b5, b6, b7⟩ := B
  obtain ⟨w, vs', rfl, w1, w2⟩ := sr_cons b6
  have := sr_nil w2
  subst this
  have hv := vr_cases w1 h0
  have ho : oR sa b ads (rtg mi) (.inl v) (.returned (some w)) := Or.inr ⟨by rw [hrt]; exact ht9, _, rfl, by rw [hrt]; exact vr_sb b1.kok w1 hs⟩
  obtain ⟨ty, q1, q2⟩ := hty
  refine W.mono (fun _ => mf_mq) (W.aret C.1 C.2.1 (C.2.2.1.trans q1) ?_ hv (fun t ht _ => qs_ret B' ho t ht) b4.2.2 hd C.locks)
  cases ty with
  | object z => exact Or.inl ⟨z, rfl⟩
  | array z => exact Or.inr ⟨z, rfl⟩
  | _ => cases q2
end Ins
