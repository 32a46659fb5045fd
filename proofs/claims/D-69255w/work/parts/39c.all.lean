/-! SOUNDNESS, 18: one step; the whole run -/
set_option maxRecDepth 100000
section Stp
variable {sa : Nat → Nat} {b : Nat} {aC : Nat → ClassId} {ph : Bool} {L : Nat} {xs : Nat → Int32} {G : va_G} {A : Nat → Prop} {n0 u0 : Int} {ads0 : List (Nat × Nat)}
variable {p : Program} {l : Launch} {e : Env} {R : Room} {s : State} {m : MethodId} {args : Array Value} {below : List Frame} {meth : Method} {c : Code} {mi : Nat}
variable {k : Nat → Lv → List Wd → St → Rs} {res : (Int ⊕ Int) × St} {Q : State → Prop} {i : Nat} {lv : Lv} {st : List Wd} {S : St} {ads : List (Nat × Nat)} {ws : va_W} {H : Heap} {locs : List Loc} {ls : Array Slot} {vs : List Value} {pc : Nat}

variable {sv : Nat → Nat} {cg : Nat → List Wd → St → Rs}
theorem or23 {n : Nat} (h : (Nat.beq n 2 || Nat.beq n 3) = true) : n = 2 ∨ n = 3 := (Bool.or_eq_true_iff.mp h).elim (fun q => Or.inl (Nat.eq_of_beq_eq_true q)) (fun q => Or.inr (Nat.eq_of_beq_eq_true q))
theorem ali_i {z x : Int} {a : Rs} {r : (Int ⊕ Int) × St} (h : ph = true → 2 ≤ z → N0 < x) (g : a = some r) : ali ph z x a = some r := by
  unfold ali
  split
  · rename_i q
    rw [if_pos (h q.2 q.1)]; exact g
  · exact g
theorem rty_n {ty : FieldType} {w : Value} (h : rty ty = true) (hw : w = .null ∨ ∃ a, w = .ref a) : narrow ty w = w := by
  rcases hw with rfl | ⟨a, rfl⟩ <;> cases ty <;> first | rfl | cases h
theorem rty_f {ty : FieldType} {w : Value} (h : rty ty = true) (hw : w = .null ∨ ∃ a, w = .ref a) : fits ty w = true := by
  rcases hw with rfl | ⟨a, rfl⟩ <;> cases ty <;> first | rfl | cases h
set_option maxHeartbeats 16000000 in
theorem sn_step {d : Nat} (C : Cx G aC p s m meth c mi) (hA : Ax b L xs A (Exa sa sv A) s)
    (K : Kc sa b aC ph L xs G A n0 u0 ads0 p l e R s m args below meth c mi k res (MF below (Qs sa b aC ph L xs G A ads0 (rtg mi) res) args s (res.2 2 0 0 - n0).toNat (res.2 3 0 0 - u0).toNat A)) (B : Bn sa b aC ph L xs G A n0 u0 ads0 s mi lv st S ads ws H locs ls vs) (htr : l.stackTraces = false)
    (hR : RoomOk (d + 1) R) (hcal : ∀ x as rs, cg x as S = some rs → Cal sa b aC ph L xs G A (Exa sa sv A) p l e d x as S rs)
    (hmono : ∀ i lv st S1, k i lv st S1 = some res → S1 2 0 0 ≤ res.2 2 0 0 ∧ S1 3 0 0 ≤ res.2 3 0 0) (hmonoC : ∀ x as rs, cg x as S = some rs → S 2 0 0 ≤ rs.2 2 0 0 ∧ S 3 0 0 ≤ rs.2 3 0 0) (hRc : (res.2 2 0 0 - n0).toNat ≤ R.cells) (hRs : (res.2 3 0 0 - u0).toNat ≤ R.slots)
    (h : stp ph cg k mi i lv st S = some res) : W p l e R s m args below meth c H locs (S 2 0 0 - n0).toNat (S 3 0 0 - u0).toNat (MF below (Qs sa b aC ph L xs G A ads0 (rtg mi) res) args s (res.2 2 0 0 - n0).toNat (res.2 3 0 0 - u0).toNat A) (F0 m (pcn mi i) ls vs) := by
  unfold stp at h
  cases hcod : cod mi i with
  | none => rw [hcod] at h; cases h
  | some q =>
  rw [hcod] at h
  have hok := okE_all mi i q hcod
  obtain ⟨pc, ins, x, y, t, z, tg⟩ := q
  have hpc : pcn mi i = pc := by unfold pcn; rw [hcod]
  rw [hpc]
  clear hpc hcod
  simp only at h
  split at h
  all_goals try simp only [okE, Bool.and_eq_true] at hok
  · exact sn_iconst C K B (dcd_sp hok.1) (nxt_sp hok.2.1) (of_decide_eq_true hok.2.2) h
  · exact sn_bipush C K B (dcd_sp hok.1) (nxt_sp hok.2.1) (of_decide_eq_true hok.2.2) h
  · exact sn_sipush C K B (dcd_sp hok.1) (nxt_sp hok.2.1) (of_decide_eq_true hok.2.2) h
  · obtain ⟨h1, h2, h3⟩ := hok
    cases ht : Nat.beq t 0 with
    | true =>
      rw [ht] at h3
      obtain ⟨h4, h5⟩ := Bool.and_eq_true_iff.mp (show (_ && _) = true from h3)
      rw [Nat.eq_of_beq_eq_true ht] at h
      exact sn_ldc C K B (dcd_sp h1) (nxt_sp h2) (m3i_sp h4) (of_decide_eq_true h5) h
    | false =>
      rw [ht] at h3
      obtain ⟨h4, h5⟩ := Bool.and_eq_true_iff.mp (show (_ && _) = true from h3)
      obtain ⟨h5, h6⟩ := Bool.and_eq_true_iff.mp h5
      obtain ⟨h6, h7⟩ := Bool.and_eq_true_iff.mp h6
      have h5 : 0 ≤ z := of_decide_eq_true h5
      rw [Nat.eq_of_beq_eq_true h4, ← Int.toNat_of_nonneg h5] at h
      exact sn_ldcS C K B hA.2.2.2.2 (dcd_sp h1) (nxt_sp h2) (m3_sp h7) (Nat.blt_eq.mp h6) h
  · obtain ⟨h1, h2, h3⟩ := hok
    cases ht : Nat.beq t 0 with
    | true =>
      rw [ht] at h3
      obtain ⟨h4, h5⟩ := Bool.and_eq_true_iff.mp (show (_ && _) = true from h3)
      rw [Nat.eq_of_beq_eq_true ht] at h
      exact sn_ldcw C K B (dcd_sp h1) (nxt_sp h2) (m3i_sp h4) (of_decide_eq_true h5) h
    | false =>
      rw [ht] at h3
      obtain ⟨h4, h5⟩ := Bool.and_eq_true_iff.mp (show (_ && _) = true from h3)
      obtain ⟨h5, h6⟩ := Bool.and_eq_true_iff.mp h5
      obtain ⟨h6, h7⟩ := Bool.and_eq_true_iff.mp h6
      have h5 : 0 ≤ z := of_decide_eq_true h5
      rw [Nat.eq_of_beq_eq_true h4, ← Int.toNat_of_nonneg h5] at h
      exact sn_ldcwS C K B hA.2.2.2.2 (dcd_sp h1) (nxt_sp h2) (m3_sp h7) (Nat.blt_eq.mp h6) h
  · exact sn_ldc2 C K B (dcd_sp hok.1) (nxt_sp hok.2.1) (m3i_sp hok.2.2.1) (of_decide_eq_true hok.2.2.2) h
  · exact sn_lconst C K B (dcd_sp hok.1) (nxt_sp hok.2.1) (of_decide_eq_true hok.2.2) h
  · exact sn_null C K B (dcd_sp hok.1) (nxt_sp hok.2) h
  · exact sn_iload_n C K B (dcd_sp hok.1) (nxt_sp hok.2) h
  · exact sn_iload C K B (dcd_sp hok.1) (nxt_sp hok.2) h
  · exact sn_lload_n C K B (dcd_sp hok.1) (nxt_sp hok.2) h
  · exact sn_lload C K B (dcd_sp hok.1) (nxt_sp hok.2) h
  · exact sn_aload_n C K B (dcd_sp hok.1) (nxt_sp hok.2) h
  · exact sn_aload C K B (dcd_sp hok.1) (nxt_sp hok.2) h
  · exact sn_istore_n C K B (dcd_sp hok.1) (nxt_sp hok.2.1) (Nat.blt_eq.mp hok.2.2) h
  · exact sn_istore C K B (dcd_sp hok.1) (nxt_sp hok.2.1) (Nat.blt_eq.mp hok.2.2) h
  · exact sn_lstore_n C K B (dcd_sp hok.1) (nxt_sp hok.2.1) (Nat.blt_eq.mp hok.2.2) h
  · exact sn_lstore C K B (dcd_sp hok.1) (nxt_sp hok.2.1) (Nat.blt_eq.mp hok.2.2) h
  · exact sn_astore_n C K B (dcd_sp hok.1) (nxt_sp hok.2.1) (Nat.blt_eq.mp hok.2.2) h
  · exact sn_astore C K B (dcd_sp hok.1) (nxt_sp hok.2.1) (Nat.blt_eq.mp hok.2.2) h
  · exact sn_iinc C K B (dcd_sp hok.1) (nxt_sp hok.2.1) (Nat.blt_eq.mp hok.2.2) h
  · exact sn_dup C K B (dcd_sp hok.1) (nxt_sp hok.2) h
  · exact sn_dup_x1 C K B (dcd_sp hok.1) (nxt_sp hok.2) h
  · exact sn_dup2 C K B (dcd_sp hok.1) (nxt_sp hok.2) h
  · exact sn_pop C K B (dcd_sp hok.1) (nxt_sp hok.2) h
  · exact sn_iadd C K B (dcd_sp hok.1) (nxt_sp hok.2) h
  · exact sn_isub C K B (dcd_sp hok.1) (nxt_sp hok.2) h
  · exact sn_imul C K B (dcd_sp hok.1) (nxt_sp hok.2) h
  · exact sn_idiv C K B (dcd_sp hok.1) (nxt_sp hok.2) h
  · exact sn_irem C K B (dcd_sp hok.1) (nxt_sp hok.2) h
  · exact sn_ineg C K B (dcd_sp hok.1) (nxt_sp hok.2) h
  · exact sn_iand C K B (dcd_sp hok.1) (nxt_sp hok.2) h
  · exact sn_ior C K B (dcd_sp hok.1) (nxt_sp hok.2) h
  · exact sn_ixor C K B (dcd_sp hok.1) (nxt_sp hok.2) h
  · exact sn_ishl C K B (dcd_sp hok.1) (nxt_sp hok.2) h
  · exact sn_ishr C K B (dcd_sp hok.1) (nxt_sp hok.2) h
  · exact sn_iushr C K B (dcd_sp hok.1) (nxt_sp hok.2) h
  · exact sn_ladd C K B (dcd_sp hok.1) (nxt_sp hok.2) h
  · exact sn_lsub C K B (dcd_sp hok.1) (nxt_sp hok.2) h
  · exact sn_lmul C K B (dcd_sp hok.1) (nxt_sp hok.2) h
  · exact sn_ldiv C K B (dcd_sp hok.1) (nxt_sp hok.2) h
  · exact sn_lrem C K B (dcd_sp hok.1) (nxt_sp hok.2) h
  · exact sn_lneg C K B (dcd_sp hok.1) (nxt_sp hok.2) h
  · exact sn_land C K B (dcd_sp hok.1) (nxt_sp hok.2) h
  · exact sn_lor C K B (dcd_sp hok.1) (nxt_sp hok.2) h
  · exact sn_lxor C K B (dcd_sp hok.1) (nxt_sp hok.2) h
  · exact sn_lshl C K B (dcd_sp hok.1) (nxt_sp hok.2) h
  · exact sn_lshr C K B (dcd_sp hok.1) (nxt_sp hok.2) h
  · exact sn_lushr C K B (dcd_sp hok.1) (nxt_sp hok.2) h
  · exact sn_lcmp C K B (dcd_sp hok.1) (nxt_sp hok.2) h
  · exact sn_i2l C K B (dcd_sp hok.1) (nxt_sp hok.2) h
  · exact sn_l2i C K B (dcd_sp hok.1) (nxt_sp hok.2) h
  · exact sn_i2b C K B (dcd_sp hok.1) (nxt_sp hok.2) h
  · exact sn_goto C K B (dcd_sp hok.1) (jmp_sp hok.2) h
  · exact sn_if_eq C K B (dcd_sp hok.1) (nxt_sp hok.2.1) (jmp_sp hok.2.2) h
  · exact sn_if_ne C K B (dcd_sp hok.1) (nxt_sp hok.2.1) (jmp_sp hok.2.2) h
  · exact sn_if_lt C K B (dcd_sp hok.1) (nxt_sp hok.2.1) (jmp_sp hok.2.2) h
  · exact sn_if_ge C K B (dcd_sp hok.1) (nxt_sp hok.2.1) (jmp_sp hok.2.2) h
  · exact sn_if_gt C K B (dcd_sp hok.1) (nxt_sp hok.2.1) (jmp_sp hok.2.2) h
  · exact sn_if_le C K B (dcd_sp hok.1) (nxt_sp hok.2.1) (jmp_sp hok.2.2) h
  · exact sn_icmp_eq C K B (dcd_sp hok.1) (nxt_sp hok.2.1) (jmp_sp hok.2.2) h
  · exact sn_icmp_ne C K B (dcd_sp hok.1) (nxt_sp hok.2.1) (jmp_sp hok.2.2) h
  · exact sn_icmp_lt C K B (dcd_sp hok.1) (nxt_sp hok.2.1) (jmp_sp hok.2.2) h
  · exact sn_icmp_ge C K B (dcd_sp hok.1) (nxt_sp hok.2.1) (jmp_sp hok.2.2) h
  · exact sn_icmp_gt C K B (dcd_sp hok.1) (nxt_sp hok.2.1) (jmp_sp hok.2.2) h
  · exact sn_icmp_le C K B (dcd_sp hok.1) (nxt_sp hok.2.1) (jmp_sp hok.2.2) h
  · exact sn_acmp_eq C K B (dcd_sp hok.1) (nxt_sp hok.2.1) (jmp_sp hok.2.2) h
  · exact sn_acmp_ne C K B (dcd_sp hok.1) (nxt_sp hok.2.1) (jmp_sp hok.2.2) h
  · exact sn_ifnull C K B (dcd_sp hok.1) (nxt_sp hok.2.1) (jmp_sp hok.2.2) h
  · exact sn_ifnonnull C K B (dcd_sp hok.1) (nxt_sp hok.2.1) (jmp_sp hok.2.2) h
  · obtain ⟨h1, h2, h3, h4, h5⟩ := hok
    obtain ⟨n, hd⟩ := dcx_sp h1
    exact sn_tsw C K B hd (jmp_sp h2) (Nat.eq_of_beq_eq_true h3) (of_decide_eq_true h4) (fun j hj => jmp_sp (List.all_eq_true.mp h5 j (List.mem_range.mpr hj))) h
  · obtain ⟨h1, h2, h3, h4, h5⟩ := hok
    obtain ⟨g, r, s1, rfl, e1, e2⟩ := pr_sp h
    obtain ⟨e3, e4⟩ := ck_sp e2
    cases tg with
    | nil => exact sn_get C K B (dcd_sp h1) (nxt_sp h2) h3 (okLb_sp h4) (Nat.eq_of_beq_eq_true h5) h
    | cons j tg =>
      obtain ⟨e5, e6⟩ := ck_sp (show ck ph _ = some res from e4)
      obtain ⟨pq, e7, e8⟩ := cko_sp e6
      obtain ⟨e9, e10⟩ := ck_sp e8
      exact sn_getc C K B (dcd_sp h1) (nxt_sp h2) h3 (okLb_sp h4) (Nat.eq_of_beq_eq_true h5) e5 e7 (Nat.eq_of_beq_eq_true e9) (by show cond (Nat.ble 2 g) (ck (Nat.ble 10 g && sb x g) (eqr r pq.2.1 (k (i + 1) lv ((t, pq.2.2) :: s1) S))) none = some res; rw [Nat.ble_eq.mpr e1, e3]; exact e10)
  · obtain ⟨h1, h2, h3, h4, h5, h6, h7⟩ := hok
    have hfin : ffi y = false ∨ (ffi y = true ∧ 2 ≤ z ∧ fow y = own mi ∧ mnn mi = "<init>" ∧ _) := (by
      cases hf : ffi y with
      | false => exact Or.inl rfl
      | true =>
        rw [hf] at h6
        have h6 : (decide (2 ≤ z) && _) = true := h6
        simp only [Bool.and_eq_true] at h6
        exact Or.inr ⟨rfl, of_decide_eq_true h6.1, Nat.eq_of_beq_eq_true h6.2.1, of_decide_eq_true h6.2.2.1, m4_sp h6.2.2.2⟩)
    have h5 := Nat.eq_of_beq_eq_true h5
    cases ht : Nat.beq t 0 with
    | true =>
      rw [ht] at h h7
      simp only [cond_true] at h h7
      have ht := Nat.eq_of_beq_eq_true ht
      obtain ⟨v, s0, rfl, e0⟩ := p1_sp h
      obtain ⟨g, r, s1, rfl, e1, e2⟩ := pr_sp e0
      obtain ⟨e3, e4⟩ := ck_sp e2
      obtain ⟨e3, e3'⟩ := Bool.and_eq_true_iff.mp e3
      obtain ⟨e5, e6⟩ := nz_sp e4
      obtain ⟨b1, b2, b3, b4, b5, b6, b7⟩ := B
      obtain ⟨w, vs', rfl, w1, w2⟩ := sr_cons b6
      have hv : vr sa b ads (ftg y) v w := by rw [← h5, ht]; exact w1
      obtain ⟨x0, rfl, hx0⟩ := w1
      have hx0 : v = x0.toInt := hx0
      cases hz : Nat.beq (z.toNat % 2) 1 with
      | true =>
        rw [hz] at e6 h7
        simp only [cond_true] at e6 h7
        have hty : fty y = .boolean := of_decide_eq_true h7
        obtain ⟨a1, a2⟩ := ali_sp e6
        obtain ⟨a3, a4⟩ := tv_sp a2
        have hb : x0 = 0 ∨ x0 = 1 := a3.elim (fun q => Or.inl (Int32.toInt_inj.mp (by rw [← hx0, q]; rfl))) (fun q => Or.inr (Int32.toInt_inj.mp (by rw [← hx0, q]; rfl)))
        exact sn_put (z := z) C K ⟨b1, b2, b3, b4, b5, w2, b7⟩ (dcd_sp h1) (nxt_sp h2) h3 (okLb_sp h4) hfin (Nat.ble_eq.mp e3) e3' e5 hv (by rw [hty]; rcases hb with q | q <;> subst q <;> rfl) (by rw [hty]; rcases hb with q | q <;> subst q <;> rfl) (ali_i a1 a4)
      | false =>
        rw [hz] at e6 h7
        simp only [cond_false] at e6 h7
        have hty : fty y = .int := of_decide_eq_true h7
        exact sn_put (z := z) C K ⟨b1, b2, b3, b4, b5, w2, b7⟩ (dcd_sp h1) (nxt_sp h2) h3 (okLb_sp h4) hfin (Nat.ble_eq.mp e3) e3' e5 hv (by rw [hty]; rfl) (by rw [hty]; rfl) e6
    | false =>
      rw [ht] at h h7
      simp only [cond_false] at h h7
      cases ht1 : Nat.beq t 1 with
      | true =>
        rw [ht1] at h h7
        simp only [cond_true] at h h7
        have ht1 := Nat.eq_of_beq_eq_true ht1
        have hty : fty y = .long := of_decide_eq_true h7
        obtain ⟨v, s0, rfl, e0⟩ := p1_sp h
        obtain ⟨g, r, s1, rfl, e1, e2⟩ := pr_sp e0
        obtain ⟨e3, e4⟩ := ck_sp e2
        obtain ⟨e3, e3'⟩ := Bool.and_eq_true_iff.mp e3
        obtain ⟨e5, e6⟩ := nz_sp e4
        obtain ⟨b1, b2, b3, b4, b5, b6, b7⟩ := B
        obtain ⟨w, vs', rfl, w1, w2⟩ := sr_cons b6
        have hv : vr sa b ads (ftg y) v w := by rw [← h5, ht1]; exact w1
        obtain ⟨x0, rfl, hx0⟩ := w1
        exact sn_put (z := z) C K ⟨b1, b2, b3, b4, b5, w2, b7⟩ (dcd_sp h1) (nxt_sp h2) h3 (okLb_sp h4) hfin (Nat.ble_eq.mp e3) e3' e5 hv (by rw [hty]; rfl) (by rw [hty]; rfl) e6
      | false =>
        rw [ht1] at h h7
        simp only [cond_false] at h h7
        obtain ⟨h7, h8⟩ := Bool.and_eq_true_iff.mp h7
        obtain ⟨hg, v, s0, rfl, e00, e0⟩ := pr_sp h
        obtain ⟨g, r, s1, rfl, e1, e2⟩ := pr_sp e0
        obtain ⟨e3, e4⟩ := ck_sp e2
        simp only [Bool.and_eq_true] at e3
        obtain ⟨e3, e3', e3''⟩ := e3
        obtain ⟨e5, e6⟩ := nz_sp e4
        obtain ⟨b1, b2, b3, b4, b5, b6, b7⟩ := B
        obtain ⟨w, vs', rfl, w1, w2⟩ := sr_cons b6
        have w3 : vr sa b ads t v w := vr_sb b1.kok w1 e3''
        have hv : vr sa b ads (ftg y) v w := by rw [← h5]; exact w3
        have hw : w = .null ∨ ∃ a, w = .ref a := (by
          rcases (vr_ref (by have := Nat.ble_eq.mp h7; omega)).mp w3 with ⟨-, q⟩ | ⟨_, a, _, _, _, q, _⟩
          · exact Or.inl q
          · exact Or.inr ⟨a, q⟩)
        exact sn_put (z := z) C K ⟨b1, b2, b3, b4, b5, w2, b7⟩ (dcd_sp h1) (nxt_sp h2) h3 (okLb_sp h4) hfin (Nat.ble_eq.mp e3) e3' e5 hv (rty_n h8 hw) (rty_f h8 hw) e6
  · exact sn_alen C K B (dcd_sp hok.1) (nxt_sp hok.2) hA.1 hA.2.1 hA.2.2.1 h
  · exact sn_iald C K B (dcd_sp hok.1) (nxt_sp hok.2) hA.1 hA.2.1 hA.2.2.1 h
  · exact sn_bald C K B (dcd_sp hok.1) (nxt_sp hok.2) h
  · exact sn_lald C K B (dcd_sp hok.1) (nxt_sp hok.2) h
  · exact sn_aald C K B (dcd_sp hok.1) (nxt_sp hok.2) h
  · exact sn_iast C K B (dcd_sp hok.1) (nxt_sp hok.2) h
  · exact sn_bast C K B (dcd_sp hok.1) (nxt_sp hok.2) h
  · exact sn_last C K B (dcd_sp hok.1) (nxt_sp hok.2) h
  · exact sn_aast C K B (dcd_sp hok.1) (nxt_sp hok.2) h
  · obtain ⟨h1, h2, h3, h4, h5, h6⟩ := hok
    cases hx : (Nat.beq x 53 || Nat.beq x 54) with
    | true =>
      rw [hx] at h h6
      obtain ⟨t1, t2, t3, t4, ic, t5, t6⟩ := thr_sp (show thr mi pc x = true from h6)
      exact sn_throw C ⟨hA.1, hA.2.1, hA.2.2.1, hA.2.2.2.1, hA.2.2.2.2.1⟩ B htr hR hRc hRs (dcd_sp h1) t1 t5 t2 (m3_sp h2) ((Bool.or_eq_true_iff.mp hx).elim (fun q => Or.inl (Nat.eq_of_beq_eq_true q)) (fun q => Or.inr (Nat.eq_of_beq_eq_true q))) t6 (mem_sp h4) (mem_sp h5) t4 t3 h
    | false =>
      rw [hx] at h h6
      have h6 : (nxt mi i pc 3 && _) = true := h6
      simp only [Bool.and_eq_true] at h6
      exact sn_new C K B hmono hRc hRs (dcd_sp h1) (nxt_sp h6.1) hA.2.2.2.1 (m3_sp h2) (mem_sp h3) (Nat.blt_eq.mp h6.2.1) (Nat.eq_of_beq_eq_true h6.2.2) (mem_sp h4) (mem_sp h5) (ck_sp h).2
  · exact sn_newa C K B hmono hRc hRs (dcd_sp hok.1) (nxt_sp hok.2.1) hA.2.2.2.1 (Nat.blt_eq.mp hok.2.2.1) (of_decide_eq_true hok.2.2.2) h
  · exact sn_newq C K B hmono hRc hRs (dcd_sp hok.1) (nxt_sp hok.2.1) hA.2.2.2.1 (Nat.eq_of_beq_eq_true hok.2.2.1) (m3_sp hok.2.2.2.1) (Nat.eq_of_beq_eq_true hok.2.2.2.2) h
  · exact sn_cast C K B (dcd_sp hok.1) (nxt_sp hok.2.1) (m3_sp hok.2.2.1) (Nat.blt_eq.mp hok.2.2.2.1) (Nat.ble_eq.mp hok.2.2.2.2.1) (ckc_sp hok.2.2.2.2.2) h
  · obtain ⟨h1, h2, h3, h4, h5, h6, h7⟩ := hok
    refine sn_inst C K B (dcd_sp h1) (nxt_sp h2) (m3_sp h3) (Nat.blt_eq.mp h4) (Nat.ble_eq.mp h5) (ckc_sp h6) (fun g _ kd hk hg hs hx => ?_) h
    subst hg
    have := List.all_eq_true.mp h7 kd hk
    rw [hs, hx] at this
    exact m2_sp this
  · obtain ⟨h1, h2, h3⟩ := hok
    cases hy : Nat.blt y 100 with
    | true =>
      rw [hy] at h h3
      have h3 : (okHb mi i pc && _) = true := h3
      simp only [Bool.and_eq_true] at h3
      exact sn_ivs (exa_m sa sv A) C hA K B (dcd_sp h1) (nxt_sp h2) hR hcal hmono hmonoC hRc hRs (okHb_sp h3.1) (Nat.blt_eq.mp h3.2.1) (Nat.eq_of_beq_eq_true h3.2.2.1) (Nat.eq_of_beq_eq_true h3.2.2.2.1) (lkb_sp h3.2.2.2.2) h
    | false =>
      rw [hy] at h h3
      obtain ⟨h4, h5⟩ := Bool.and_eq_true_iff.mp (show (_ && _) = true from h3)
      refine sn_copy C K B (dcd_sp h1) (nxt_sp h2) hR (m2_sp h4) (fun hk kd hkd hs => ?_) h
      rw [hk] at h5
      rcases Bool.or_eq_true_iff.mp h5 with h5 | h5
      · cases h5
      have := List.all_eq_true.mp h5 kd hkd
      rw [hs] at this
      exact Nat.eq_of_beq_eq_true this
  · obtain ⟨h1, h2, h3⟩ := hok
    cases hy : Nat.blt y 100 with
    | true =>
      rw [hy] at h h3
      have h3 : (okHb mi i pc && _) = true := h3
      simp only [Bool.and_eq_true] at h3
      obtain ⟨a1, a2, a3, a4⟩ := h3
      cases hm : Nat.beq (mkd x) 1 with
      | true =>
        rw [hm] at a4
        exact sn_ini (exa_m sa sv A) C hA K B (dcd_sp h1) (nxt_sp h2) hR hcal hmono hmonoC hRc hRs (okHb_sp a1) (Nat.blt_eq.mp a2) (Nat.eq_of_beq_eq_true a3) (Nat.eq_of_beq_eq_true hm) (lkb_sp a4) h
      | false =>
        rw [hm] at a4
        have a4 : ((Nat.beq (mkd x) 2 || Nat.beq (mkd x) 3) && _) = true := a4
        simp only [Bool.and_eq_true] at a4
        exact sn_sup (exa_m sa sv A) C hA K B (dcd_sp h1) (nxt_sp h2) hR hcal hmono hmonoC hRc hRs (okHb_sp a1) (Nat.blt_eq.mp a2) (Nat.eq_of_beq_eq_true a3) (or23 a4.1) (of_decide_eq_true a4.2.1) (m3_sp a4.2.2.1) (m3_sp a4.2.2.2) h
    | false =>
      rw [hy] at h h3
      obtain ⟨h4, h5⟩ := ck_sp (show ck _ _ = some res from h)
      rw [h4] at h3
      exact sn_obj C K B (dcd_sp h1) (nxt_sp h2) (m2_sp h3) (by have := hR.1; omega) (by have := hR.2; omega) h5
  · obtain ⟨h1, h2, h3⟩ := hok
    cases hy : Nat.blt y 100 with
    | true =>
      rw [hy] at h h3
      have h3 : (okHb mi i pc && _) = true := h3
      simp only [Bool.and_eq_true] at h3
      obtain ⟨a1, a2, a3, a4⟩ := h3
      match tg, a4, h with
      | [], a4, h =>
        obtain ⟨a5, a6⟩ := Bool.and_eq_true_iff.mp (show (_ && _) = true from a4)
        exact sn_ivt (exa_m sa sv A) C hA K B (dcd_sp h1) (nxt_sp h2) hR hcal hmono hmonoC hRc hRs (okHb_sp a1) (Nat.blt_eq.mp a2) (Nat.eq_of_beq_eq_true a3) (Nat.eq_of_beq_eq_true a5) (lkb_sp a6) h
      | [D], a4, h =>
        have a4 : ((Nat.beq (mkd x) 2 || Nat.beq (mkd x) 3) && _) = true := a4
        simp only [Bool.and_eq_true] at a4
        exact sn_iup (exa_m sa sv A) C hA K B (dcd_sp h1) (nxt_sp h2) hR hcal hmono hmonoC hRc hRs (okHb_sp a1) (Nat.blt_eq.mp a2) (Nat.eq_of_beq_eq_true a3) (or23 a4.1) (m4_sp a4.2.1) (fun kd hk hs => by
          have := List.all_eq_true.mp a4.2.2.2.2 kd hk
          rw [hs] at this
          exact m3_sp this) ⟨Nat.ble_eq.mp a4.2.2.1, Nat.blt_eq.mp a4.2.2.2.1⟩ h
      | _ :: _ :: _, a4, h => cases a4
    | false =>
      rw [hy] at h h3
      cases hy2 : Nat.blt y 200 with
      | true =>
        rw [hy2] at h h3
        have h3 : (okHb mi i pc && _) = true := h3
        simp only [Bool.and_eq_true] at h3
        obtain ⟨a1, a2, a3, a4⟩ := h3
        exact sn_idy (exa_m sa sv A) C hA K B (dcd_sp h1) (nxt_sp h2) hR hcal hmono hmonoC hRc hRs (okHb_sp a1) (Nat.blt_eq.mp a2) (fun q hq => Nat.eq_of_beq_eq_true (List.all_eq_true.mp a3 q hq)) (m3_sp a4) h
      | false =>
        rw [hy2] at h h3
        cases hy3 : Nat.blt y 500 with
        | true =>
          rw [hy3] at h h3
          exact sn_slen C K B hA.2.2.2.2 (dcd_sp h1) (nxt_sp h2) hmono hRc hRs hR (m2_sp h3) h
        | false =>
          rw [hy3] at h h3
          exact sn_sch C K B hA.2.2.2.2 (dcd_sp h1) (nxt_sp h2) hmono hRc hRs hR (m2_sp h3) h
  · refine sn_iret C B (dcd_sp hok.1) (Nat.eq_of_beq_eq_true hok.2.1) ?_ h
    rcases Bool.or_eq_true_iff.mp hok.2.2 with q | q
    · obtain ⟨q1, q2⟩ := Bool.and_eq_true_iff.mp q
      exact Or.inl ⟨of_decide_eq_true q1, Nat.eq_of_beq_eq_true q2⟩
    · obtain ⟨q1, q2⟩ := Bool.and_eq_true_iff.mp q
      exact Or.inr ⟨of_decide_eq_true q1, Nat.eq_of_beq_eq_true q2⟩
  · exact sn_lret C B (dcd_sp hok.1) (Nat.eq_of_beq_eq_true hok.2.1) (of_decide_eq_true hok.2.2) h
  · obtain ⟨h1, h2, h3, h4, h5⟩ := hok
    refine sn_aret C B (dcd_sp h1) (Nat.eq_of_beq_eq_true h2) (Nat.ble_eq.mp h3) (fun q => by rw [q] at h4; cases h4) ?_ h
    cases hm : mrt mi with
    | none => rw [hm] at h5; cases h5
    | some ty => rw [hm] at h5; exact ⟨ty, rfl, h5⟩
  · exact sn_vret C B (dcd_sp hok.1) (Nat.eq_of_beq_eq_true hok.2.1) (of_decide_eq_true hok.2.2) h
  · cases h
end Stp
