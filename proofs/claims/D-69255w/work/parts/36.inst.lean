/-! SOUNDNESS, 13: the instructions that call -/
section Inst
variable {sa : Nat → Nat} {b : Nat} {aC : Nat → ClassId} {ph : Bool} {L : Nat} {xs : Nat → Int32} {G : va_G} {A : Nat → Prop} {n0 u0 : Int} {ads0 : List (Nat × Nat)}
variable {p : Program} {l : Launch} {e : Env} {R : Room} {s : State} {m : MethodId} {args : Array Value} {below : List Frame} {meth : Method} {c : Code} {mi : Nat}
variable {k : Nat → Lv → List Wd → St → Rs} {res : (Int ⊕ Int) × St} {Q : State → Prop} {i : Nat} {lv : Lv} {st : List Wd} {S : St} {ads : List (Nat × Nat)} {ws : va_W} {H : Heap} {locs : List Loc} {ls : Array Slot} {vs : List Value} {pc : Nat}

variable {Ex : State → Prop} {cg : Nat → List Wd → St → Rs}
/-- the object that a method is called on -/
theorem rc_of (C : Cx G aC p s m meth c mi) (b1 : Rl sa b aC ph L xs ads ws S) (b2 : va_P G clK ws H) {t : Nat} {v : Int} {w : Value} (ht : 10 ≤ t) (ht2 : t < 60) (hv : vr sa b ads t v w) (hz : v ≠ 0) :
    ∃ (a k : Nat), w = .ref a ∧ sb t k = true ∧ k ∈ kl ∧ S 0 v 0 = (k : Int) ∧ Rcv s H k a := by
  rcases (vr_ref (by omega)).mp hv with ⟨q, -⟩ | ⟨j, a, k, rfl, h2, rfl, h4⟩
  · exact absurd q hz
  · obtain ⟨en, f1, f2, f3⟩ := b1.2.2.1 j a k h2
    have hk60 : k < 60 := by
      unfold sb at h4
      rcases Bool.or_eq_true_iff.mp h4 with e | e
      · rw [Nat.eq_of_beq_eq_true e]; exact ht2
      · obtain ⟨-, e2⟩ := Bool.and_eq_true_iff.mp e
        rcases Bool.or_eq_true_iff.mp e2 with e3 | e3
        · have := Nat.eq_of_beq_eq_true e3; omega
        · obtain ⟨-, e5⟩ := Bool.and_eq_true_iff.mp e3
          exact Nat.lt_of_not_le fun q => by rw [sbc_no2 q] at e5; cases e5
    cases en with
    | inl q => exact absurd f3.1 (by omega)
    | inr q =>
      obtain ⟨ci, fs⟩ := q
      obtain ⟨hkd, e1, -⟩ := f3
      have e1 : ci = kix k := e1
      subst e1
      obtain ⟨cell, c1, c2, c3⟩ := va_recv C.K b2 (clK_at hkd) f1
      exact ⟨a, k, rfl, h4, hkd, f2, cell, c1, c2, c3⟩
theorem rcv_sp {z : Int} {as : List Wd} {k : List Wd → Rs} {r : (Int ⊕ Int) × St} (h : rcv z as k = some r) : ∃ w as', as = w :: as' ∧ w.2 ≠ 0 ∧ k (w :: as') = some r := by
  cases as with
  | nil => cases h
  | cons w as =>
    obtain ⟨t, v⟩ := w
    refine ⟨(t, v), as, rfl, ?_⟩
    unfold rcv at h
    simp only at h
    split at h
    · obtain ⟨h1, h2⟩ := nz_sp h; exact ⟨h1, h2⟩
    · rename_i hz
      obtain ⟨h1, h2⟩ := eqr_sp h
      exact ⟨fun q => hz (by simp only at q; omega), by rw [h1]; exact h2⟩
theorem coL_cons {t : Nat} {ts : List Nat} {ws ws' : List Wd} (h : coL (t :: ts) ws = some ws') : ∃ w r r', ws = w :: r ∧ sb t w.1 = true ∧ coL ts r = some r' ∧ ws' = (t, w.2) :: r' := by
  cases ws with
  | nil => cases h
  | cons w ws =>
    simp only [coL] at h
    cases hs : sb t w.1 with
    | false => rw [hs] at h; cases h
    | true =>
      rw [hs] at h
      cases hq : coL ts ws with
      | none => rw [hq] at h; cases h
      | some r => rw [hq] at h; cases h; exact ⟨w, ws, r, rfl, hs, hq, rfl⟩
set_option maxHeartbeats 1000000 in
theorem sn_ivs (hE : ExM A Ex) {d x y t idx : Nat} (C : Cx G aC p s m meth c mi) (hA : Ax b L xs A Ex s)
    (K : Kc sa b aC ph L xs G A n0 u0 ads0 p l e R s m args below meth c mi k res (MF below (Qs sa b aC ph L xs G A ads0 (rtg mi) res) args s (res.2 2 0 0 - n0).toNat (res.2 3 0 0 - u0).toNat A)) (B : Bn sa b aC ph L xs G A n0 u0 ads0 s mi lv st S ads ws H locs ls vs)
    (hd : decode (mby mi) pc = .ok (.invokestatic idx, 3)) (hn : pcn mi (i + 1) = pc + 3) (hR : RoomOk (d + 1) R) (hcal : ∀ x as rs, cg x as S = some rs → Cal sa b aC ph L xs G A Ex p l e d x as S rs)
    (hmono : ∀ i lv st S1, k i lv st S1 = some res → S1 2 0 0 ≤ res.2 2 0 0 ∧ S1 3 0 0 ≤ res.2 3 0 0) (hmonoC : ∀ x as rs, cg x as S = some rs → S 2 0 0 ≤ rs.2 2 0 0 ∧ S 3 0 0 ≤ rs.2 3 0 0) (hRc : (res.2 2 0 0 - n0).toNat ≤ R.cells) (hRs : (res.2 3 0 0 - u0).toNat ≤ R.slots) (hH : okH mi i pc) (hx : x < 467) (ht : t = rtg x) (h0 : mkd x = 0) (hl : (own mi, idx, x) ∈ mlk ∨ ∃ h, (own mi, idx, x, h) ∈ mnk)
    (h : (pn y [] st fun as s => ck (Nat.ble s.length 12) (cko (coL (prm x) as) fun as => bd (cg x as S) (fun v S => k (i + 1) lv (pv t v s) S) (hdl mi i lv k))) = some res) : W p l e R s m args below meth c H locs (S 2 0 0 - n0).toNat (S 3 0 0 - u0).toNat (MF below (Qs sa b aC ph L xs G A ads0 (rtg mi) res) args s (res.2 2 0 0 - n0).toNat (res.2 3 0 0 - u0).toNat A) (F0 m pc ls vs) := by
  obtain ⟨top, rest, rfl, h1, h2⟩ := pn_sp h
  rw [List.append_nil] at h2
  obtain ⟨h3, h4⟩ := ck_sp h2
  obtain ⟨as, h5, h6⟩ := cko_sp h4
  have B' := B
  obtain ⟨b1, b2, b3, b4, b5, b6, b7⟩ := B
  obtain ⟨tv, sv, rfl, s1, s2⟩ := sr_split b6
  obtain ⟨s3, s4⟩ := coL_sr b1.kok h5 (sr_rev s1)
  obtain ⟨mk, methk, ck, hf⟩ := mf_of C.ws (mck0 hx h0).1
  have hf' := hf
  obtain ⟨f1, f2, f3, f4, f5, f6, f7, f8, f9⟩ := hf
  have hlen : tv.reverse.length = (prm x).length := by rw [sr_len s3, ← s4, List.length_map]
  refine sn_inv (cg := cg) (d := d) (x := x) (t := t) (k := k) (i := i) (lv := lv) (S := S) hE C hA K B' s3 s4 s2 (Nat.ble_eq.mp h3) hd hn hx f1 f2 f3 f4 f5 f6 f7 f8 ht hR (hcal x _) hmono (hmonoC x _) hRc hRs hH ?_ h6
  intro T hT X
  have := lk_static (ls := ls) C X hf' hx h0 hl (va := tv.reverse) (rest := sv) hlen hd
  rw [List.reverse_reverse] at this
  exact this
set_option maxHeartbeats 1000000 in
theorem sn_ini (hE : ExM A Ex) {d x y t idx : Nat} (C : Cx G aC p s m meth c mi) (hA : Ax b L xs A Ex s)
    (K : Kc sa b aC ph L xs G A n0 u0 ads0 p l e R s m args below meth c mi k res (MF below (Qs sa b aC ph L xs G A ads0 (rtg mi) res) args s (res.2 2 0 0 - n0).toNat (res.2 3 0 0 - u0).toNat A)) (B : Bn sa b aC ph L xs G A n0 u0 ads0 s mi lv st S ads ws H locs ls vs)
    (hd : decode (mby mi) pc = .ok (.invokespecial idx, 3)) (hn : pcn mi (i + 1) = pc + 3) (hR : RoomOk (d + 1) R) (hcal : ∀ x as rs, cg x as S = some rs → Cal sa b aC ph L xs G A Ex p l e d x as S rs)
    (hmono : ∀ i lv st S1, k i lv st S1 = some res → S1 2 0 0 ≤ res.2 2 0 0 ∧ S1 3 0 0 ≤ res.2 3 0 0) (hmonoC : ∀ x as rs, cg x as S = some rs → S 2 0 0 ≤ rs.2 2 0 0 ∧ S 3 0 0 ≤ rs.2 3 0 0) (hRc : (res.2 2 0 0 - n0).toNat ≤ R.cells) (hRs : (res.2 3 0 0 - u0).toNat ≤ R.slots) (hH : okH mi i pc) {z : Int} (hx : x < 467) (ht : t = rtg x) (h0 : mkd x = 1) (hl : (own mi, idx, x) ∈ mlk ∨ ∃ h, (own mi, idx, x, h) ∈ mnk)
    (h : (pn y [] st fun as s => ck (Nat.ble s.length 12) (rcv z as fun as => cko (coL (prm x) as) fun as => bd (cg x as S) (fun v S => k (i + 1) lv (pv t v s) S) (hdl mi i lv k))) = some res) : W p l e R s m args below meth c H locs (S 2 0 0 - n0).toNat (S 3 0 0 - u0).toNat (MF below (Qs sa b aC ph L xs G A ads0 (rtg mi) res) args s (res.2 2 0 0 - n0).toNat (res.2 3 0 0 - u0).toNat A) (F0 m pc ls vs) := by
  obtain ⟨top, rest, rfl, h1, h2⟩ := pn_sp h
  rw [List.append_nil] at h2
  obtain ⟨h3, h4⟩ := ck_sp h2
  obtain ⟨w, as0, e0, hz, h4⟩ := rcv_sp h4
  obtain ⟨as, h5, h6⟩ := cko_sp h4
  have B' := B
  obtain ⟨b1, b2, b3, b4, b5, b6, b7⟩ := B
  obtain ⟨tv, sv, rfl, s1, s2⟩ := sr_split b6
  have s1r := sr_rev s1
  rw [e0] at s1r
  obtain ⟨v0, va, ev, v1, v2⟩ := sr_cons s1r
  rw [ev] at s1r
  obtain ⟨s3, s4⟩ := coL_sr b1.kok h5 s1r
  have hck := mckI hx (Or.inl h0)
  obtain ⟨mk, methk, ck, hf⟩ := mf_of C.ws hck.1
  have hf' := hf
  obtain ⟨f1, f2, f3, f4, f5, f6, f7, f8, f9⟩ := hf
  have hlen : va.length + 1 = (prm x).length := by
    have := sr_len s3
    rw [List.length_cons] at this
    rw [this, ← s4, List.length_map]
  obtain ⟨t0, r0, p1, p2, p3, p4⟩ := rco_sp hck.2.2.2
  rw [p1] at h5
  obtain ⟨w', rr, rr', e1, e2, e3, e4⟩ := coL_cons h5
  cases e1
  have v1' := vr_sb b1.kok v1 e2
  obtain ⟨a, kd, rfl, k1, k2, k3, k4⟩ := rc_of C b1 b2 p2 p3 v1' hz
  have etv : tv = va.reverse ++ [.ref a] := by rw [← List.reverse_reverse tv, ev, List.reverse_cons]
  subst etv
  refine sn_inv (cg := cg) (d := d) (x := x) (t := t) (k := k) (i := i) (lv := lv) (S := S) hE C hA K B' s3 s4 s2 (Nat.ble_eq.mp h3) hd hn hx f1 f2 f3 f4 f5 f6 f7 f8 ht hR (hcal x _) hmono (hmonoC x _) hRc hRs hH ?_ h6
  intro T hT X
  have := lk_init (ls := ls) C X hf' hx h0 hl (va := va) (rest := sv) (a := a) hlen hd
  rw [List.append_assoc]
  exact this
set_option maxHeartbeats 1000000 in
theorem sn_sup (hE : ExM A Ex) {d x y t idx : Nat} (C : Cx G aC p s m meth c mi) (hA : Ax b L xs A Ex s)
    (K : Kc sa b aC ph L xs G A n0 u0 ads0 p l e R s m args below meth c mi k res (MF below (Qs sa b aC ph L xs G A ads0 (rtg mi) res) args s (res.2 2 0 0 - n0).toNat (res.2 3 0 0 - u0).toNat A)) (B : Bn sa b aC ph L xs G A n0 u0 ads0 s mi lv st S ads ws H locs ls vs)
    (hd : decode (mby mi) pc = .ok (.invokespecial idx, 3)) (hn : pcn mi (i + 1) = pc + 3) (hR : RoomOk (d + 1) R) (hcal : ∀ x as rs, cg x as S = some rs → Cal sa b aC ph L xs G A Ex p l e d x as S rs)
    (hmono : ∀ i lv st S1, k i lv st S1 = some res → S1 2 0 0 ≤ res.2 2 0 0 ∧ S1 3 0 0 ≤ res.2 3 0 0) (hmonoC : ∀ x as rs, cg x as S = some rs → S 2 0 0 ≤ rs.2 2 0 0 ∧ S 3 0 0 ≤ rs.2 3 0 0) (hRc : (res.2 2 0 0 - n0).toNat ≤ R.cells) (hRs : (res.2 3 0 0 - u0).toNat ≤ R.slots) (hH : okH mi i pc) {z : Int} (hx : x < 467) (ht : t = rtg x) (h0 : mkd x = 2 ∨ mkd x = 3) (hni : mnn x ≠ "<init>") (hl : (own mi, idx, x) ∈ mlk) (hs : (own mi, idx, x) ∈ suk)
    (h : (pn y [] st fun as s => ck (Nat.ble s.length 12) (rcv z as fun as => cko (coL (prm x) as) fun as => bd (cg x as S) (fun v S => k (i + 1) lv (pv t v s) S) (hdl mi i lv k))) = some res) : W p l e R s m args below meth c H locs (S 2 0 0 - n0).toNat (S 3 0 0 - u0).toNat (MF below (Qs sa b aC ph L xs G A ads0 (rtg mi) res) args s (res.2 2 0 0 - n0).toNat (res.2 3 0 0 - u0).toNat A) (F0 m pc ls vs) := by
  obtain ⟨top, rest, rfl, h1, h2⟩ := pn_sp h
  rw [List.append_nil] at h2
  obtain ⟨h3, h4⟩ := ck_sp h2
  obtain ⟨w, as0, e0, hz, h4⟩ := rcv_sp h4
  obtain ⟨as, h5, h6⟩ := cko_sp h4
  have B' := B
  obtain ⟨b1, b2, b3, b4, b5, b6, b7⟩ := B
  obtain ⟨tv, sv, rfl, s1, s2⟩ := sr_split b6
  have s1r := sr_rev s1
  rw [e0] at s1r
  obtain ⟨v0, va, ev, v1, v2⟩ := sr_cons s1r
  rw [ev] at s1r
  obtain ⟨s3, s4⟩ := coL_sr b1.kok h5 s1r
  have hck := mckI hx (Or.inr h0)
  obtain ⟨mk, methk, ck, hf⟩ := mf_of C.ws hck.1
  have hf' := hf
  obtain ⟨f1, f2, f3, f4, f5, f6, f7, f8, f9⟩ := hf
  have hlen : va.length + 1 = (prm x).length := by
    have := sr_len s3
    rw [List.length_cons] at this
    rw [this, ← s4, List.length_map]
  obtain ⟨t0, r0, p1, p2, p3, p4⟩ := rco_sp hck.2.2.2
  rw [p1] at h5
  obtain ⟨w', rr, rr', e1, e2, e3, e4⟩ := coL_cons h5
  cases e1
  have v1' := vr_sb b1.kok v1 e2
  obtain ⟨a, kd, rfl, k1, k2, k3, k4⟩ := rc_of C b1 b2 p2 p3 v1' hz
  have etv : tv = va.reverse ++ [.ref a] := by rw [← List.reverse_reverse tv, ev, List.reverse_cons]
  subst etv
  refine sn_inv (cg := cg) (d := d) (x := x) (t := t) (k := k) (i := i) (lv := lv) (S := S) hE C hA K B' s3 s4 s2 (Nat.ble_eq.mp h3) hd hn hx f1 f2 f3 f4 f5 f6 f7 f8 ht hR (hcal x _) hmono (hmonoC x _) hRc hRs hH ?_ h6
  intro T hT X
  have := lk_super (ls := ls) C X hf' hx h0 hni hl hs (va := va) (rest := sv) (a := a) (k := kd) (by rw [hT]; exact k4) hlen hd
  rw [List.append_assoc]
  exact this
set_option maxHeartbeats 1000000 in
theorem sn_ivt (hE : ExM A Ex) {d x y t idx : Nat} (C : Cx G aC p s m meth c mi) (hA : Ax b L xs A Ex s)
    (K : Kc sa b aC ph L xs G A n0 u0 ads0 p l e R s m args below meth c mi k res (MF below (Qs sa b aC ph L xs G A ads0 (rtg mi) res) args s (res.2 2 0 0 - n0).toNat (res.2 3 0 0 - u0).toNat A)) (B : Bn sa b aC ph L xs G A n0 u0 ads0 s mi lv st S ads ws H locs ls vs)
    (hd : decode (mby mi) pc = .ok (.invokevirtual idx, 3)) (hn : pcn mi (i + 1) = pc + 3) (hR : RoomOk (d + 1) R) (hcal : ∀ x as rs, cg x as S = some rs → Cal sa b aC ph L xs G A Ex p l e d x as S rs)
    (hmono : ∀ i lv st S1, k i lv st S1 = some res → S1 2 0 0 ≤ res.2 2 0 0 ∧ S1 3 0 0 ≤ res.2 3 0 0) (hmonoC : ∀ x as rs, cg x as S = some rs → S 2 0 0 ≤ rs.2 2 0 0 ∧ S 3 0 0 ≤ rs.2 3 0 0) (hRc : (res.2 2 0 0 - n0).toNat ≤ R.cells) (hRs : (res.2 3 0 0 - u0).toNat ≤ R.slots) (hH : okH mi i pc) {z : Int} {tg : List Nat} (hx : x < 467) (ht : t = rtg x) (h0 : mkd x = 2) (hl : (own mi, idx, x) ∈ mlk ∨ ∃ h, (own mi, idx, x, h) ∈ mnk)
    (h : (pn y [] st fun as s => ck (Nat.ble s.length 12 && hdc tg as) (rcv z as fun as => cko (coL (prm x) as) fun as => bd (cg x as S) (fun v S => k (i + 1) lv (pv t v s) S) (hdl mi i lv k))) = some res) : W p l e R s m args below meth c H locs (S 2 0 0 - n0).toNat (S 3 0 0 - u0).toNat (MF below (Qs sa b aC ph L xs G A ads0 (rtg mi) res) args s (res.2 2 0 0 - n0).toNat (res.2 3 0 0 - u0).toNat A) (F0 m pc ls vs) := by
  obtain ⟨top, rest, rfl, h1, h2⟩ := pn_sp h
  rw [List.append_nil] at h2
  obtain ⟨h3, h4⟩ := ck_sp h2
  obtain ⟨h3, h3b⟩ := Bool.and_eq_true_iff.mp h3
  obtain ⟨w, as0, e0, hz, h4⟩ := rcv_sp h4
  obtain ⟨as, h5, h6⟩ := cko_sp h4
  have B' := B
  obtain ⟨b1, b2, b3, b4, b5, b6, b7⟩ := B
  obtain ⟨tv, sv, rfl, s1, s2⟩ := sr_split b6
  have s1r := sr_rev s1
  rw [e0] at s1r
  obtain ⟨v0, va, ev, v1, v2⟩ := sr_cons s1r
  rw [ev] at s1r
  obtain ⟨s3, s4⟩ := coL_sr b1.kok h5 s1r
  have hck := mckI hx (Or.inr (Or.inl h0))
  obtain ⟨mk, methk, ck, hf⟩ := mf_of C.ws hck.1
  have hf' := hf
  obtain ⟨f1, f2, f3, f4, f5, f6, f7, f8, f9⟩ := hf
  have hlen : va.length + 1 = (prm x).length := by
    have := sr_len s3
    rw [List.length_cons] at this
    rw [this, ← s4, List.length_map]
  obtain ⟨t0, r0, p1, p2, p3, p4⟩ := rco_sp hck.2.2.2
  rw [p1] at h5
  obtain ⟨w', rr, rr', e1, e2, e3, e4⟩ := coL_cons h5
  cases e1
  have v1' := vr_sb b1.kok v1 e2
  obtain ⟨a, kd, rfl, k1, k2, k3, k4⟩ := rc_of C b1 b2 p2 p3 v1' hz
  have etv : tv = va.reverse ++ [.ref a] := by rw [← List.reverse_reverse tv, ev, List.reverse_cons]
  subst etv
  refine sn_inv (cg := cg) (d := d) (x := x) (t := t) (k := k) (i := i) (lv := lv) (S := S) hE C hA K B' s3 s4 s2 (Nat.ble_eq.mp h3) hd hn hx f1 f2 f3 f4 f5 f6 f7 f8 ht hR (hcal x _) hmono (hmonoC x _) hRc hRs hH ?_ h6
  intro T hT X
  have := lk_virt (ls := ls) C X hf' hx h0 hl (va := va) (rest := sv) (a := a) (k := kd) k2 (by rw [p1]; exact k1) (by rw [hT]; exact k4) hlen hd
  rw [List.append_assoc]
  exact this
set_option maxHeartbeats 1000000 in
theorem sn_iup (hE : ExM A Ex) {d x y t idx : Nat} (C : Cx G aC p s m meth c mi) (hA : Ax b L xs A Ex s)
    (K : Kc sa b aC ph L xs G A n0 u0 ads0 p l e R s m args below meth c mi k res (MF below (Qs sa b aC ph L xs G A ads0 (rtg mi) res) args s (res.2 2 0 0 - n0).toNat (res.2 3 0 0 - u0).toNat A)) (B : Bn sa b aC ph L xs G A n0 u0 ads0 s mi lv st S ads ws H locs ls vs)
    (hd : decode (mby mi) pc = .ok (.invokevirtual idx, 3)) (hn : pcn mi (i + 1) = pc + 3) (hR : RoomOk (d + 1) R) (hcal : ∀ x as rs, cg x as S = some rs → Cal sa b aC ph L xs G A Ex p l e d x as S rs)
    (hmono : ∀ i lv st S1, k i lv st S1 = some res → S1 2 0 0 ≤ res.2 2 0 0 ∧ S1 3 0 0 ≤ res.2 3 0 0) (hmonoC : ∀ x as rs, cg x as S = some rs → S 2 0 0 ≤ rs.2 2 0 0 ∧ S 3 0 0 ≤ rs.2 3 0 0) (hRc : (res.2 2 0 0 - n0).toNat ≤ R.cells) (hRs : (res.2 3 0 0 - u0).toNat ≤ R.slots) (hH : okH mi i pc) {z : Int} {D : Nat} (hx : x < 467) (ht : t = rtg x) (h0 : mkd x = 2 ∨ mkd x = 3) (hl : (own mi, idx, D, x) ∈ ulk) (hus : ∀ kd ∈ kl, sb D kd = true → (kd, D, x) ∈ usk) (hD : 10 ≤ D ∧ D < 60)
    (h : (pn y [] st fun as s => ck (Nat.ble s.length 12 && hdc [D] as) (rcv z as fun as => cko (coL (prm x) as) fun as => bd (cg x as S) (fun v S => k (i + 1) lv (pv t v s) S) (hdl mi i lv k))) = some res) : W p l e R s m args below meth c H locs (S 2 0 0 - n0).toNat (S 3 0 0 - u0).toNat (MF below (Qs sa b aC ph L xs G A ads0 (rtg mi) res) args s (res.2 2 0 0 - n0).toNat (res.2 3 0 0 - u0).toNat A) (F0 m pc ls vs) := by
  obtain ⟨top, rest, rfl, h1, h2⟩ := pn_sp h
  rw [List.append_nil] at h2
  obtain ⟨h3, h4⟩ := ck_sp h2
  obtain ⟨h3, h3b⟩ := Bool.and_eq_true_iff.mp h3
  obtain ⟨w, as0, e0, hz, h4⟩ := rcv_sp h4
  obtain ⟨as, h5, h6⟩ := cko_sp h4
  have B' := B
  obtain ⟨b1, b2, b3, b4, b5, b6, b7⟩ := B
  obtain ⟨tv, sv, rfl, s1, s2⟩ := sr_split b6
  rw [e0] at h3b
  have s1r := sr_rev s1
  rw [e0] at s1r
  obtain ⟨v0, va, ev, v1, v2⟩ := sr_cons s1r
  rw [ev] at s1r
  obtain ⟨s3, s4⟩ := coL_sr b1.kok h5 s1r
  have hck := mckI hx (Or.inr h0)
  obtain ⟨mk, methk, ck, hf⟩ := mf_of C.ws hck.1
  have hf' := hf
  obtain ⟨f1, f2, f3, f4, f5, f6, f7, f8, f9⟩ := hf
  have hlen : va.length + 1 = (prm x).length := by
    have := sr_len s3
    rw [List.length_cons] at this
    rw [this, ← s4, List.length_map]
  obtain ⟨t0, r0, p1, p2, p3, p4⟩ := rco_sp hck.2.2.2
  rw [p1] at h5
  obtain ⟨w', rr, rr', e1, e2, e3, e4⟩ := coL_cons h5
  cases e1
  have v1' := vr_sb b1.kok v1 e2
  obtain ⟨a, kd, rfl, k1, k2, k3, k4⟩ := rc_of C b1 b2 p2 p3 v1' hz
  have etv : tv = va.reverse ++ [.ref a] := by rw [← List.reverse_reverse tv, ev, List.reverse_cons]
  subst etv
  have hDk : sb D kd = true := by
    obtain ⟨a', kd', g1, g2, g3, g4, -⟩ := rc_of C b1 b2 hD.1 hD.2 (vr_sb b1.kok v1 h3b) hz
    have : kd' = kd := by have := g4.symm.trans k3; omega
    rw [← this]; exact g2
  refine sn_inv (cg := cg) (d := d) (x := x) (t := t) (k := k) (i := i) (lv := lv) (S := S) hE C hA K B' s3 s4 s2 (Nat.ble_eq.mp h3) hd hn hx f1 f2 f3 f4 f5 f6 f7 f8 ht hR (hcal x _) hmono (hmonoC x _) hRc hRs hH ?_ h6
  intro T hT X
  have := lk_up (ls := ls) C X hf' hx h0 hl (va := va) (rest := sv) (a := a) (k := kd) (hus kd k2 hDk) (by rw [hT]; exact k4) hlen hd
  rw [List.append_assoc]
  exact this
theorem vsw_sp {a : Int} {k : Nat → Rs} {r : (Int ⊕ Int) × St} : ∀ {l : List (Int × Nat)}, vsw a l k = some r → ∃ q ∈ l, a = q.1 ∧ k q.2 = some r := by
  intro l
  induction l with
  | nil => intro h; cases h
  | cons q l ih =>
    intro h
    simp only [vsw] at h
    split at h
    · exact ⟨q, List.mem_cons_self, ‹_›, h⟩
    · obtain ⟨q', h1, h2⟩ := ih h
      exact ⟨q', List.mem_cons_of_mem _ h1, h2⟩
theorem vtc : ∀ j, j < 10 → ∀ q ∈ vt j, 0 ≤ q.1 ∧ (q.1.toNat, j, q.2) ∈ dsk ∧ q.2 < 467 ∧ (mkd q.2 = 2 ∨ mkd q.2 = 3) ∧ (dnm j).desc = mds q.2 ∧ sb ((prm q.2).headD 0) q.1.toNat = true := by decide +kernel
theorem vcl_ok : ∀ j, j < 10 → 10 ≤ vcl j ∧ vcl j < 60 := by decide +kernel
set_option maxHeartbeats 1000000 in
theorem sn_idy (hE : ExM A Ex) {d x y t idx : Nat} (C : Cx G aC p s m meth c mi) (hA : Ax b L xs A Ex s)
    (K : Kc sa b aC ph L xs G A n0 u0 ads0 p l e R s m args below meth c mi k res (MF below (Qs sa b aC ph L xs G A ads0 (rtg mi) res) args s (res.2 2 0 0 - n0).toNat (res.2 3 0 0 - u0).toNat A)) (B : Bn sa b aC ph L xs G A n0 u0 ads0 s mi lv st S ads ws H locs ls vs)
    (hd : decode (mby mi) pc = .ok (.invokevirtual idx, 3)) (hn : pcn mi (i + 1) = pc + 3) (hR : RoomOk (d + 1) R) (hcal : ∀ x as rs, cg x as S = some rs → Cal sa b aC ph L xs G A Ex p l e d x as S rs)
    (hmono : ∀ i lv st S1, k i lv st S1 = some res → S1 2 0 0 ≤ res.2 2 0 0 ∧ S1 3 0 0 ≤ res.2 3 0 0) (hmonoC : ∀ x as rs, cg x as S = some rs → S 2 0 0 ≤ rs.2 2 0 0 ∧ S 3 0 0 ≤ rs.2 3 0 0) (hRc : (res.2 2 0 0 - n0).toNat ≤ R.cells) (hRs : (res.2 3 0 0 - u0).toNat ≤ R.slots) (hH : okH mi i pc) (hx : x < 10) (ht : ∀ q ∈ vt x, t = rtg q.2) (hl : (own mi, idx, x) ∈ dlk)
    (h : (pn y [] st fun as s => ck (Nat.ble s.length 12) (hd1 as fun w as => ck (sb (vcl x) w.1) (nz w.2 (vsw (S 0 w.2 0) (vt x) fun m => cko (coL (prm m).tail as) fun as => bd (cg m (((prm m).headD 0, w.2) :: as) S) (fun v S => k (i + 1) lv (pv t v s) S) (hdl mi i lv k))))) = some res) : W p l e R s m args below meth c H locs (S 2 0 0 - n0).toNat (S 3 0 0 - u0).toNat (MF below (Qs sa b aC ph L xs G A ads0 (rtg mi) res) args s (res.2 2 0 0 - n0).toNat (res.2 3 0 0 - u0).toNat A) (F0 m pc ls vs) := by
  obtain ⟨top, rest, rfl, h1, h2⟩ := pn_sp h
  rw [List.append_nil] at h2
  obtain ⟨h3, h4⟩ := ck_sp h2
  cases e0 : top.reverse with
  | nil => rw [e0] at h4; cases h4
  | cons w as0 =>
  rw [e0] at h4
  obtain ⟨h5, h4⟩ := ck_sp (show ck (sb (vcl x) w.1) _ = some res from h4)
  obtain ⟨hz, h4⟩ := nz_sp h4
  obtain ⟨q, hq, hqk, h4⟩ := vsw_sp h4
  obtain ⟨as, h6, h7⟩ := cko_sp h4
  obtain ⟨g1, g2, g3, g4, g5, g6⟩ := vtc x hx q hq
  obtain ⟨qk, xx⟩ := q
  simp only at g1 g2 g3 g4 g5 g6 hqk h6 h7
  have ht := ht _ hq
  simp only at ht
  obtain ⟨vc1, vc2⟩ := vcl_ok x hx
  have B' := B
  obtain ⟨b1, b2, b3, b4, b5, b6, b7⟩ := B
  obtain ⟨tv, sv, rfl, s1, s2⟩ := sr_split b6
  have s1r := sr_rev s1
  rw [e0] at s1r
  obtain ⟨v0, va, ev, v1, v2⟩ := sr_cons s1r
  obtain ⟨a, kd, rfl, k1, k2, k3, k4⟩ := rc_of C b1 b2 vc1 vc2 (vr_sb b1.kok v1 h5) hz
  have ekd : qk.toNat = kd := by have := k3.symm.trans hqk; omega
  rw [ekd] at g2 g6
  have hck := mckI g3 (Or.inr g4)
  obtain ⟨mk, methk, ck, hf⟩ := mf_of C.ws hck.1
  have hf' := hf
  obtain ⟨f1, f2, f3, f4, f5, f6, f7, f8, f9⟩ := hf
  obtain ⟨t0, r0, p1, p2, p3, p4⟩ := rco_sp hck.2.2.2
  rw [p1] at h6 h7 g6
  obtain ⟨s3, s4⟩ := coL_sr b1.kok h6 v2
  have hv0 : vr sa b ads t0 w.2 (.ref a) := by
    rcases (vr_ref (by omega)).mp (vr_sb b1.kok v1 h5) with ⟨q, -⟩ | ⟨j, a', k', z1, z2, z3, z4⟩
    · exact absurd q hz
    · obtain ⟨en, y1, y2, y3⟩ := b1.2.2.1 j a' k' z2
      have : k' = kd := by rw [← z1] at y2; have := y2.symm.trans k3; omega
      subst this
      cases z3
      exact (vr_ref (by omega)).mpr (Or.inr ⟨j, a, k', z1, z2, rfl, g6⟩)
  have s5 : sr sa b ads ((t0, w.2) :: as) (.ref a :: va) := ⟨hv0, s3⟩
  have hlen : va.length + 1 = (prm xx).length := by
    have s4 : as.map (·.1) = r0 := s4
    rw [p1, List.length_cons, sr_len s3, ← s4, List.length_map]
  have etv : tv = va.reverse ++ [.ref a] := by rw [← List.reverse_reverse tv, ev, List.reverse_cons]
  subst etv
  refine sn_inv (cg := cg) (d := d) (x := xx) (t := t) (k := k) (i := i) (lv := lv) (S := S) hE C hA K B' s5 (by rw [p1]; exact congrArg (t0 :: ·) s4) s2 (Nat.ble_eq.mp h3) hd hn g3 f1 f2 f3 f4 f5 f6 f7 f8 ht hR (hcal xx _) hmono (hmonoC xx _) hRc hRs hH ?_ h7
  intro T hT X
  have := lk_dyn (ls := ls) C X hf' g3 g4 hx hl g5 (va := va) (rest := sv) (a := a) (k := kd) g2 (by rw [hT]; exact k4) hlen hd
  rw [List.append_assoc]
  exact this
end Inst
