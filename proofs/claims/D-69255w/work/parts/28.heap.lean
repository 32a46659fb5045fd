/-! SOUNDNESS, 5: fields, arrays, new objects -/
theorem sb_trans {ads : List (Nat × Nat)} {x g kd : Nat} (hk : kd ∈ kl ∨ (70 ≤ kd ∧ akd kd < 5)) (hg : 10 ≤ g) (h1 : sb x g = true) (h2 : sb g kd = true) : sb x kd = true := by
  have h1' := h1
  unfold sb at h1
  rcases Bool.or_eq_true_iff.mp h1 with e | e
  · rw [← Nat.eq_of_beq_eq_true e]; exact h2
  · obtain ⟨e1, e2⟩ := Bool.and_eq_true_iff.mp e
    rcases Bool.or_eq_true_iff.mp e2 with e3 | e3
    · have := Nat.eq_of_beq_eq_true e3; omega
    · exact sb_tr hk (Nat.ble_eq.mp e1) hg (Bool.and_eq_true_iff.mp e3).2 h2
theorem kind_obj {x kd : Nat} (hk : kd ∈ kl ∨ (70 ≤ kd ∧ akd kd < 5)) (hx : x < 60) (h : sb x kd = true) : kd ∈ kl := by
  rcases hk with hk | hk
  · exact hk
  · exfalso
    unfold sb at h
    rcases Bool.or_eq_true_iff.mp h with e | e
    · have := Nat.eq_of_beq_eq_true e; omega
    · obtain ⟨e1, e2⟩ := Bool.and_eq_true_iff.mp e
      rcases Bool.or_eq_true_iff.mp e2 with e3 | e3
      · have := Nat.eq_of_beq_eq_true e3; omega
      · rw [sbc_no2 (by omega)] at e3; simp at e3
theorem kind_arr {g kd : Nat} (hk : kd ∈ kl ∨ (70 ≤ kd ∧ akd kd < 5)) (hg : 60 ≤ g) (h : sb g kd = true) : kd = g := by
  unfold sb at h
  rcases Bool.or_eq_true_iff.mp h with e | e
  · exact Nat.eq_of_beq_eq_true e
  · obtain ⟨e1, e2⟩ := Bool.and_eq_true_iff.mp e
    rcases Bool.or_eq_true_iff.mp e2 with e3 | e3
    · have := Nat.eq_of_beq_eq_true e3
      rcases hk with hk | hk
      · have := kl_lt kd hk; omega
      · omega
    · rw [sbc_no hg] at e3; simp at e3
theorem akd_rng {g : Nat} (h : akd g < 5) : 70 ≤ g ∧ g < 300 := by
  unfold akd at h
  cases hb : Nat.blt g 70 || Nat.ble 207 g with
  | true =>
    rw [hb] at h
    have h : (5 : Nat) < 5 := h
    omega
  | false =>
    have := Bool.or_eq_false_iff.mp hb
    refine ⟨Nat.le_of_not_lt fun q => ?_, Nat.lt_of_not_le fun q => ?_⟩
    · have := this.1; rw [Nat.blt_eq.mpr q] at this; cases this
    · have := this.2; rw [Nat.ble_eq.mpr (by omega)] at this; cases this
theorem fix_at {k y : Nat} (h : fix_ k y < fN k) : fat k (fix_ k y) = y := by
  have h' : (kfs k).findIdx (fun q => Nat.beq q y) < (kfs k).length := h
  have := List.findIdx_getElem (p := fun q => Nat.beq q y) (xs := kfs k) (w := h')
  unfold fat
  rw [List.getD_eq_getElem?_getD, List.getElem?_eq_getElem h]
  exact Nat.eq_of_beq_eq_true this
theorem okF_sp {x y kd : Nat} (h : okF x y = true) (hk : kd ∈ kl ∨ (70 ≤ kd ∧ akd kd < 5)) (hs : sb x kd = true) : kd ∈ kl ∧ fix_ kd y < fN kd ∧ (x = fow y ∨ (x, y) ∈ sfk) := by
  unfold okF at h
  simp only [Bool.and_eq_true] at h
  obtain ⟨⟨h1, h2⟩, h3⟩ := h
  have hkd := kind_obj hk (Nat.blt_eq.mp h1) hs
  refine ⟨hkd, ?_, ?_⟩
  · have := List.all_eq_true.mp h2 kd hkd
    rw [hs] at this
    exact Nat.blt_eq.mp this
  · rcases Bool.or_eq_true_iff.mp h3 with e | e
    · exact Or.inl (Nat.eq_of_beq_eq_true e)
    · exact Or.inr (of_decide_eq_true e)
/-- the field's link -/
def okL (m idx x y : Nat) : Prop := (own m, idx, x, y) ∈ flk ∨ ∃ h, (own m, idx, x, y, h) ∈ fnk
theorem dv_ok : ∀ k ∈ kl, ∀ f ∈ kfs k, (ftg f = 0 ∧ (fty f = .int ∨ fty f = .boolean)) ∨ (ftg f = 1 ∧ fty f = .long) ∨ (10 ≤ ftg f ∧ rty (fty f) = true) := by decide +kernel
theorem kfl_ok : ∀ k ∈ kl, ∀ f ∈ kfs k, kfl k f = true := by decide +kernel
theorem Cx.ws {G : va_G} {aC : Nat → ClassId} {p : Program} {s : State} {m : MethodId} {meth : Method} {c : Code} {mi : Nat} (C : Cx G aC p s m meth c mi) : Wds s := C.2.2.2.2.2.2.2.1
theorem Cx.K {G : va_G} {aC : Nat → ClassId} {p : Program} {s : State} {m : MethodId} {meth : Method} {c : Code} {mi : Nat} (C : Cx G aC p s m meth c mi) : va_K G clK (tysA aC) s := C.2.2.2.2.2.2.2.2.1
theorem Cx.own {G : va_G} {aC : Nat → ClassId} {p : Program} {s : State} {m : MethodId} {meth : Method} {c : Code} {mi : Nat} (C : Cx G aC p s m meth c mi) : s.vm.findClass (cn (own mi)) = some m.cls := C.2.2.2.2.1
theorem Cx.init {G : va_G} {aC : Nat → ClassId} {p : Program} {s : State} {m : MethodId} {meth : Method} {c : Code} {mi : Nat} (C : Cx G aC p s m meth c mi) : meth.name = mnn mi := C.2.2.2.2.2.2.1
theorem Cx.locks {G : va_G} {aC : Nat → ClassId} {p : Program} {s : State} {m : MethodId} {meth : Method} {c : Code} {mi : Nat} (C : Cx G aC p s m meth c mi) : meth.locks = false := C.2.2.2.2.2.1
theorem fsame {s : State} (hw : Wds s) {x y kd : Nat} (hf : fix_ kd y < fN kd) (h : x = fow y ∨ (x, y) ∈ sfk) : ∀ z, s.fieldFound? (fT kd (fix_ kd y)).1 (fT kd (fix_ kd y)).2.1 (fT kd (fix_ kd y)).2.2.1 = some z → s.fieldFound? (cn x) (fT kd (fix_ kd y)).2.1 (fT kd (fix_ kd y)).2.2.1 = some z := by
  intro z
  show s.fieldFound? (cn (fow (fat kd (fix_ kd y)))) (fnm (fat kd (fix_ kd y))) (fds (fat kd (fix_ kd y))) = some z → s.fieldFound? (cn x) (fnm (fat kd (fix_ kd y))) (fds (fat kd (fix_ kd y))) = some z
  rw [fix_at hf]
  rcases h with h | h
  · rw [h]; exact id
  · exact u_same (args := #[]) (hw.1 _ (sfk_ok _ h)) z
theorem ix_in {j : Int} {y : Int32} {n : Nat} (h : j = y.toInt) (h0 : 0 ≤ j) (hn : j < (n : Int)) : vp_in y n ∧ y.toNatClampNeg = j.toNat := by
  have e : y.toNatClampNeg = j.toNat := by rw [h]; rfl
  refine ⟨fun q => ?_, e⟩
  rcases q with q | q
  · have := i32_lt.mp q; rw [i32_0] at this; omega
  · rw [e] at q; omega
section Ins
variable {sa : Nat → Nat} {b : Nat} {aC : Nat → ClassId} {ph : Bool} {L : Nat} {xs : Nat → Int32} {G : va_G} {A : Nat → Prop} {n0 u0 : Int} {ads0 : List (Nat × Nat)}
variable {p : Program} {l : Launch} {e : Env} {R : Room} {s : State} {m : MethodId} {args : Array Value} {below : List Frame} {meth : Method} {c : Code} {mi : Nat}
variable {k : Nat → Lv → List Wd → St → Rs} {res : (Int ⊕ Int) × St} {Q : State → Prop} {i : Nat} {lv : Lv} {st : List Wd} {S : St} {ads : List (Nat × Nat)} {ws : va_W} {H : Heap} {locs : List Loc} {ls : Array Slot} {vs : List Value} {pc : Nat}

theorem sn_get {n x y t : Nat} (C : Cx G aC p s m meth c mi) (K : Kc sa b aC ph L xs G A n0 u0 ads0 p l e R s m args below meth c mi k res Q) (B : Bn sa b aC ph L xs G A n0 u0 ads0 s mi lv st S ads ws H locs ls vs) (hd : decode (mby mi) pc = .ok (.getfield n, 3)) (hn : pcn mi (i + 1) = pc + 3) (hF : okF x y = true) (hL : okL mi n x y) (ht : t = ftg y)
    (h : (pr st fun g r s => ck (Nat.ble 10 g && sb x g) (nz r (k (i + 1) lv ((t, S y r 0) :: s) S))) = some res) : W p l e R s m args below meth c H locs (S 2 0 0 - n0).toNat (S 3 0 0 - u0).toNat Q (F0 m pc ls vs) := by
  obtain ⟨g, r, s1, rfl, h0, h1⟩ := pr_sp h
  obtain ⟨hg, h2⟩ := ck_sp h1
  obtain ⟨hg1, hg2⟩ := Bool.and_eq_true_iff.mp hg
  have hg1 := Nat.ble_eq.mp hg1
  obtain ⟨hr, h3⟩ := nz_sp h2
  obtain ⟨b1, b2, b3, b4, b5, b6, b7⟩ := B
  obtain ⟨w, vs', rfl, w1, w2⟩ := sr_cons b6
  obtain ⟨j, a, kd, en, e0, rfl, e2, e3, e4, e5, e6⟩ := b1.obj w1 (by omega) hr
  have e0 : r = (j : Int) + 1 := e0
  have hkk := b1.kok j a kd e2
  obtain ⟨hkd, hf, hx⟩ := okF_sp hF hkk (sb_trans (ads := ads) hkk hg1 hg2 e3)
  cases en with
  | inl q => exact absurd e6.1 (by have := kl_lt kd hkd; omega)
  | inr q =>
    obtain ⟨ci, fs⟩ := q
    obtain ⟨f1, f2, f3, f4⟩ := e6
    have f2 : ci = kix kd := f2
    subst f2
    have f3 : fs.length = fN kd := f3
    have hv := f4 (fix_ kd y) hf
    rw [fix_at hf] at hv
    have hv : vr sa b ads (ftg y) (S y r 0) (fs.getD (fix_ kd y) .null) := hv
    have hfs : fs[fix_ kd y]? = some (fs.getD (fix_ kd y) .null) := by
      rw [List.getD_eq_getElem?_getD, List.getElem?_eq_getElem (by omega)]; rfl
    have kk := K (i + 1) lv ((t, S y r 0) :: s1) S ads ws H locs ls (fs.getD (fix_ kd y) .null :: vs') h3 ⟨b1, b2, b3, b4, b5, ⟨by rw [ht]; exact hv, w2⟩, b7⟩
    rw [hn] at kk
    have hts : ∀ w ∈ lw_all, w.before args s = true := fun w hw => C.ws.w hw args
    rcases hL with hL | ⟨hh, hL⟩
    · refine va_get (C := cn kd) (T := fT kd) (N := fN kd) (own := cn (own mi)) (ref := cn x) C.1 C.2.1 hts (kin kd hkd) C.own C.K b2 j e4 (clK_at hkd) (fix_ kd y) hf ?_ (fsame C.ws hf hx) hfs hd kk
      show (Cond.fieldLink (cn (own mi)) n (cn x) (fnm (fat kd (fix_ kd y))) (fds (fat kd (fix_ kd y)))).before args s = true
      rw [fix_at hf]
      exact C.ws.w (flk_ok _ hL) args
    · refine va_getN (C := cn kd) (T := fT kd) (N := fN kd) (own := cn (own mi)) (ref := cn x) (host := cn hh) C.1 C.2.1 hts (kin kd hkd) C.own C.K b2 j e4 (clK_at hkd) (fix_ kd y) hf ?_ (fsame C.ws hf hx) hfs hd kk
      show (Cond.fieldLinkNest (cn (own mi)) n (cn x) (fnm (fat kd (fix_ kd y))) (fds (fat kd (fix_ kd y))) (cn hh)).before args s = true
      rw [fix_at hf]
      exact va_Nw.use (w := Cond.fieldLinkNest (cn (own mi)) n (cn x) (fnm y) (fds y) (cn hh)) rfl (C.ws.2.1 (own mi, n, x, y, hh) hL)
theorem sn_getc {n x y t q : Nat} {pq : Nat × Int × Int} (C : Cx G aC p s m meth c mi) (K : Kc sa b aC ph L xs G A n0 u0 ads0 p l e R s m args below meth c mi k res Q) (B : Bn sa b aC ph L xs G A n0 u0 ads0 s mi lv st S ads ws H locs ls vs) (hd : decode (mby mi) pc = .ok (.getfield n, 3)) (hn : pcn mi (i + 1) = pc + 3) (hF : okF x y = true) (hL : okL mi n x y) (ht : t = ftg y) (hp : ph = true) (hq : pt q = some pq) (hy : pq.1 = y)
    (h : (pr st fun g r s => ck (Nat.ble 10 g && sb x g) (eqr r pq.2.1 (k (i + 1) lv ((t, pq.2.2) :: s) S))) = some res) : W p l e R s m args below meth c H locs (S 2 0 0 - n0).toNat (S 3 0 0 - u0).toNat Q (F0 m pc ls vs) := by
  have e := (B.1.2.2.2.1 hp).2 q pq hq
  have hr := pt_rng q (pt_lt hq) pq hq
  refine sn_get C K B hd hn hF hL ht ?_
  obtain ⟨g, r, s1, rfl, h0, h1⟩ := pr_sp h
  obtain ⟨hg, h2⟩ := ck_sp h1
  obtain ⟨rfl, h3⟩ := eqr_sp h2
  simp only [pr, ck, nz]
  rw [Nat.ble_eq.mpr h0, hg, if_neg (by omega), ← hy, e]
  exact h3
/-- a value that a field may take -/
theorem sn_put {n x y : Nat} {z : Int} {g : Nat} {r v : Int} {w : Value} {s1 : List Wd} {vs' : List Value} (C : Cx G aC p s m meth c mi) (K : Kc sa b aC ph L xs G A n0 u0 ads0 p l e R s m args below meth c mi k res Q) (B : Bn sa b aC ph L xs G A n0 u0 ads0 s mi lv ((g, r) :: s1) S ads ws H locs ls vs') (hd : decode (mby mi) pc = .ok (.putfield n, 3)) (hn : pcn mi (i + 1) = pc + 3)
    (hF : okF x y = true) (hL : okL mi n x y) (hfin : ffi y = false ∨ (ffi y = true ∧ 2 ≤ z ∧ fow y = own mi ∧ mnn mi = "<init>" ∧ (own mi, n, x, y) ∈ flk)) (hg1 : 10 ≤ g) (hg2 : sb x g = true) (hr : r ≠ 0)
    (hv : vr sa b ads (ftg y) v w) (hnar : narrow (fty y) w = w) (hfit : fits (fty y) w = true) (h : ali ph z r (k (i + 1) lv s1 (up S y r 0 v)) = some res) : W p l e R s m args below meth c H locs (S 2 0 0 - n0).toNat (S 3 0 0 - u0).toNat Q (F0 m pc ls (w :: vs')) := by
  obtain ⟨hal, h3⟩ := ali_sp h
  obtain ⟨b1, b2, b3, b4, b5, b6, b7, b8, b9⟩ := B
  obtain ⟨w0, vs1, rfl, w1, w2⟩ := sr_cons b6
  obtain ⟨j, a, kd, en, e0, rfl, e2, e3, e4, e5, e6⟩ := b1.obj w1 (by omega) hr
  have e0 : r = (j : Int) + 1 := e0
  subst e0
  have hkk := b1.kok j a kd e2
  obtain ⟨hkd, hf, hx⟩ := okF_sp hF hkk (sb_trans (ads := ads) hkk hg1 hg2 e3)
  cases en with
  | inl q => exact absurd e6.1 (by have := kl_lt kd hkd; omega)
  | inr q =>
    obtain ⟨ci, fs⟩ := q
    obtain ⟨f1, f2, f3, f4⟩ := e6
    have f2 : ci = kix kd := f2
    subst f2
    have f3 : fs.length = fN kd := f3
    have hy := fix_at hf
    have hts : ∀ w ∈ lw_all, w.before args s = true := fun w hw => C.ws.w hw args
    have hyr := kfs_rng kd hkd _ (fat_mem hf)
    rw [hy] at hyr
    have kk : ∀ (H1 : Heap) (locs1 : List Loc), va_P G clK (ws.set j (a, .inr (kix kd, fs.set (fix_ kd y) w))) H1 → va_D A (ws.set j (a, .inr (kix kd, fs.set (fix_ kd y) w))) → va_S A s.heap H1 locs1 → W p l e R s m args below meth c H1 locs1 (S 2 0 0 - n0).toNat (S 3 0 0 - u0).toNat Q (F0 m (pc + 3) ls vs1) := by
      intro H1 locs1 p1 p2 p3
      have hR := b1.put e2 e4 hf hkd (v := v) (w := w) (by rw [hy]; exact hv) (by
        rw [hy]
        intro q1 q2
        rcases hfin with q | q
        · rw [q] at q2; cases q2
        · exact hal q1 q.2.1)
      rw [hy] at hR
      have e1 : up S y ((j : Int) + 1) 0 v 2 0 0 = S 2 0 0 := up_f (by omega)
      have e2 : up S y ((j : Int) + 1) 0 v 3 0 0 = S 3 0 0 := up_f (by omega)
      have := K (i + 1) lv s1 (up S y ((j : Int) + 1) 0 v) ads _ H1 locs1 ls vs1 h3 ⟨hR, p1, p2, p3, b5, w2, by rw [e1]; exact b7, by rw [e2]; exact b8, b9⟩
      rw [e1, e2, hn] at this
      exact this
    have hlk : (own mi, n, x, y) ∈ flk → (Cond.fieldLink (cn (own mi)) n (cn x) (fT kd (fix_ kd y)).2.1 (fT kd (fix_ kd y)).2.2.1).before args s = true := by
      intro hL
      show (Cond.fieldLink (cn (own mi)) n (cn x) (fnm (fat kd (fix_ kd y))) (fds (fat kd (fix_ kd y)))).before args s = true
      rw [hy]
      exact C.ws.w (flk_ok _ hL) args
    have hty : parseFieldDescriptor (fT kd (fix_ kd y)).2.2.1 = some (fty y) := by
      have := kty kd hkd (fix_ kd y) hf
      rw [hy] at this
      exact this
    rcases hfin with q | ⟨q1, q2, q3, q4, q5⟩
    · have hff : (fT kd (fix_ kd y)).2.2.2 = false := by
        show ffi (fat kd (fix_ kd y)) = false
        rw [hy]; exact q
      rcases hL with hL | ⟨hh, hL⟩
      · exact va_put (C := cn kd) (T := fT kd) (N := fN kd) (own := cn (own mi)) (ref := cn x) C.1 C.2.1 hts (kin kd hkd) (fun j => fty (fat kd j)) (kty kd hkd) (knm kd hkd) C.own C.K b2 b3 b4 j e4 (clK_at hkd) (fix_ kd y) hf (hlk hL) (fsame C.ws hf hx) hff hty hnar hfit (by omega) hd kk
      · refine va_putN (C := cn kd) (T := fT kd) (N := fN kd) (own := cn (own mi)) (ref := cn x) (host := cn hh) C.1 C.2.1 hts (kin kd hkd) (fun j => fty (fat kd j)) (kty kd hkd) (knm kd hkd) C.own C.K b2 b3 b4 j e4 (clK_at hkd) (fix_ kd y) hf ?_ (fsame C.ws hf hx) hff hty hnar hfit (by omega) hd kk
        show (Cond.fieldLinkNest (cn (own mi)) n (cn x) (fnm (fat kd (fix_ kd y))) (fds (fat kd (fix_ kd y))) (cn hh)).before args s = true
        rw [hy]
        exact va_Nw.use (w := Cond.fieldLinkNest (cn (own mi)) n (cn x) (fnm y) (fds y) (cn hh)) rfl (C.ws.2.1 (own mi, n, x, y, hh) hL)
    · have hff : (fT kd (fix_ kd y)).2.2.2 = true := by
        show ffi (fat kd (fix_ kd y)) = true
        rw [hy]; exact q1
      exact va_putF (C := cn kd) (T := fT kd) (N := fN kd) (own := cn (own mi)) (ref := cn x) C.1 C.2.1 hts (kin kd hkd) (fun j => fty (fat kd j)) (kty kd hkd) (knm kd hkd) C.own C.K b2 b3 b4 j e4 (clK_at hkd) (fix_ kd y) hf (hlk q5) (fsame C.ws hf hx) hff (C.init.trans q4) (by
        show cn (fow (fat kd (fix_ kd y))) = cn (own mi)
        rw [hy, q3]) hty hnar hfit (by omega) hd kk
end Ins
