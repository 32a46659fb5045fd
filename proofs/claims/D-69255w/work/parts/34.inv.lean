/-! SOUNDNESS, 11: a call, behind its link -/
section Inv
variable {sa : Nat → Nat} {b : Nat} {aC : Nat → ClassId} {ph : Bool} {L : Nat} {xs : Nat → Int32} {G : va_G} {A : Nat → Prop} {n0 u0 : Int} {ads0 : List (Nat × Nat)}
variable {p : Program} {l : Launch} {e : Env} {R : Room} {s : State} {m : MethodId} {args : Array Value} {below : List Frame} {meth : Method} {c : Code} {mi : Nat}
variable {k : Nat → Lv → List Wd → St → Rs} {res : (Int ⊕ Int) × St} {Q : State → Prop} {i : Nat} {lv : Lv} {st : List Wd} {S : St} {ads : List (Nat × Nat)} {ws : va_W} {H : Heap} {locs : List Loc} {ls : Array Slot} {vs : List Value} {pc : Nat}

variable {Ex : State → Prop} {cg : Nat → List Wd → St → Rs}
/-- the handler over a place -/
def okH (mi i pc : Nat) : Prop := (hnd mi i = none ∧ ∀ q ∈ mht mi, ¬ (q.1 ≤ pc ∧ pc < q.2.1)) ∨ ∃ (kc tg h0 h1 h2 h3 : Nat), hnd mi i = some ((kc : Int), tg) ∧ mht mi = [(h0, h1, h2, h3)] ∧ h0 ≤ pc ∧ pc < h1 ∧ pcn mi tg = h2 ∧ h3 ≠ 0 ∧ (own mi, h3, kc) ∈ clk
theorem cov_iff (x : ExceptionTableEntry) (pc : Nat) : covers x pc = true ↔ x.startPc ≤ pc ∧ pc < x.endPc := by simp [covers]
set_option maxHeartbeats 4000000 in
theorem sn_inv (hE : ExM A Ex) {d x t : Nat} {as s1 : List Wd} {va rest : List Value} {mk : MethodId} {methk : Method} {ck : Code} {ig : Instr} (C : Cx G aC p s m meth c mi) (hA : Ax b L xs A Ex s)
    (K : Kc sa b aC ph L xs G A n0 u0 ads0 p l e R s m args below meth c mi k res (MF below (Qs sa b aC ph L xs G A ads0 (rtg mi) res) args s (res.2 2 0 0 - n0).toNat (res.2 3 0 0 - u0).toNat A)) (B : Bn sa b aC ph L xs G A n0 u0 ads0 s mi lv st S ads ws H locs ls vs)
    (hsr : sr sa b ads as va) (hpm : as.map (·.1) = prm x) (hsr1 : sr sa b ads s1 rest) (hlen : s1.length ≤ 12) (hd : decode (mby mi) pc = .ok (ig, 3)) (hn : pcn mi (i + 1) = pc + 3)
    (hx : x < 467) (hnm : s.methodNamed? (mnm x) = some mk) (hmk : s.vm.method? mk = some methk) (hck : methk.code = some ck) (hcode : ck.code = mby x) (hml : ck.maxLocals = mxl x) (hret : methk.sig.returnType = mrt x) (hlk : methk.locks = false) (htb : ck.exceptionTable.toList.map (fun h => (h.startPc, h.endPc, h.handlerPc, h.catchType)) = mht x)
    (ht : t = rtg x) (hR : RoomOk (d + 1) R) (hcal : ∀ rs, cg x as S = some rs → Cal sa b aC ph L xs G A Ex p l e d x as S rs)
    (hmono : ∀ i lv st S1, k i lv st S1 = some res → S1 2 0 0 ≤ res.2 2 0 0 ∧ S1 3 0 0 ≤ res.2 3 0 0) (hmonoC : ∀ rs, cg x as S = some rs → S 2 0 0 ≤ rs.2 2 0 0 ∧ S 3 0 0 ≤ rs.2 3 0 0) (hRc : (res.2 2 0 0 - n0).toNat ≤ R.cells) (hRs : (res.2 3 0 0 - u0).toNat ≤ R.slots) (hH : okH mi i pc)
    (link : ∀ T : State, T.heap = H → Stand p l e R s m args below meth c T locs (S 2 0 0 - n0).toNat (S 3 0 0 - u0).toNat → ∃ vm1, Stand p l e R s m args below meth c (T.setVm vm1) locs (S 2 0 0 - n0).toNat (S 3 0 0 - u0).toNat ∧ ∀ target, (∀ acts, Steps p.tables e below (doInvoke e ((T.setVm vm1).setTop (F0 m pc ls rest)) acts mk va.toArray).1 target) → Steps p.tables e below (T.setTop (F0 m pc ls vs)) target)
    (h : bd (cg x as S) (fun v S => k (i + 1) lv (pv t v s1) S) (hdl mi i lv k) = some res) : W p l e R s m args below meth c H locs (S 2 0 0 - n0).toNat (S 3 0 0 - u0).toNat (MF below (Qs sa b aC ph L xs G A ads0 (rtg mi) res) args s (res.2 2 0 0 - n0).toNat (res.2 3 0 0 - u0).toNat A) (F0 m pc ls vs) := by
  cases hcg : cg x as S with
  | none => rw [hcg] at h; cases h
  | some rs =>
    rw [hcg] at h
    obtain ⟨oo, S1⟩ := rs
    obtain ⟨mc1, mc2⟩ := hmonoC _ hcg
    have mc1 : S 2 0 0 ≤ S1 2 0 0 := mc1
    have mc2 : S 3 0 0 ≤ S1 3 0 0 := mc2
    have hcal := hcal _ hcg
    obtain ⟨b1, b2, b3, b4, ⟨ms, m1, m2⟩, b6, b7, b8, ⟨xx, b9⟩⟩ := B
    have hsum := sr_sum hsr1
    have hbnd : S1 2 0 0 ≤ res.2 2 0 0 ∧ S1 3 0 0 ≤ res.2 3 0 0 := by
      cases oo with
      | inl v => exact hmono _ _ _ _ h
      | inr z =>
        simp only [bd, hdl] at h
        split at h
        · cases h; exact ⟨Int.le_refl _, Int.le_refl _⟩
        · obtain ⟨-, h⟩ := eqr_sp h; exact hmono _ _ _ _ h
    intro T hT X
    obtain ⟨vm1, X1, lk⟩ := link T hT X
    obtain ⟨tt, o, Lc, st1, h2, h3, h4, h5, h6⟩ := sn_body hE (T := T.setVm vm1) (g := F0 m pc ls rest) (x := x) (d := d) (mk := mk) (methk := methk) (ck := ck) (as := as) (vs := va) (S := S) (rs := (oo, S1)) (ads := ads) (ws := ws) C hA X1 rfl (by rw [C.2.2.2.1]; exact m2.1) rfl (by rw [C.2.1]; exact hd) (by show (rest.map fun v => v.category).sum ≤ 24; omega) hx hnm hmk hck hcode hml hret hlk htb b1 (by show va_P G clK ws T.heap; rw [hT]; exact b2) b3 (by show va_S A s.heap T.heap locs; rw [hT]; exact b4) hsr hpm hR hcal (by simp only; omega) (by simp only; omega)
    obtain ⟨ads1, ws1, q1, ⟨x1, q2⟩, q3, q4, q5, q6, q7⟩ := h3
    have hheap : ∀ (T' : State), tt.heap = T'.heap → va_S A s.heap T'.heap (locs ++ Lc) := by
      intro T' hT'
      rw [← hT']
      have z1 : T.heap.size ≤ tt.heap.size := q5
      have z2 : ∀ q : Nat, q < T.heap.size → ¬ A q → tt.heap[q]? = T.heap[q]? := q6
      rw [hT] at z1 z2
      refine ⟨Nat.le_trans b4.1 z1, fun q h1 h2 => (z2 q (Nat.lt_of_lt_of_le h1 b4.1) h2).trans (b4.2.1 q h1 h2), fun lq hq => ?_⟩
      rcases List.mem_append.mp hq with hq | hq
      · exact b4.2.2 lq hq
      · exact h6 lq hq
    have hbn : ∀ (T' : State) (lv' : Lv) (ms' : List (Nat × Value)) (st' : List Wd) (vs' : List Value), tt.heap = T'.heap → lr sa b ads1 lv' ms' → (∀ q ∈ ms', q ∈ ms) → sr sa b ads1 st' vs' → Bn sa b aC ph L xs G A n0 u0 ads0 s mi lv' st' S1 ads1 ws1 T'.heap (locs ++ Lc) ls vs' := by
      intro T' lv' ms' st' vs' hT' hl hsub hs
      exact ⟨q1, by rw [← hT']; exact q3, q4, hheap T' hT', ⟨ms', hl, m2.1, m2.2.1, fun q hq => m2.2.2 q (hsub q hq)⟩, hs, by have : S1 2 0 0 = (oo, S1).2 2 0 0 := rfl; omega, by have : S1 3 0 0 = (oo, S1).2 3 0 0 := rfl; omega, ⟨xx ++ x1, by rw [q2, b9, List.append_assoc]⟩⟩
    have hl1 : lr sa b ads1 lv ms := by rw [q2]; exact lr_app m1 _
    have hr1 : sr sa b ads1 s1 rest := by rw [q2]; exact sr_app hsr1 _
    have ec : (S 2 0 0 - n0).toNat + (S1 2 0 0 - S 2 0 0).toNat = (S1 2 0 0 - n0).toNat := by omega
    have es : (S 3 0 0 - u0).toNat + (S1 3 0 0 - S 3 0 0).toNat = (S1 3 0 0 - u0).toNat := by omega
    cases oo with
    | inl v =>
      have h : k (i + 1) lv (pv t v s1) S1 = some res := h
      have hov : ∃ vv : Option Value, o = .returned vv ∧ sr sa b ads1 (pv t v s1) (vv.toList ++ rest) := by
        rcases q7 with ⟨r1, r2⟩ | ⟨r1, w, r2, r3⟩
        · refine ⟨none, r2, ?_⟩
          unfold pv
          rw [ht, r1]
          exact hr1
        · refine ⟨some w, r2, ?_⟩
          unfold pv
          rw [ht, show Nat.beq (rtg x) 9 = false by rw [Bool.eq_false_iff]; intro q; exact r1 (Nat.eq_of_beq_eq_true q)]
          exact ⟨r3, hr1⟩
      obtain ⟨vv, ho, hsv⟩ := hov
      subst ho
      obtain ⟨T', X', -, -, hTt⟩ := X1.outOf rfl (by rw [C.2.1]; exact hd) h2 h4 h5
      have hhp : tt.heap = T'.heap := by rw [hTt]; rfl
      have kk := K (i + 1) lv (pv t v s1) S1 ads1 ws1 T'.heap (locs ++ Lc) ls (vv.toList ++ rest) h (hbn T' lv ms _ _ hhp hl1 (fun q hq => hq) hsv)
      simp only [ec, es] at X'
      obtain ⟨t2, st2, q⟩ := kk T' rfl X'
      refine ⟨t2, lk _ fun acts => (st1 acts).trans ?_, q⟩
      rw [hTt]
      rw [hn] at st2
      exact st2
    | inr z =>
      obtain ⟨j, a, kx, ho, hj, hz, hk5⟩ := q7
      subst ho
      obtain ⟨T', X', -, -, hTt⟩ := X1.outOfThrown rfl h2 h4 h5
      have hhp : tt.heap = T'.heap := by rw [hTt]; rfl
      simp only [ec, es] at X'
      have h : hdl mi i lv k z S1 = some res := h
      rcases hH with ⟨e1, e2⟩ | ⟨kc, tg, g0, g1, g2, g3, e1, e2, e3, e4, e5, e6, e7⟩
      · unfold hdl at h
        rw [e1] at h
        cases h
        obtain ⟨r1, r2, r3, r4, r5⟩ := X'.leaveThrown a (g := F0 m pc ls rest) rfl rfl rfl (fun y hy => by
          rw [Bool.eq_false_iff]
          intro hc
          have hm : (y.startPc, y.endPc, y.handlerPc, y.catchType) ∈ mht mi := by rw [← C.2.2.2.2.2.2.2.2.2]; exact List.mem_map.mpr ⟨y, hy, rfl⟩
          exact e2 _ hm ((cov_iff y pc).mp hc)) C.locks
        refine ⟨_, lk _ fun acts => (st1 acts).trans ?_, .threw a, r2, r3, ⟨ads1, ws1, q1, ⟨xx ++ x1, by rw [q2, b9, List.append_assoc]⟩, ?_, q4, ?_, ?_, ⟨j, a, kx, rfl, hj, hz, hk5⟩⟩, locs ++ Lc, r4, r5, (hheap T' hhp).2.2⟩
        · rw [hTt]; exact r1
        · show va_P G clK ws1 T'.heap
          rw [← hhp]; exact q3
        · exact (hheap T' hhp).1
        · exact (hheap T' hhp).2.1
      · unfold hdl at h
        rw [e1] at h
        obtain ⟨hzk, h⟩ := eqr_sp h
        have hkc : kx = kc := by simp only at hzk; omega
        subst hkc
        have htab : ∃ y, c.exceptionTable.toList = [y] ∧ y.startPc = g0 ∧ y.endPc = g1 ∧ y.handlerPc = g2 ∧ y.catchType = g3 := by
          have := C.2.2.2.2.2.2.2.2.2
          rw [e2] at this
          match hh : c.exceptionTable.toList, this with
          | [], this => cases this
          | [y], this =>
            simp only [List.map_cons, List.map_nil, List.cons.injEq, Prod.mk.injEq, and_true] at this
            exact ⟨y, rfl, this.1, this.2.1, this.2.2.1, this.2.2.2⟩
          | y1 :: y2 :: ys, this => simp at this
        obtain ⟨y, y1, y2, y3, y4, y5⟩ := htab
        have hkd : kx ∈ kl := by rcases hk5 with q | q <;> subst q <;> decide
        obtain ⟨en, f1, f2, f3⟩ := q1.2.2.1 j a kx hj
        cases en with
        | inl q => exact absurd f3.1 (by have := kl_lt kx hkd; omega)
        | inr q =>
          obtain ⟨ci, fs⟩ := q
          have f2 : ci = kix kx := f3.2.1
          subst f2
          have hP' : va_P G clK ws1 T'.heap := by rw [← hhp]; exact q3
          obtain ⟨cell, c1, c2, c3⟩ := va_recv C.K hP' (clK_at hkd) f1
          obtain ⟨vm2, X2, st3⟩ := ct_walk X' (a := a) (g := F0 m pc ls rest) rfl C.own y1 ((cov_iff y pc).mpr ⟨by omega, by omega⟩) (by omega) (by rw [y5]; exact C.ws.w (clk_ok _ e7) args) c3 c1 c2 (va_asg _ _)
          have kk := K tg lv [(5, 0)] S1 ads1 ws1 T'.heap (locs ++ Lc) ls [.ref a] h (hbn T' lv ms _ _ hhp hl1 (fun q hq => hq) ⟨⟨a, rfl⟩, trivial⟩)
          obtain ⟨t2, st2, q⟩ := kk (T'.setVm vm2) rfl X2
          refine ⟨t2, lk _ fun acts => (st1 acts).trans ?_, q⟩
          rw [hTt]
          refine st3 _ ?_
          rw [y4]
          rw [e5] at st2
          exact st2
end Inv
