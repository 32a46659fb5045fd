theorem z_eq {v : Int} {y : Int32} (h : v = y.toInt) (q : y = 0) : v = 0 := by rw [h, q]; rfl
theorem z_neq {v : Int} {y : Int32} (h : v = y.toInt) (q : ¬ y = 0) : ¬ v = 0 := fun z => q (Int32.toInt_inj.mp (by rw [← h, z]; rfl))
theorem z_ne {v : Int} {y : Int32} (h : v = y.toInt) (q : ¬ y = 0) : ¬ v = 0 := z_neq h q
theorem z_nne {v : Int} {y : Int32} (h : v = y.toInt) (q : y = 0) : v = 0 := z_eq h q
theorem i32_lt {x y : Int32} : x < y ↔ x.toInt < y.toInt := Int32.lt_iff_toInt_lt
theorem i32_le {x y : Int32} : x ≤ y ↔ x.toInt ≤ y.toInt := Int32.le_iff_toInt_le
theorem i32_0 : (0 : Int32).toInt = 0 := rfl
theorem z_lt {v : Int} {y : Int32} (h : v = y.toInt) (q : y < 0) : v < 0 := by have := i32_lt.mp q; rw [i32_0] at this; omega
theorem z_nlt {v : Int} {y : Int32} (h : v = y.toInt) (q : ¬ y < 0) : ¬ v < 0 := fun z => q (i32_lt.mpr (by rw [i32_0]; omega))
theorem z_ge {v : Int} {y : Int32} (h : v = y.toInt) (q : 0 ≤ y) : ¬ v < 0 := by have := i32_le.mp q; rw [i32_0] at this; omega
theorem z_nge {v : Int} {y : Int32} (h : v = y.toInt) (q : ¬ 0 ≤ y) : v < 0 := by
  have : ¬ (0 : Int32).toInt ≤ y.toInt := fun z => q (i32_le.mpr z)
  rw [i32_0] at this
  omega
theorem z_gt {v : Int} {y : Int32} (h : v = y.toInt) (q : 0 < y) : 0 < v := by have := i32_lt.mp q; rw [i32_0] at this; omega
theorem z_ngt {v : Int} {y : Int32} (h : v = y.toInt) (q : ¬ 0 < y) : ¬ 0 < v := fun z => q (i32_lt.mpr (by rw [i32_0]; omega))
theorem z_le {v : Int} {y : Int32} (h : v = y.toInt) (q : y ≤ 0) : ¬ 0 < v := by have := i32_le.mp q; rw [i32_0] at this; omega
theorem z_nle {v : Int} {y : Int32} (h : v = y.toInt) (q : ¬ y ≤ 0) : 0 < v := by
  have : ¬ y.toInt ≤ (0 : Int32).toInt := fun z => q (i32_le.mpr z)
  rw [i32_0] at this
  omega
theorem y_eq {v w : Int} {x y : Int32} (h : v = x.toInt) (g : w = y.toInt) (q : x = y) : v = w := by rw [h, g, q]
theorem y_neq {v w : Int} {x y : Int32} (h : v = x.toInt) (g : w = y.toInt) (q : ¬ x = y) : ¬ v = w := fun z => q (Int32.toInt_inj.mp (by rw [← h, ← g, z]))
theorem y_ne {v w : Int} {x y : Int32} (h : v = x.toInt) (g : w = y.toInt) (q : ¬ x = y) : ¬ v = w := y_neq h g q
theorem y_nne {v w : Int} {x y : Int32} (h : v = x.toInt) (g : w = y.toInt) (q : x = y) : v = w := y_eq h g q
theorem y_lt {v w : Int} {x y : Int32} (h : v = x.toInt) (g : w = y.toInt) (q : x < y) : v < w := by have := i32_lt.mp q; omega
theorem y_nlt {v w : Int} {x y : Int32} (h : v = x.toInt) (g : w = y.toInt) (q : ¬ x < y) : ¬ v < w := fun z => q (i32_lt.mpr (by omega))
theorem y_ge {v w : Int} {x y : Int32} (h : v = x.toInt) (g : w = y.toInt) (q : y ≤ x) : ¬ v < w := by have := i32_le.mp q; omega
theorem y_nge {v w : Int} {x y : Int32} (h : v = x.toInt) (g : w = y.toInt) (q : ¬ y ≤ x) : v < w := by
  have : ¬ y.toInt ≤ x.toInt := fun z => q (i32_le.mpr z)
  omega
theorem y_gt {v w : Int} {x y : Int32} (h : v = x.toInt) (g : w = y.toInt) (q : y < x) : w < v := by have := i32_lt.mp q; omega
theorem y_ngt {v w : Int} {x y : Int32} (h : v = x.toInt) (g : w = y.toInt) (q : ¬ y < x) : ¬ w < v := fun z => q (i32_lt.mpr (by omega))
theorem y_le {v w : Int} {x y : Int32} (h : v = x.toInt) (g : w = y.toInt) (q : x ≤ y) : ¬ w < v := by have := i32_le.mp q; omega
theorem y_nle {v w : Int} {x y : Int32} (h : v = x.toInt) (g : w = y.toInt) (q : ¬ x ≤ y) : w < v := by
  have : ¬ x.toInt ≤ y.toInt := fun z => q (i32_le.mpr z)
  omega
theorem i64_lt {x y : Int64} : x < y ↔ x.toInt < y.toInt := Int64.lt_iff_toInt_lt
theorem cv_lcmp (x y : Int64) : l_cmp x.toInt y.toInt = (lg_cmp x y).toInt := by
  unfold l_cmp lg_cmp
  by_cases h : x > y
  · have h' : y.toInt < x.toInt := i64_lt.mp h
    rw [if_pos h, if_neg (by omega), if_neg (by omega)]; rfl
  · have h' : ¬ y.toInt < x.toInt := fun z => h (i64_lt.mpr z)
    rw [if_neg h]
    by_cases g : x = y
    · subst g; rw [if_neg (by omega), if_pos rfl, if_pos rfl]; rfl
    · have : x.toInt ≠ y.toInt := fun z => g (Int64.toInt_inj.mp z)
      rw [if_pos (by omega), if_neg g]; rfl
/-- a reference as the kit has it -/
def vo (ads : List (Nat × Nat)) (v : Int) (r : Option Nat) : Prop := (v = 0 ∧ r = none) ∨ ∃ (j a k : Nat), v = (j : Int) + 1 ∧ ads[j]? = some (a, k) ∧ r = some a
theorem vr_opt {sa : Nat → Nat} {b : Nat} {ads : List (Nat × Nat)} {g : Nat} {v : Int} {w : Value} (h : vr sa b ads g v w) (h6 : 6 ≤ g) : ∃ r, w = va_rf r ∧ vo ads v r := by
  rcases (vr_ref h6).mp h with ⟨h0, h⟩ | ⟨j, a, k, h1, h2, h3, -⟩
  · exact ⟨none, h, Or.inl ⟨h0, rfl⟩⟩
  · exact ⟨some a, h3, Or.inr ⟨j, a, k, h1, h2, rfl⟩⟩
theorem opt_inj {sa : Nat → Nat} {b : Nat} {aC : Nat → ClassId} {ph : Bool} {L : Nat} {xs : Nat → Int32} {ads : List (Nat × Nat)} {ws : va_W} {S : St} {A : Nat → Prop} (h : Rl sa b aC ph L xs ads ws S) (hD : va_D A ws) {v w : Int} {r q : Option Nat} (h1 : vo ads v r) (h2 : vo ads w q) : v = w ↔ r = q := by
  rcases h1 with ⟨a1, a2⟩ | ⟨j, a, k, a1, a2, a3⟩ <;> rcases h2 with ⟨c1, c2⟩ | ⟨j', a', k', c1, c2, c3⟩
  · subst a1; subst c1; subst a2; subst c2; exact ⟨fun _ => rfl, fun _ => rfl⟩
  · subst a2; subst c3; exact ⟨fun z => by omega, fun z => by cases z⟩
  · subst a3; subst c2; exact ⟨fun z => by omega, fun z => by cases z⟩
  · subst a3; subst c3
    constructor
    · intro z
      have : j = j' := by omega
      subst this
      cases a2.symm.trans c2
      rfl
    · intro z
      cases z
      obtain ⟨e1, f1, -⟩ := h.2.2.1 j a k a2
      obtain ⟨e2, f2, -⟩ := h.2.2.1 j' a k' c2
      have := hD.1 j j' _ _ f1 f2 rfl
      omega
section Ins
variable {sa : Nat → Nat} {b : Nat} {aC : Nat → ClassId} {ph : Bool} {L : Nat} {xs : Nat → Int32} {G : va_G} {A : Nat → Prop} {n0 u0 : Int} {ads0 : List (Nat × Nat)}
variable {p : Program} {l : Launch} {e : Env} {R : Room} {s : State} {m : MethodId} {args : Array Value} {below : List Frame} {meth : Method} {c : Code} {mi : Nat}
variable {k : Nat → Lv → List Wd → St → Rs} {res : (Int ⊕ Int) × St} {Q : State → Prop} {i : Nat} {lv : Lv} {st : List Wd} {S : St} {ads : List (Nat × Nat)} {ws : va_W} {H : Heap} {locs : List Loc} {ls : Array Slot} {vs : List Value} {pc : Nat}

theorem sn_goto {off : Int} {x : Nat} (C : Cx G aC p s m meth c mi) (K : Kc sa b aC ph L xs G A n0 u0 ads0 p l e R s m args below meth c mi k res Q) (B : Bn sa b aC ph L xs G A n0 u0 ads0 s mi lv st S ads ws H locs ls vs) (hd : decode (mby mi) pc = .ok (.goto off, 3)) (hj : (pc : Int) + off = (pcn mi x : Int)) (h : k x lv st S = some res) : W p l e R s m args below meth c H locs (S 2 0 0 - n0).toNat (S 3 0 0 - u0).toNat Q (F0 m pc ls vs) :=
  lv_goto C.1 C.2.1 hd hj (K x lv st S ads ws H locs ls vs h B)
theorem sn_if_eq {off : Int} {x : Nat} (C : Cx G aC p s m meth c mi) (K : Kc sa b aC ph L xs G A n0 u0 ads0 p l e R s m args below meth c mi k res Q) (B : Bn sa b aC ph L xs G A n0 u0 ads0 s mi lv st S ads ws H locs ls vs) (hd : decode (mby mi) pc = .ok (.ifCond .eq off, 3)) (hn : pcn mi (i + 1) = pc + 3) (hj : (pc : Int) + off = (pcn mi x : Int)) (h : (p1 0 st fun a s => if a = 0 then k x lv s S else k (i + 1) lv s S) = some res) : W p l e R s m args below meth c H locs (S 2 0 0 - n0).toNat (S 3 0 0 - u0).toNat Q (F0 m pc ls vs) := by
  obtain ⟨v1, s1, rfl, h1⟩ := p1_sp h
  obtain ⟨b1, b2, b3, b4, b5, b6, b7⟩ := B
  obtain ⟨w, vs', rfl, w1, w2⟩ := sr_cons b6
  obtain ⟨y, rfl, hy⟩ := w1
  have hB : Bn sa b aC ph L xs G A n0 u0 ads0 s mi lv s1 S ads ws H locs ls vs' := ⟨b1, b2, b3, b4, b5, w2, b7⟩
  refine lv_if_eq C.1 C.2.1 hd hj (fun q => ?_) (fun q => ?_)
  · refine K x lv s1 S ads ws H locs ls vs' ?_ hB
    rw [if_pos (z_eq hy q)] at h1
    exact h1
  · rw [← hn]
    refine K (i + 1) lv s1 S ads ws H locs ls vs' ?_ hB
    rw [if_neg (z_neq hy q)] at h1
    exact h1
theorem sn_if_ne {off : Int} {x : Nat} (C : Cx G aC p s m meth c mi) (K : Kc sa b aC ph L xs G A n0 u0 ads0 p l e R s m args below meth c mi k res Q) (B : Bn sa b aC ph L xs G A n0 u0 ads0 s mi lv st S ads ws H locs ls vs) (hd : decode (mby mi) pc = .ok (.ifCond .ne off, 3)) (hn : pcn mi (i + 1) = pc + 3) (hj : (pc : Int) + off = (pcn mi x : Int)) (h : (p1 0 st fun a s => if a = 0 then k (i + 1) lv s S else k x lv s S) = some res) : W p l e R s m args below meth c H locs (S 2 0 0 - n0).toNat (S 3 0 0 - u0).toNat Q (F0 m pc ls vs) := by
  obtain ⟨v1, s1, rfl, h1⟩ := p1_sp h
  obtain ⟨b1, b2, b3, b4, b5, b6, b7⟩ := B
  obtain ⟨w, vs', rfl, w1, w2⟩ := sr_cons b6
  obtain ⟨y, rfl, hy⟩ := w1
  have hB : Bn sa b aC ph L xs G A n0 u0 ads0 s mi lv s1 S ads ws H locs ls vs' := ⟨b1, b2, b3, b4, b5, w2, b7⟩
  refine lv_if_ne C.1 C.2.1 hd hj (fun q => ?_) (fun q => ?_)
  · refine K x lv s1 S ads ws H locs ls vs' ?_ hB
    rw [if_neg (z_ne hy q)] at h1
    exact h1
  · rw [← hn]
    refine K (i + 1) lv s1 S ads ws H locs ls vs' ?_ hB
    rw [if_pos (z_nne hy q)] at h1
    exact h1
theorem sn_if_lt {off : Int} {x : Nat} (C : Cx G aC p s m meth c mi) (K : Kc sa b aC ph L xs G A n0 u0 ads0 p l e R s m args below meth c mi k res Q) (B : Bn sa b aC ph L xs G A n0 u0 ads0 s mi lv st S ads ws H locs ls vs) (hd : decode (mby mi) pc = .ok (.ifCond .lt off, 3)) (hn : pcn mi (i + 1) = pc + 3) (hj : (pc : Int) + off = (pcn mi x : Int)) (h : (p1 0 st fun a s => if a < 0 then k x lv s S else k (i + 1) lv s S) = some res) : W p l e R s m args below meth c H locs (S 2 0 0 - n0).toNat (S 3 0 0 - u0).toNat Q (F0 m pc ls vs) := by
  obtain ⟨v1, s1, rfl, h1⟩ := p1_sp h
  obtain ⟨b1, b2, b3, b4, b5, b6, b7⟩ := B
  obtain ⟨w, vs', rfl, w1, w2⟩ := sr_cons b6
  obtain ⟨y, rfl, hy⟩ := w1
  have hB : Bn sa b aC ph L xs G A n0 u0 ads0 s mi lv s1 S ads ws H locs ls vs' := ⟨b1, b2, b3, b4, b5, w2, b7⟩
  refine lv_if_lt C.1 C.2.1 hd hj (fun q => ?_) (fun q => ?_)
  · refine K x lv s1 S ads ws H locs ls vs' ?_ hB
    rw [if_pos (z_lt hy q)] at h1
    exact h1
  · rw [← hn]
    refine K (i + 1) lv s1 S ads ws H locs ls vs' ?_ hB
    rw [if_neg (z_nlt hy q)] at h1
    exact h1
theorem sn_if_ge {off : Int} {x : Nat} (C : Cx G aC p s m meth c mi) (K : Kc sa b aC ph L xs G A n0 u0 ads0 p l e R s m args below meth c mi k res Q) (B : Bn sa b aC ph L xs G A n0 u0 ads0 s mi lv st S ads ws H locs ls vs) (hd : decode (mby mi) pc = .ok (.ifCond .ge off, 3)) (hn : pcn mi (i + 1) = pc + 3) (hj : (pc : Int) + off = (pcn mi x : Int)) (h : (p1 0 st fun a s => if a < 0 then k (i + 1) lv s S else k x lv s S) = some res) : W p l e R s m args below meth c H locs (S 2 0 0 - n0).toNat (S 3 0 0 - u0).toNat Q (F0 m pc ls vs) := by
  obtain ⟨v1, s1, rfl, h1⟩ := p1_sp h
  obtain ⟨b1, b2, b3, b4, b5, b6, b7⟩ := B
  obtain ⟨w, vs', rfl, w1, w2⟩ := sr_cons b6
  obtain ⟨y, rfl, hy⟩ := w1
  have hB : Bn sa b aC ph L xs G A n0 u0 ads0 s mi lv s1 S ads ws H locs ls vs' := ⟨b1, b2, b3, b4, b5, w2, b7⟩
  refine lv_if_ge C.1 C.2.1 hd hj (fun q => ?_) (fun q => ?_)
  · refine K x lv s1 S ads ws H locs ls vs' ?_ hB
    rw [if_neg (z_ge hy q)] at h1
    exact h1
  · rw [← hn]
    refine K (i + 1) lv s1 S ads ws H locs ls vs' ?_ hB
    rw [if_pos (z_nge hy q)] at h1
    exact h1
theorem sn_if_gt {off : Int} {x : Nat} (C : Cx G aC p s m meth c mi) (K : Kc sa b aC ph L xs G A n0 u0 ads0 p l e R s m args below meth c mi k res Q) (B : Bn sa b aC ph L xs G A n0 u0 ads0 s mi lv st S ads ws H locs ls vs) (hd : decode (mby mi) pc = .ok (.ifCond .gt off, 3)) (hn : pcn mi (i + 1) = pc + 3) (hj : (pc : Int) + off = (pcn mi x : Int)) (h : (p1 0 st fun a s => if 0 < a then k x lv s S else k (i + 1) lv s S) = some res) : W p l e R s m args below meth c H locs (S 2 0 0 - n0).toNat (S 3 0 0 - u0).toNat Q (F0 m pc ls vs) := by
  obtain ⟨v1, s1, rfl, h1⟩ := p1_sp h
  obtain ⟨b1, b2, b3, b4, b5, b6, b7⟩ := B
  obtain ⟨w, vs', rfl, w1, w2⟩ := sr_cons b6
  obtain ⟨y, rfl, hy⟩ := w1
  have hB : Bn sa b aC ph L xs G A n0 u0 ads0 s mi lv s1 S ads ws H locs ls vs' := ⟨b1, b2, b3, b4, b5, w2, b7⟩
  refine lv_if_gt C.1 C.2.1 hd hj (fun q => ?_) (fun q => ?_)
  · refine K x lv s1 S ads ws H locs ls vs' ?_ hB
    rw [if_pos (z_gt hy q)] at h1
    exact h1
  · rw [← hn]
    refine K (i + 1) lv s1 S ads ws H locs ls vs' ?_ hB
    rw [if_neg (z_ngt hy q)] at h1
    exact h1
theorem sn_if_le {off : Int} {x : Nat} (C : Cx G aC p s m meth c mi) (K : Kc sa b aC ph L xs G A n0 u0 ads0 p l e R s m args below meth c mi k res Q) (B : Bn sa b aC ph L xs G A n0 u0 ads0 s mi lv st S ads ws H locs ls vs) (hd : decode (mby mi) pc = .ok (.ifCond .le off, 3)) (hn : pcn mi (i + 1) = pc + 3) (hj : (pc : Int) + off = (pcn mi x : Int)) (h : (p1 0 st fun a s => if 0 < a then k (i + 1) lv s S else k x lv s S) = some res) : W p l e R s m args below meth c H locs (S 2 0 0 - n0).toNat (S 3 0 0 - u0).toNat Q (F0 m pc ls vs) := by
  obtain ⟨v1, s1, rfl, h1⟩ := p1_sp h
  obtain ⟨b1, b2, b3, b4, b5, b6, b7⟩ := B
  obtain ⟨w, vs', rfl, w1, w2⟩ := sr_cons b6
  obtain ⟨y, rfl, hy⟩ := w1
  have hB : Bn sa b aC ph L xs G A n0 u0 ads0 s mi lv s1 S ads ws H locs ls vs' := ⟨b1, b2, b3, b4, b5, w2, b7⟩
  refine lv_if_le C.1 C.2.1 hd hj (fun q => ?_) (fun q => ?_)
  · refine K x lv s1 S ads ws H locs ls vs' ?_ hB
    rw [if_neg (z_le hy q)] at h1
    exact h1
  · rw [← hn]
    refine K (i + 1) lv s1 S ads ws H locs ls vs' ?_ hB
    rw [if_pos (z_nle hy q)] at h1
    exact h1
theorem sn_icmp_eq {off : Int} {x : Nat} (C : Cx G aC p s m meth c mi) (K : Kc sa b aC ph L xs G A n0 u0 ads0 p l e R s m args below meth c mi k res Q) (B : Bn sa b aC ph L xs G A n0 u0 ads0 s mi lv st S ads ws H locs ls vs) (hd : decode (mby mi) pc = .ok (.if_icmp .eq off, 3)) (hn : pcn mi (i + 1) = pc + 3) (hj : (pc : Int) + off = (pcn mi x : Int)) (h : (p1 0 st fun b s => p1 0 s fun a s => if a = b then k x lv s S else k (i + 1) lv s S) = some res) : W p l e R s m args below meth c H locs (S 2 0 0 - n0).toNat (S 3 0 0 - u0).toNat Q (F0 m pc ls vs) := by
  obtain ⟨v1, s1, rfl, h1⟩ := p1_sp h
  obtain ⟨v2, s2, rfl, h9⟩ := p1_sp h1
  obtain ⟨b1, b2, b3, b4, b5, b6, b7⟩ := B
  obtain ⟨w, vs', rfl, w1, w2⟩ := sr_cons b6
  obtain ⟨w', vs'', rfl, w3, w4⟩ := sr_cons w2
  obtain ⟨y, rfl, hy⟩ := w1
  obtain ⟨y2, rfl, hy2⟩ := w3
  have hy : v1 = y.toInt := hy
  have hy2 : v2 = y2.toInt := hy2
  have hB : Bn sa b aC ph L xs G A n0 u0 ads0 s mi lv s2 S ads ws H locs ls vs'' := ⟨b1, b2, b3, b4, b5, w4, b7⟩
  refine lv_icmp_eq C.1 C.2.1 hd hj (fun q => ?_) (fun q => ?_)
  · refine K x lv s2 S ads ws H locs ls vs'' ?_ hB
    rw [if_pos (y_eq hy2 hy q)] at h9
    exact h9
  · rw [← hn]
    refine K (i + 1) lv s2 S ads ws H locs ls vs'' ?_ hB
    rw [if_neg (y_neq hy2 hy q)] at h9
    exact h9
theorem sn_icmp_ne {off : Int} {x : Nat} (C : Cx G aC p s m meth c mi) (K : Kc sa b aC ph L xs G A n0 u0 ads0 p l e R s m args below meth c mi k res Q) (B : Bn sa b aC ph L xs G A n0 u0 ads0 s mi lv st S ads ws H locs ls vs) (hd : decode (mby mi) pc = .ok (.if_icmp .ne off, 3)) (hn : pcn mi (i + 1) = pc + 3) (hj : (pc : Int) + off = (pcn mi x : Int)) (h : (p1 0 st fun b s => p1 0 s fun a s => if a = b then k (i + 1) lv s S else k x lv s S) = some res) : W p l e R s m args below meth c H locs (S 2 0 0 - n0).toNat (S 3 0 0 - u0).toNat Q (F0 m pc ls vs) := by
  obtain ⟨v1, s1, rfl, h1⟩ := p1_sp h
  obtain ⟨v2, s2, rfl, h9⟩ := p1_sp h1
  obtain ⟨b1, b2, b3, b4, b5, b6, b7⟩ := B
  obtain ⟨w, vs', rfl, w1, w2⟩ := sr_cons b6
  obtain ⟨w', vs'', rfl, w3, w4⟩ := sr_cons w2
  obtain ⟨y, rfl, hy⟩ := w1
  obtain ⟨y2, rfl, hy2⟩ := w3
  have hy : v1 = y.toInt := hy
  have hy2 : v2 = y2.toInt := hy2
  have hB : Bn sa b aC ph L xs G A n0 u0 ads0 s mi lv s2 S ads ws H locs ls vs'' := ⟨b1, b2, b3, b4, b5, w4, b7⟩
  refine lv_icmp_ne C.1 C.2.1 hd hj (fun q => ?_) (fun q => ?_)
  · refine K x lv s2 S ads ws H locs ls vs'' ?_ hB
    rw [if_neg (y_ne hy2 hy q)] at h9
    exact h9
  · rw [← hn]
    refine K (i + 1) lv s2 S ads ws H locs ls vs'' ?_ hB
    rw [if_pos (y_nne hy2 hy q)] at h9
    exact h9
theorem sn_icmp_lt {off : Int} {x : Nat} (C : Cx G aC p s m meth c mi) (K : Kc sa b aC ph L xs G A n0 u0 ads0 p l e R s m args below meth c mi k res Q) (B : Bn sa b aC ph L xs G A n0 u0 ads0 s mi lv st S ads ws H locs ls vs) (hd : decode (mby mi) pc = .ok (.if_icmp .lt off, 3)) (hn : pcn mi (i + 1) = pc + 3) (hj : (pc : Int) + off = (pcn mi x : Int)) (h : (p1 0 st fun b s => p1 0 s fun a s => if a < b then k x lv s S else k (i + 1) lv s S) = some res) : W p l e R s m args below meth c H locs (S 2 0 0 - n0).toNat (S 3 0 0 - u0).toNat Q (F0 m pc ls vs) := by
  obtain ⟨v1, s1, rfl, h1⟩ := p1_sp h
  obtain ⟨v2, s2, rfl, h9⟩ := p1_sp h1
  obtain ⟨b1, b2, b3, b4, b5, b6, b7⟩ := B
  obtain ⟨w, vs', rfl, w1, w2⟩ := sr_cons b6
  obtain ⟨w', vs'', rfl, w3, w4⟩ := sr_cons w2
  obtain ⟨y, rfl, hy⟩ := w1
  obtain ⟨y2, rfl, hy2⟩ := w3
  have hy : v1 = y.toInt := hy
  have hy2 : v2 = y2.toInt := hy2
  have hB : Bn sa b aC ph L xs G A n0 u0 ads0 s mi lv s2 S ads ws H locs ls vs'' := ⟨b1, b2, b3, b4, b5, w4, b7⟩
  refine lv_icmp_lt C.1 C.2.1 hd hj (fun q => ?_) (fun q => ?_)
  · refine K x lv s2 S ads ws H locs ls vs'' ?_ hB
    rw [if_pos (y_lt hy2 hy q)] at h9
    exact h9
  · rw [← hn]
    refine K (i + 1) lv s2 S ads ws H locs ls vs'' ?_ hB
    rw [if_neg (y_nlt hy2 hy q)] at h9
    exact h9
theorem sn_icmp_ge {off : Int} {x : Nat} (C : Cx G aC p s m meth c mi) (K : Kc sa b aC ph L xs G A n0 u0 ads0 p l e R s m args below meth c mi k res Q) (B : Bn sa b aC ph L xs G A n0 u0 ads0 s mi lv st S ads ws H locs ls vs) (hd : decode (mby mi) pc = .ok (.if_icmp .ge off, 3)) (hn : pcn mi (i + 1) = pc + 3) (hj : (pc : Int) + off = (pcn mi x : Int)) (h : (p1 0 st fun b s => p1 0 s fun a s => if a < b then k (i + 1) lv s S else k x lv s S) = some res) : W p l e R s m args below meth c H locs (S 2 0 0 - n0).toNat (S 3 0 0 - u0).toNat Q (F0 m pc ls vs) := by
  obtain ⟨v1, s1, rfl, h1⟩ := p1_sp h
  obtain ⟨v2, s2, rfl, h9⟩ := p1_sp h1
  obtain ⟨b1, b2, b3, b4, b5, b6, b7⟩ := B
  obtain ⟨w, vs', rfl, w1, w2⟩ := sr_cons b6
  obtain ⟨w', vs'', rfl, w3, w4⟩ := sr_cons w2
  obtain ⟨y, rfl, hy⟩ := w1
  obtain ⟨y2, rfl, hy2⟩ := w3
  have hy : v1 = y.toInt := hy
  have hy2 : v2 = y2.toInt := hy2
  have hB : Bn sa b aC ph L xs G A n0 u0 ads0 s mi lv s2 S ads ws H locs ls vs'' := ⟨b1, b2, b3, b4, b5, w4, b7⟩
  refine lv_icmp_ge C.1 C.2.1 hd hj (fun q => ?_) (fun q => ?_)
  · refine K x lv s2 S ads ws H locs ls vs'' ?_ hB
    rw [if_neg (y_ge hy2 hy q)] at h9
    exact h9
  · rw [← hn]
    refine K (i + 1) lv s2 S ads ws H locs ls vs'' ?_ hB
    rw [if_pos (y_nge hy2 hy q)] at h9
    exact h9
theorem sn_icmp_gt {off : Int} {x : Nat} (C : Cx G aC p s m meth c mi) (K : Kc sa b aC ph L xs G A n0 u0 ads0 p l e R s m args below meth c mi k res Q) (B : Bn sa b aC ph L xs G A n0 u0 ads0 s mi lv st S ads ws H locs ls vs) (hd : decode (mby mi) pc = .ok (.if_icmp .gt off, 3)) (hn : pcn mi (i + 1) = pc + 3) (hj : (pc : Int) + off = (pcn mi x : Int)) (h : (p1 0 st fun b s => p1 0 s fun a s => if b < a then k x lv s S else k (i + 1) lv s S) = some res) : W p l e R s m args below meth c H locs (S 2 0 0 - n0).toNat (S 3 0 0 - u0).toNat Q (F0 m pc ls vs) := by
  obtain ⟨v1, s1, rfl, h1⟩ := p1_sp h
  obtain ⟨v2, s2, rfl, h9⟩ := p1_sp h1
  obtain ⟨b1, b2, b3, b4, b5, b6, b7⟩ := B
  obtain ⟨w, vs', rfl, w1, w2⟩ := sr_cons b6
  obtain ⟨w', vs'', rfl, w3, w4⟩ := sr_cons w2
  obtain ⟨y, rfl, hy⟩ := w1
  obtain ⟨y2, rfl, hy2⟩ := w3
  have hy : v1 = y.toInt := hy
  have hy2 : v2 = y2.toInt := hy2
  have hB : Bn sa b aC ph L xs G A n0 u0 ads0 s mi lv s2 S ads ws H locs ls vs'' := ⟨b1, b2, b3, b4, b5, w4, b7⟩
  refine lv_icmp_gt C.1 C.2.1 hd hj (fun q => ?_) (fun q => ?_)
  · refine K x lv s2 S ads ws H locs ls vs'' ?_ hB
    rw [if_pos (y_gt hy2 hy q)] at h9
    exact h9
  · rw [← hn]
    refine K (i + 1) lv s2 S ads ws H locs ls vs'' ?_ hB
    rw [if_neg (y_ngt hy2 hy q)] at h9
    exact h9
theorem sn_icmp_le {off : Int} {x : Nat} (C : Cx G aC p s m meth c mi) (K : Kc sa b aC ph L xs G A n0 u0 ads0 p l e R s m args below meth c mi k res Q) (B : Bn sa b aC ph L xs G A n0 u0 ads0 s mi lv st S ads ws H locs ls vs) (hd : decode (mby mi) pc = .ok (.if_icmp .le off, 3)) (hn : pcn mi (i + 1) = pc + 3) (hj : (pc : Int) + off = (pcn mi x : Int)) (h : (p1 0 st fun b s => p1 0 s fun a s => if b < a then k (i + 1) lv s S else k x lv s S) = some res) : W p l e R s m args below meth c H locs (S 2 0 0 - n0).toNat (S 3 0 0 - u0).toNat Q (F0 m pc ls vs) := by
  obtain ⟨v1, s1, rfl, h1⟩ := p1_sp h
  obtain ⟨v2, s2, rfl, h9⟩ := p1_sp h1
  obtain ⟨b1, b2, b3, b4, b5, b6, b7⟩ := B
  obtain ⟨w, vs', rfl, w1, w2⟩ := sr_cons b6
  obtain ⟨w', vs'', rfl, w3, w4⟩ := sr_cons w2
  obtain ⟨y, rfl, hy⟩ := w1
  obtain ⟨y2, rfl, hy2⟩ := w3
  have hy : v1 = y.toInt := hy
  have hy2 : v2 = y2.toInt := hy2
  have hB : Bn sa b aC ph L xs G A n0 u0 ads0 s mi lv s2 S ads ws H locs ls vs'' := ⟨b1, b2, b3, b4, b5, w4, b7⟩
  refine lv_icmp_le C.1 C.2.1 hd hj (fun q => ?_) (fun q => ?_)
  · refine K x lv s2 S ads ws H locs ls vs'' ?_ hB
    rw [if_neg (y_le hy2 hy q)] at h9
    exact h9
  · rw [← hn]
    refine K (i + 1) lv s2 S ads ws H locs ls vs'' ?_ hB
    rw [if_pos (y_nle hy2 hy q)] at h9
    exact h9
theorem sn_ifnull {off : Int} {x : Nat} (C : Cx G aC p s m meth c mi) (K : Kc sa b aC ph L xs G A n0 u0 ads0 p l e R s m args below meth c mi k res Q) (B : Bn sa b aC ph L xs G A n0 u0 ads0 s mi lv st S ads ws H locs ls vs) (hd : decode (mby mi) pc = .ok (.ifnull off, 3)) (hn : pcn mi (i + 1) = pc + 3) (hj : (pc : Int) + off = (pcn mi x : Int)) (h : (pr st fun g a s => ck (Nat.ble 10 g) (if a = 0 then k x lv s S else k (i + 1) lv s S)) = some res) : W p l e R s m args below meth c H locs (S 2 0 0 - n0).toNat (S 3 0 0 - u0).toNat Q (F0 m pc ls vs) := by
  obtain ⟨g, v1, s1, rfl, h0, h1⟩ := pr_sp h
  obtain ⟨hg, h1⟩ := ck_sp h1
  have hg := Nat.ble_eq.mp hg
  obtain ⟨b1, b2, b3, b4, b5, b6, b7⟩ := B
  obtain ⟨w, vs', rfl, w1, w2⟩ := sr_cons b6
  have hB : Bn sa b aC ph L xs G A n0 u0 ads0 s mi lv s1 S ads ws H locs ls vs' := ⟨b1, b2, b3, b4, b5, w2, b7⟩
  rcases (vr_ref (by omega)).mp w1 with ⟨q0, rfl⟩ | ⟨j, a, kk, q0, q1, rfl, q2⟩
  · rw [if_pos q0] at h1
    exact lv_ifnullN C.1 C.2.1 hd hj (K x lv s1 S ads ws H locs ls vs' h1 hB)
  · rw [if_neg (by omega)] at h1
    refine lv_ifnull C.1 C.2.1 hd ?_
    rw [← hn]
    exact K (i + 1) lv s1 S ads ws H locs ls vs' h1 hB
theorem sn_ifnonnull {off : Int} {x : Nat} (C : Cx G aC p s m meth c mi) (K : Kc sa b aC ph L xs G A n0 u0 ads0 p l e R s m args below meth c mi k res Q) (B : Bn sa b aC ph L xs G A n0 u0 ads0 s mi lv st S ads ws H locs ls vs) (hd : decode (mby mi) pc = .ok (.ifnonnull off, 3)) (hn : pcn mi (i + 1) = pc + 3) (hj : (pc : Int) + off = (pcn mi x : Int)) (h : (pr st fun g a s => ck (Nat.ble 10 g) (if a = 0 then k (i + 1) lv s S else k x lv s S)) = some res) : W p l e R s m args below meth c H locs (S 2 0 0 - n0).toNat (S 3 0 0 - u0).toNat Q (F0 m pc ls vs) := by
  obtain ⟨g, v1, s1, rfl, h0, h1⟩ := pr_sp h
  obtain ⟨hg, h1⟩ := ck_sp h1
  have hg := Nat.ble_eq.mp hg
  obtain ⟨b1, b2, b3, b4, b5, b6, b7⟩ := B
  obtain ⟨w, vs', rfl, w1, w2⟩ := sr_cons b6
  have hB : Bn sa b aC ph L xs G A n0 u0 ads0 s mi lv s1 S ads ws H locs ls vs' := ⟨b1, b2, b3, b4, b5, w2, b7⟩
  rcases (vr_ref (by omega)).mp w1 with ⟨q0, rfl⟩ | ⟨j, a, kk, q0, q1, rfl, q2⟩
  · rw [if_pos q0] at h1
    refine lv_ifnonnullN C.1 C.2.1 hd ?_
    rw [← hn]
    exact K (i + 1) lv s1 S ads ws H locs ls vs' h1 hB
  · rw [if_neg (by omega)] at h1
    exact lv_ifnonnull C.1 C.2.1 hd hj (K x lv s1 S ads ws H locs ls vs' h1 hB)
theorem sn_acmp_eq {off : Int} {x : Nat} (C : Cx G aC p s m meth c mi) (K : Kc sa b aC ph L xs G A n0 u0 ads0 p l e R s m args below meth c mi k res Q) (B : Bn sa b aC ph L xs G A n0 u0 ads0 s mi lv st S ads ws H locs ls vs) (hd : decode (mby mi) pc = .ok (.if_acmp .eq off, 3)) (hn : pcn mi (i + 1) = pc + 3) (hj : (pc : Int) + off = (pcn mi x : Int)) (h : (pr st fun g b s => pr s fun h a s => ck (Nat.ble 10 g && Nat.ble 10 h) (if a = b then k x lv s S else k (i + 1) lv s S)) = some res) : W p l e R s m args below meth c H locs (S 2 0 0 - n0).toNat (S 3 0 0 - u0).toNat Q (F0 m pc ls vs) := by
  obtain ⟨g, v1, s1, rfl, h0, h1⟩ := pr_sp h
  obtain ⟨g2, v2, s2, rfl, h00, h8⟩ := pr_sp h1
  obtain ⟨hg, h9⟩ := ck_sp h8
  have hg1 := Nat.ble_eq.mp (Bool.and_eq_true_iff.mp hg).1
  have hg2 := Nat.ble_eq.mp (Bool.and_eq_true_iff.mp hg).2
  obtain ⟨b1, b2, b3, b4, b5, b6, b7⟩ := B
  obtain ⟨w, vs', rfl, w1, w2⟩ := sr_cons b6
  obtain ⟨w', vs'', rfl, w3, w4⟩ := sr_cons w2
  have hB : Bn sa b aC ph L xs G A n0 u0 ads0 s mi lv s2 S ads ws H locs ls vs'' := ⟨b1, b2, b3, b4, b5, w4, b7⟩
  obtain ⟨r1, e1, d1⟩ := vr_opt w1 (by omega)
  obtain ⟨r2, e2, d2⟩ := vr_opt w3 (by omega)
  subst e1
  subst e2
  have key : v2 = v1 ↔ r2 = r1 := opt_inj b1 b3 d2 d1
  refine lv_acmp_eq C.1 C.2.1 hd hj (fun q => ?_) (fun q => ?_)
  · refine K x lv s2 S ads ws H locs ls vs'' ?_ hB
    rw [if_pos (key.mpr q)] at h9
    exact h9
  · rw [← hn]
    refine K (i + 1) lv s2 S ads ws H locs ls vs'' ?_ hB
    rw [if_neg (fun z => q (key.mp z))] at h9
    exact h9
theorem sn_acmp_ne {off : Int} {x : Nat} (C : Cx G aC p s m meth c mi) (K : Kc sa b aC ph L xs G A n0 u0 ads0 p l e R s m args below meth c mi k res Q) (B : Bn sa b aC ph L xs G A n0 u0 ads0 s mi lv st S ads ws H locs ls vs) (hd : decode (mby mi) pc = .ok (.if_acmp .ne off, 3)) (hn : pcn mi (i + 1) = pc + 3) (hj : (pc : Int) + off = (pcn mi x : Int)) (h : (pr st fun g b s => pr s fun h a s => ck (Nat.ble 10 g && Nat.ble 10 h) (if a = b then k (i + 1) lv s S else k x lv s S)) = some res) : W p l e R s m args below meth c H locs (S 2 0 0 - n0).toNat (S 3 0 0 - u0).toNat Q (F0 m pc ls vs) := by
  obtain ⟨g, v1, s1, rfl, h0, h1⟩ := pr_sp h
  obtain ⟨g2, v2, s2, rfl, h00, h8⟩ := pr_sp h1
  obtain ⟨hg, h9⟩ := ck_sp h8
  have hg1 := Nat.ble_eq.mp (Bool.and_eq_true_iff.mp hg).1
  have hg2 := Nat.ble_eq.mp (Bool.and_eq_true_iff.mp hg).2
  obtain ⟨b1, b2, b3, b4, b5, b6, b7⟩ := B
  obtain ⟨w, vs', rfl, w1, w2⟩ := sr_cons b6
  obtain ⟨w', vs'', rfl, w3, w4⟩ := sr_cons w2
  have hB : Bn sa b aC ph L xs G A n0 u0 ads0 s mi lv s2 S ads ws H locs ls vs'' := ⟨b1, b2, b3, b4, b5, w4, b7⟩
  obtain ⟨r1, e1, d1⟩ := vr_opt w1 (by omega)
  obtain ⟨r2, e2, d2⟩ := vr_opt w3 (by omega)
  subst e1
  subst e2
  have key : v2 = v1 ↔ r2 = r1 := opt_inj b1 b3 d2 d1
  refine lv_acmp_ne C.1 C.2.1 hd hj (fun q => ?_) (fun q => ?_)
  · refine K x lv s2 S ads ws H locs ls vs'' ?_ hB
    rw [if_neg (fun z => q (key.mp z))] at h9
    exact h9
  · rw [← hn]
    refine K (i + 1) lv s2 S ads ws H locs ls vs'' ?_ hB
    rw [if_pos (key.mpr q)] at h9
    exact h9
theorem sn_lcmp (C : Cx G aC p s m meth c mi) (K : Kc sa b aC ph L xs G A n0 u0 ads0 p l e R s m args below meth c mi k res Q) (B : Bn sa b aC ph L xs G A n0 u0 ads0 s mi lv st S ads ws H locs ls vs) (hd : decode (mby mi) pc = .ok (.lcmp, 1)) (hn : pcn mi (i + 1) = pc + 1) (h : (p1 1 st fun b s => p1 1 s fun a s => k (i + 1) lv ((0, l_cmp a b) :: s) S) = some res) : W p l e R s m args below meth c H locs (S 2 0 0 - n0).toNat (S 3 0 0 - u0).toNat Q (F0 m pc ls vs) := by
  obtain ⟨v2, s1, rfl, h1⟩ := p1_sp h
  obtain ⟨v1, s2, rfl, h2⟩ := p1_sp h1
  obtain ⟨b1, b2, b3, b4, b5, b6, b7⟩ := B
  obtain ⟨w, vs', rfl, w1, w2⟩ := sr_cons b6
  obtain ⟨w', vs'', rfl, w3, w4⟩ := sr_cons w2
  obtain ⟨y, rfl, hy⟩ := w1
  obtain ⟨x, rfl, hx⟩ := w3
  have hx : v1 = x.toInt := hx
  have hy : v2 = y.toInt := hy
  have := K _ _ _ _ ads ws H locs ls (.int (lg_cmp x y) :: vs'') h2 ⟨b1, b2, b3, b4, b5, ⟨⟨_, rfl, by simp only [hx, hy]; exact cv_lcmp x y⟩, w4⟩, b7⟩
  rw [hn] at this
  exact W.lcmp C.1 C.2.1 hd this
end Ins
