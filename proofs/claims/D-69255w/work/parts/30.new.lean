/-! SOUNDNESS, 7: new objects and arrays, casts, switches, returns -/
theorem fN_ok : ∀ k ∈ kl, k < 53 → knS k = fN k := by decide +kernel
theorem blg_f {k f : Nat} (hk : k ∈ kl) (hf : f ∈ kfs k) : blg k f = true := by
  unfold blg
  rw [Nat.blt_eq.mpr (kl_lt k hk).2]
  have := kfl_ok k hk f hf
  simp [this]
theorem al_new {S : St} {k : Nat} {l u : Int} {g : Nat} {j : Int} (h2 : 4 ≤ g) (h : blg k g = true) : al S k l u g (S 2 0 0 + 1) j = 0 := by
  unfold al
  rw [if_neg (by omega), if_neg (by omega), if_pos ⟨rfl, h⟩, if_neg (by omega), if_neg (by omega)]
theorem al_len {S : St} {k : Nat} {l u : Int} {j : Int} : al S k l u 1 (S 2 0 0 + 1) j = l := by
  unfold al
  rw [if_neg (by omega), if_neg (by omega), if_pos ⟨rfl, rfl⟩, if_neg (by omega), if_pos rfl]
theorem cb8 : ∀ j, j < 4 → componentBytes (atl.getD j .int) ≤ 8 := by decide +kernel
theorem ack : ∀ j, j < 4 → Cond.arrayClass (atl.getD j .int) ∈ lw_all := by
  intro j hj
  match j, hj with
  | 0, _ => exact ack_0
  | 1, _ => exact ack_1
  | 2, _ => exact ack_2
  | 3, _ => exact ack_3
theorem ra_inj {s : State} {ty : FieldType} {c1 c2 : ClassId} (h1 : va_RA s c1 ty) (h2 : va_RA s c2 ty) : c1 = c2 := by
  cases ty with
  | object C =>
    obtain ⟨k1, d1, -, -, -, e1⟩ := h1
    obtain ⟨k2, d2, -, -, -, e2⟩ := h2
    exact Option.some.inj (e1.symm.trans e2)
  | _ =>
    exact Option.some.inj ((show s.vm.findClass _ = some c1 from h1).symm.trans (show s.vm.findClass _ = some c2 from h2))
/-- the end of a run: its answer, the heap behind it -/
def oR (sa : Nat → Nat) (b : Nat) (ads : List (Nat × Nat)) (rt : Nat) (o : Int ⊕ Int) (oc : Outcome) : Prop := match o with
  | .inl v => (rt = 9 ∧ oc = .returned none) ∨ (rt ≠ 9 ∧ ∃ w, oc = .returned (some w) ∧ vr sa b ads rt v w)
  | .inr x => ∃ (j a k : Nat), oc = .threw a ∧ ads[j]? = some (a, k) ∧ x = (k : Int) ∧ (k = 53 ∨ k = 54)
def Qs (sa : Nat → Nat) (b : Nat) (aC : Nat → ClassId) (ph : Bool) (L : Nat) (xs : Nat → Int32) (G : va_G) (A : Nat → Prop) (ads0 : List (Nat × Nat)) (rt : Nat) (res : (Int ⊕ Int) × St) : Array Value → State → Outcome → State → Prop := fun _ s oc t =>
  ∃ ads ws, Rl sa b aC ph L xs ads ws res.2 ∧ (∃ x, ads = ads0 ++ x) ∧ va_P G clK ws t.heap ∧ va_D A ws ∧ s.heap.size ≤ t.heap.size ∧ (∀ q : Nat, q < s.heap.size → ¬ A q → t.heap[q]? = s.heap[q]?) ∧ oR sa b ads rt res.1 oc
section Ins
variable {sa : Nat → Nat} {b : Nat} {aC : Nat → ClassId} {ph : Bool} {L : Nat} {xs : Nat → Int32} {G : va_G} {A : Nat → Prop} {n0 u0 : Int} {ads0 : List (Nat × Nat)}
variable {p : Program} {l : Launch} {e : Env} {R : Room} {s : State} {m : MethodId} {args : Array Value} {below : List Frame} {meth : Method} {c : Code} {mi : Nat}
variable {k : Nat → Lv → List Wd → St → Rs} {res : (Int ⊕ Int) × St} {Q : State → Prop} {i : Nat} {lv : Lv} {st : List Wd} {S : St} {ads : List (Nat × Nat)} {ws : va_W} {H : Heap} {locs : List Loc} {ls : Array Slot} {vs : List Value} {pc : Nat}

theorem sn_new {n x y : Nat} (C : Cx G aC p s m meth c mi) (K : Kc sa b aC ph L xs G A n0 u0 ads0 p l e R s m args below meth c mi k res Q) (B : Bn sa b aC ph L xs G A n0 u0 ads0 s mi lv st S ads ws H locs ls vs) (hmono : ∀ i lv st S1, k i lv st S1 = some res → S1 2 0 0 ≤ res.2 2 0 0 ∧ S1 3 0 0 ≤ res.2 3 0 0) (hRc : (res.2 2 0 0 - n0).toNat ≤ R.cells) (hRs : (res.2 3 0 0 - u0).toNat ≤ R.slots) (hd : decode (mby mi) pc = .ok (.new n, 3)) (hn : pcn mi (i + 1) = pc + 3) (hA : ∀ q, s.heap.size ≤ q → A q) (hm : (own mi, n, x) ∈ clk) (hx : x ∈ kl) (hx53 : x < 53) (hy : y = knS x) (hi : x ∈ ink) (his : x ∈ isk_)
    (h : (lt_ (S 2 0 0 + 1) fun r => lt_ (al S x 0 (y : Int)) fun S => k (i + 1) lv ((x, r) :: st) S) = some res) : W p l e R s m args below meth c H locs (S 2 0 0 - n0).toNat (S 3 0 0 - u0).toNat Q (F0 m pc ls vs) := by
  have h : k (i + 1) lv ((x, S 2 0 0 + 1) :: st) (al S x 0 (y : Int)) = some res := h
  obtain ⟨b1, b2, b3, b4, ⟨ms, m1, m2⟩, b6, b7, b8, ⟨xx, b9⟩⟩ := B
  have hN := fN_ok x hx hx53
  have e1 : al S x 0 (y : Int) 2 0 0 = S 2 0 0 + 1 := al_2 _ _ _ _
  have e2 : al S x 0 (y : Int) 3 0 0 = S 3 0 0 + (y : Int) := al_3 _ _ _ _
  obtain ⟨k1, k2⟩ := hmono _ _ _ _ h
  rw [e1] at k1
  rw [e2] at k2
  have hts : ∀ w ∈ lw_all, w.before args s = true := fun w hw => C.ws.w hw args
  have hw := isk__ok x his
  rw [hN] at hw
  refine va_new (C := cn x) (T := fT x) (N := fN x) (own := cn (own mi)) (ci := kix x) C.1 C.2.1 hts (kin x hx) (fun j => fty (fat x j)) (kty x hx) C.own (C.ws.w (clk_ok _ hm) args) (C.ws.w hw args) (C.ws.w (ink_ok x hi) args) C.K b2 b3 b4 hA (clK_at hx) (fs := (List.range (fN x)).map fun j => defaultValue (fty (fat x j))) (fun j hj => ?_) (by omega) (by omega) hd fun q H1 p1 p2 p3 => ?_
  · unfold vp_V
    rw [List.getD_eq_getElem?_getD, List.getElem?_map, List.getElem?_range hj]; rfl
  · have hR : Rl sa b aC ph L xs (ads ++ [(q, x)]) (ws ++ [(q, .inr (kix x, (List.range (fN x)).map fun j => defaultValue (fty (fat x j))))]) (al S x 0 (y : Int)) := by
      refine b1.new (by omega) ⟨hx, rfl, by rw [List.length_map, List.length_range], fun j hj => ?_⟩
      have hf := fat_mem hj
      have hfr := kfs_rng x hx _ hf
      rw [← b1.2.1, al_new (by omega) (blg_f hx hf), List.getD_eq_getElem?_getD, List.getElem?_map, List.getElem?_range hj]
      show vr sa b ads (ftg (fat x j)) 0 (defaultValue (fty (fat x j)))
      rcases dv_ok x hx _ hf with ⟨d1, d2 | d2⟩ | ⟨d1, d2⟩ | ⟨d1, d2⟩
      · rw [d1, d2]; exact ⟨0, rfl, rfl⟩
      · rw [d1, d2]; exact ⟨0, rfl, rfl⟩
      · rw [d1, d2]; exact ⟨0, rfl, rfl⟩
      · refine (vr_ref (by omega)).mpr (Or.inl ⟨rfl, ?_⟩)
        cases hq : fty (fat x j) with
        | object z => rfl
        | array z => rfl
        | _ => rw [hq] at d2; cases d2
    have hvr : vr sa b (ads ++ [(q, x)]) x (S 2 0 0 + 1) (.ref q) := by
      refine (vr_ref (by have := kl_lt x hx; omega)).mpr (Or.inr ⟨ads.length, q, x, by rw [b1.2.1], by rw [List.getElem?_append_right (Nat.le_refl _), Nat.sub_self]; rfl, rfl, ?_⟩)
      unfold sb
      rw [show Nat.beq x x = true from Nat.beq_refl x]; rfl
    have := K (i + 1) lv ((x, S 2 0 0 + 1) :: st) (al S x 0 (y : Int)) (ads ++ [(q, x)]) _ H1 locs ls (.ref q :: vs) h ⟨hR, p1, p2, p3, ⟨ms, lr_app m1 _, m2⟩, ⟨hvr, sr_app b6 _⟩, by rw [e1]; omega, by rw [e2]; omega, ⟨xx ++ [(q, x)], by rw [b9, List.append_assoc]⟩⟩
    rw [e1, e2, hn] at this
    refine W.cs ?_ ?_ this
    · omega
    · omega
theorem sn_newa {a_ : ArrayType} {x : Nat} (C : Cx G aC p s m meth c mi) (K : Kc sa b aC ph L xs G A n0 u0 ads0 p l e R s m args below meth c mi k res Q) (B : Bn sa b aC ph L xs G A n0 u0 ads0 s mi lv st S ads ws H locs ls vs) (hmono : ∀ i lv st S1, k i lv st S1 = some res → S1 2 0 0 ≤ res.2 2 0 0 ∧ S1 3 0 0 ≤ res.2 3 0 0) (hRc : (res.2 2 0 0 - n0).toNat ≤ R.cells) (hRs : (res.2 3 0 0 - u0).toNat ≤ R.slots) (hd : decode (mby mi) pc = .ok (.newarray a_, 2)) (hn : pcn mi (i + 1) = pc + 2) (hA : ∀ q, s.heap.size ≤ q → A q) (hk : akd x < 4) (hty : newarray.typeOf a_ = atl.getD (akd x) .int)
    (h : (p1 0 st fun a s => ck (Nat.blt (akd x) 4) (ib a 100000 (alm (alc x) a (lt_ (S 2 0 0 + 1) fun r => lt_ (al S x a a) fun S => k (i + 1) lv ((x, r) :: s) S)))) = some res) : W p l e R s m args below meth c H locs (S 2 0 0 - n0).toNat (S 3 0 0 - u0).toNat Q (F0 m pc ls vs) := by
  obtain ⟨v, s1, rfl, h1⟩ := p1_sp h
  obtain ⟨-, h2⟩ := ck_sp h1
  obtain ⟨⟨i1, i2⟩, h3⟩ := ib_sp h2
  have ⟨hal, h4⟩ : (∀ l, alc x = some l → l = v) ∧ k (i + 1) lv ((x, S 2 0 0 + 1) :: s1) (al S x v v) = some res := by
    unfold alm at h3
    cases hq : alc x with
    | none => rw [hq] at h3; exact ⟨fun l hl => (by cases hl), h3⟩
    | some l => rw [hq] at h3; obtain ⟨e, h3⟩ := eqr_sp h3; exact ⟨fun l' hl => (by cases hl; exact e.symm), h3⟩
  obtain ⟨b1, b2, b3, b4, ⟨ms, m1, m2⟩, b6, b7, b8, ⟨xx, b9⟩⟩ := B
  obtain ⟨w, vs', rfl, w1, w2⟩ := sr_cons b6
  obtain ⟨y, rfl, hy⟩ := w1
  have hy : v = y.toInt := hy
  have e1 : al S x v v 2 0 0 = S 2 0 0 + 1 := al_2 _ _ _ _
  have e2 : al S x v v 3 0 0 = S 3 0 0 + v := al_3 _ _ _ _
  obtain ⟨k1, k2⟩ := hmono _ _ _ _ h4
  rw [e1] at k1
  rw [e2] at k2
  have hx := akd_rng (g := x) (by omega)
  have hyn : y.toNatClampNeg = v.toNat := by rw [hy]; rfl
  have hb : blg x x = true := by
    unfold blg
    rw [show Nat.blt x 70 = false by rw [Bool.eq_false_iff]; intro q; have := Nat.blt_eq.mp q; omega, show Nat.beq x x = true from Nat.beq_refl x]
    simp
  have main : ∀ (a0 : vp_A), a0.1 = v.toNat → (∀ cA : ClassId, vp_cell cA a0 = arrV cA v.toNat (fun _ => defaultValue (atl.getD (akd x) .int))) → er sa b aC ads (al S x v v) ((ads.length : Int) + 1) x (.inl (aC (akd x), a0)) → W p l e R s m args below meth c H locs (S 2 0 0 - n0).toNat (S 3 0 0 - u0).toNat Q (F0 m pc ls (.int y :: vs')) := by
    intro a0 ha0 hcell her
    have hc8 := cb8 (akd x) hk
    refine va_newa (D := G) (cl := clK) (tys := tysA aC) (ws := ws) (A := A) (H0 := s.heap) C.1 C.2.1 (by rw [hty]; exact C.ws.w (ack (akd x) hk) args) hty C.K b2 b3 b4 hA hcell (fun q => by have := i32_lt.mp q; rw [i32_0] at this; omega) hyn (Nat.le_trans (Nat.mul_le_mul (show v.toNat ≤ 100000 by omega) hc8) (by decide)) (by omega) (by omega) hd fun q cA H1 hK p1 p2 p3 => ?_
    have hcA : cA = aC (akd x) := by
      have t1 := (hK.2 11 (cA, atl.getD (akd x) .int) (by rw [List.getElem?_append_right (by simp [tysA])]; simp [tysA])).2
      have t2 := (C.K.2 (akd x) (aC (akd x), atl.getD (akd x) .int) (tysA_at aC (by omega))).2
      exact ra_inj t1 t2
    subst hcA
    have hR := b1.new (q := q) (l := v) (u := v) i1 her
    have hvr : vr sa b (ads ++ [(q, x)]) x (S 2 0 0 + 1) (.ref q) := by
      refine (vr_ref (by omega)).mpr (Or.inr ⟨ads.length, q, x, by rw [b1.2.1], by rw [List.getElem?_append_right (Nat.le_refl _), Nat.sub_self]; rfl, rfl, ?_⟩)
      unfold sb
      rw [show Nat.beq x x = true from Nat.beq_refl x]; rfl
    have := K (i + 1) lv ((x, S 2 0 0 + 1) :: s1) (al S x v v) (ads ++ [(q, x)]) _ H1 locs ls (.ref q :: vs') h4 ⟨hR, p1, p2, p3, ⟨ms, lr_app m1 _, m2⟩, ⟨hvr, sr_app w2 _⟩, by rw [e1]; omega, by rw [e2]; omega, ⟨xx ++ [(q, x)], by rw [b9, List.append_assoc]⟩⟩
    rw [e1, e2, hn] at this
    refine W.cs ?_ ?_ this
    · omega
    · omega
  have hz : ∀ j : Int, al S x v v x ((ads.length : Int) + 1) j = 0 := fun j => by rw [← b1.2.1]; exact al_new (by omega) hb
  have hlen : al S x v v 1 ((ads.length : Int) + 1) 0 = (v.toNat : Int) := by rw [← b1.2.1, al_len]; omega
  have hpx := atx_p hk
  by_cases hk3 : akd x < 3
  · refine main (v.toNat, .inl fun _ => 0) rfl (fun cA => ?_) ⟨hx.1, by omega, by omega, by rw [hpx], hlen, (show v.toNat < 100000 by omega), fun l hl => (hal l hl).trans (show v = (v.toNat : Int) by omega), fun _ => ⟨_, rfl, fun i' hi' => hz _⟩, fun q => by omega, fun q => by omega, fun _ i' hi' => by rw [hz]; omega⟩
    match hq : akd x, hk3 with
    | 0, _ => rfl
    | 1, _ => rfl
    | 2, _ => rfl
  · have hk4 : akd x = 3 := by omega
    refine main (v.toNat, .inr (.inl fun _ => 0)) rfl (fun cA => ?_) ⟨hx.1, by omega, by omega, by rw [hpx], hlen, (show v.toNat < 100000 by omega), fun l hl => (hal l hl).trans (show v = (v.toNat : Int) by omega), fun q => by omega, fun _ => ⟨_, rfl, fun i' hi' => hz _⟩, fun q => by omega, fun q => by omega⟩
    rw [hk4]; rfl
theorem sn_newq {n x y : Nat} (C : Cx G aC p s m meth c mi) (K : Kc sa b aC ph L xs G A n0 u0 ads0 p l e R s m args below meth c mi k res Q) (B : Bn sa b aC ph L xs G A n0 u0 ads0 s mi lv st S ads ws H locs ls vs) (hmono : ∀ i lv st S1, k i lv st S1 = some res → S1 2 0 0 ≤ res.2 2 0 0 ∧ S1 3 0 0 ≤ res.2 3 0 0) (hRc : (res.2 2 0 0 - n0).toNat ≤ R.cells) (hRs : (res.2 3 0 0 - u0).toNat ≤ R.slots) (hd : decode (mby mi) pc = .ok (.anewarray n, 3)) (hn : pcn mi (i + 1) = pc + 3) (hA : ∀ q, s.heap.size ≤ q → A q) (hk : akd x = 4) (hm : (own mi, n, y) ∈ clk) (hy' : ael x = y)
    (h : (p1 0 st fun a s => ck (Nat.beq (akd x) 4 && Nat.beq (ael x) y) (ib a 100000 (alm (alc x) a (lt_ (S 2 0 0 + 1) fun r => lt_ (al S x a a) fun S => k (i + 1) lv ((x, r) :: s) S)))) = some res) : W p l e R s m args below meth c H locs (S 2 0 0 - n0).toNat (S 3 0 0 - u0).toNat Q (F0 m pc ls vs) := by
  obtain ⟨v, s1, rfl, h1⟩ := p1_sp h
  obtain ⟨-, h2⟩ := ck_sp h1
  obtain ⟨⟨i1, i2⟩, h3⟩ := ib_sp h2
  have ⟨hal, h4⟩ : (∀ l, alc x = some l → l = v) ∧ k (i + 1) lv ((x, S 2 0 0 + 1) :: s1) (al S x v v) = some res := by
    unfold alm at h3
    cases hq : alc x with
    | none => rw [hq] at h3; exact ⟨fun l hl => (by cases hl), h3⟩
    | some l => rw [hq] at h3; obtain ⟨e, h3⟩ := eqr_sp h3; exact ⟨fun l' hl => (by cases hl; exact e.symm), h3⟩
  obtain ⟨b1, b2, b3, b4, ⟨ms, m1, m2⟩, b6, b7, b8, ⟨xx, b9⟩⟩ := B
  obtain ⟨w, vs', rfl, w1, w2⟩ := sr_cons b6
  obtain ⟨y_, rfl, hy⟩ := w1
  have hy : v = y_.toInt := hy
  have e1 : al S x v v 2 0 0 = S 2 0 0 + 1 := al_2 _ _ _ _
  have e2 : al S x v v 3 0 0 = S 3 0 0 + v := al_3 _ _ _ _
  obtain ⟨k1, k2⟩ := hmono _ _ _ _ h4
  rw [e1] at k1
  rw [e2] at k2
  have hx := akd_rng (g := x) (by omega)
  have hyn : y_.toNatClampNeg = v.toNat := by rw [hy]; rfl
  have hb : blg x x = true := by
    unfold blg
    rw [show Nat.blt x 70 = false by rw [Bool.eq_false_iff]; intro q; have := Nat.blt_eq.mp q; omega, show Nat.beq x x = true from Nat.beq_refl x]
    simp
  have hq := at_q x hx.2 hk
  have hz : ∀ j : Int, al S x v v x ((ads.length : Int) + 1) j = 0 := fun j => by rw [← b1.2.1]; exact al_new (by omega) hb
  have hlen : al S x v v 1 ((ads.length : Int) + 1) 0 = (v.toNat : Int) := by rw [← b1.2.1, al_len]; omega
  subst hy'
  refine va_newq (D := G) (cl := clK) (tys := tysA aC) (ws := ws) (A := A) (H0 := s.heap) (own := cn (own mi)) (C := cn (ael x)) C.1 C.2.1 C.own (C.ws.w (clk_ok _ hm) args) (C.ws.2.2.2.2.1 (atx x) hq.1 hq.2.1 _ hq.2.2.1) C.K b2 b3 b4 hA (fun q => by have := i32_lt.mp q; rw [i32_0] at this; omega) hyn (by omega) (by omega) (by omega) hd fun q cA H1 hK p1 p2 p3 => ?_
  have hcA : cA = aC (atx x) := by
    have t1 := (hK.2 11 (cA, .object (cn (ael x))) (by rw [List.getElem?_append_right (by simp [tysA])]; simp [tysA])).2
    have t2 := (C.K.2 (atx x) (aC (atx x), atl.getD (atx x) .int) (tysA_at aC hq.2.1)).2
    rw [hq.2.2.1] at t2
    exact ra_inj t1 t2
  subst hcA
  have hR := b1.new (q := q) (k := x) (l := v) (u := v) (e := .inl (aC (atx x), v.toNat, .inr (.inr (.inr (.inr fun _ => none))))) i1 ⟨hx.1, by omega, hq.2.1, rfl, hlen, (show v.toNat < 100000 by omega), fun l hl => (hal l hl).trans (show v = (v.toNat : Int) by omega), fun q => by omega, fun q => by omega, fun _ => ⟨_, rfl, fun i' hi' => by rw [hz]; exact (vr_ref (by omega)).mpr (Or.inl ⟨rfl, rfl⟩)⟩, fun q => by omega⟩
  have hvr : vr sa b (ads ++ [(q, x)]) x (S 2 0 0 + 1) (.ref q) := by
    refine (vr_ref (by omega)).mpr (Or.inr ⟨ads.length, q, x, by rw [b1.2.1], by rw [List.getElem?_append_right (Nat.le_refl _), Nat.sub_self]; rfl, rfl, ?_⟩)
    unfold sb
    rw [show Nat.beq x x = true from Nat.beq_refl x]; rfl
  have := K (i + 1) lv ((x, S 2 0 0 + 1) :: s1) (al S x v v) (ads ++ [(q, x)]) _ H1 locs ls (.ref q :: vs') h4 ⟨hR, p1, p2, p3, ⟨ms, lr_app m1 _, m2⟩, ⟨hvr, sr_app w2 _⟩, by rw [e1]; omega, by rw [e2]; omega, ⟨xx ++ [(q, x)], by rw [b9, List.append_assoc]⟩⟩
  rw [e1, e2, hn] at this
  refine W.cs ?_ ?_ this
  · omega
  · omega
end Ins
