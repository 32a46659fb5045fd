/-! SOUNDNESS, 19: the whole run -/
set_option maxRecDepth 100000
def psz (ts : List Nat) : Nat := (ts.map fun t => if t = 1 then 2 else 1).sum
theorem psz_ok : ∀ x, x < 467 → psz (prm x) ≤ mxl x := by decide +kernel
theorem pcn_0 : ∀ x, x < 467 → pcn x 0 = 0 := by decide +kernel
theorem sr_sl {sa : Nat → Nat} {b : Nat} {ads : List (Nat × Nat)} {as : List Wd} : ∀ {vs : List Value}, sr sa b ads as vs → (lg_sl vs).length = psz (as.map (·.1)) := by
  induction as with
  | nil => intro vs h; rw [sr_nil h]; rfl
  | cons w as ih =>
    intro vs h
    obtain ⟨v, vs', rfl, h1, h2⟩ := sr_cons h
    have e := ih h2
    have hc := vr_cat h1
    unfold psz at e ⊢
    rw [List.map_cons, List.map_cons, List.sum_cons, ← e]
    unfold lg_sl
    rw [List.flatMap_cons, List.length_append, hc]
    by_cases q : w.1 = 1
    · simp [q]
    · simp [q]
section Main
variable {sa sv : Nat → Nat} {b : Nat} {aC : Nat → ClassId} {ph : Bool} {L : Nat} {xs : Nat → Int32} {G : va_G} {A : Nat → Prop} {p : Program} {l : Launch} {e : Env}
/-- what a run of n steps does -/
def Rn (sa sv : Nat → Nat) (b : Nat) (aC : Nat → ClassId) (ph : Bool) (L : Nat) (xs : Nat → Int32) (G : va_G) (A : Nat → Prop) (p : Program) (l : Launch) (e : Env) (n : Nat) : Prop :=
  ∀ (d mi i : Nat) (lv : Lv) (st : List Wd) (S : St) (res : (Int ⊕ Int) × St), run ph n d mi i lv st S = some res →
    ∀ (R : Room) (s : State) (m : MethodId) (args : Array Value) (below : List Frame) (meth : Method) (c : Code) (n0 u0 : Int) (ads0 ads : List (Nat × Nat)) (ws : va_W) (H : Heap) (locs : List Loc) (ls : Array Slot) (vs : List Value),
      Cx G aC p s m meth c mi → Ax b L xs A (Exa sa sv A) s → RoomOk (d + 1) R → (res.2 2 0 0 - n0).toNat ≤ R.cells → (res.2 3 0 0 - u0).toNat ≤ R.slots → Bn sa b aC ph L xs G A n0 u0 ads0 s mi lv st S ads ws H locs ls vs →
      W p l e R s m args below meth c H locs (S 2 0 0 - n0).toNat (S 3 0 0 - u0).toNat (MF below (Qs sa b aC ph L xs G A ads0 (rtg mi) res) args s (res.2 2 0 0 - n0).toNat (res.2 3 0 0 - u0).toNat A) (F0 m (pcn mi i) ls vs)
theorem cal_of {n : Nat} (ih : Rn sa sv b aC ph L xs G A p l e n) {d x : Nat} {as : List Wd} {S : St} {rs : (Int ⊕ Int) × St} (h : run ph n d x 0 (lva 0 as) [] S = some rs) : Cal sa b aC ph L xs G A (Exa sa sv A) p l e (d + 1) x as S rs := by
  intro R s m below meth c ads ws vs hCx hAx hRl hP hD hsr hpm hRoom hc hs
  have hx : x < 467 := by
    cases n with
    | zero => cases h
    | succ n =>
      have h : stp ph _ _ x 0 (lva 0 as) [] S = some rs := h
      unfold stp at h
      cases hcod : cod x 0 with
      | none => rw [hcod] at h; cases h
      | some q => exact (cod_lt hcod).1
  have hlen : (lg_sl vs).length ≤ mxl x := by rw [sr_sl hsr, hpm]; exact psz_ok x hx
  rw [lg_entry_eq]
  have := ih d x 0 (lva 0 as) [] S rs h R s m vs.toArray below meth c (S 2 0 0) (S 3 0 0) ads ads ws s.heap [] _ [] hCx hAx hRoom hc hs ⟨hRl, hP, hD, va_S.rf, ⟨lv_args 0 vs, lr_args 0 hsr, lv_entry vs hlen⟩, trivial, Int.le_refl _, Int.le_refl _, ⟨[], (List.append_nil _).symm⟩⟩
  rw [Int.sub_self, Int.sub_self, pcn_0 x hx] at this
  exact this
theorem run_all (htr : l.stackTraces = false) : ∀ n, Rn sa sv b aC ph L xs G A p l e n := by
  intro n
  induction n with
  | zero => intro d mi i lv st S res h; cases h
  | succ n ih =>
    intro d mi i lv st S res h R s m args below meth c n0 u0 ads0 ads ws H locs ls vs hC hA hR hRc hRs hB
    have h : stp ph (cgf (fun d m as S => run ph n d m 0 (lva 0 as) [] S) d) (fun i lv st S => msk (run ph n d mi i) mi i lv st S) mi i lv st S = some res := h
    refine sn_step (d := d) hC hA ?_ hB htr hR ?_ ?_ ?_ hRc hRs h
    · intro i' lv' st' S' ads' ws' H' locs' ls' vs' hk hb
      have hk : msk (run ph n d mi i') mi i' lv' st' S' = some res := hk
      unfold msk at hk
      split at hk
      · exact ih d mi i' lv' st' S' res hk R s m args below meth c n0 u0 ads0 ads' ws' H' locs' ls' vs' hC hA hR hRc hRs hb
      · obtain ⟨lv2, e1, hk⟩ := cko_sp hk
        obtain ⟨st2, e2, hk⟩ := cko_sp hk
        obtain ⟨b1, b2, b3, b4, ⟨ms, m1, m2⟩, b6, b7⟩ := hb
        obtain ⟨ms2, c1, c2⟩ := pkl_lr b1.kok e1 m1
        obtain ⟨c3, -⟩ := coL_sr b1.kok e2 b6
        exact ih d mi i' lv2 st2 S' res hk R s m args below meth c n0 u0 ads0 ads' ws' H' locs' ls' vs' hC hA hR hRc hRs ⟨b1, b2, b3, b4, ⟨ms2, c1, m2.1, m2.2.1, fun q hq => m2.2.2 q (c2 q hq)⟩, c3, b7⟩
    · intro x as rs hcg
      cases d with
      | zero => cases hcg
      | succ d => exact cal_of ih hcg
    · intro i' lv' st' S1 hk
      have := iv_msk (P := Kp (md mi) S1) mi i' lv' st' S1 (fun lv s => iv_run mok_all ph n d mi i' lv s S1) res.1 res.2 hk
      exact ⟨this.1, this.2.1⟩
    · intro x as rs hcg
      cases d with
      | zero => cases hcg
      | succ d =>
        have := iv_run mok_all ph n d x 0 (lva 0 as) [] S rs.1 rs.2 hcg
        exact ⟨this.1, this.2.1⟩
/-- THE INTERPRETER IS SOUND: what it answers, the machine answers -/
theorem cal_rn (htr : l.stackTraces = false) {d x : Nat} {as : List Wd} {S : St} {rs : (Int ⊕ Int) × St} (h : rn ph d x 0 (lva 0 as) [] S = some rs) : Cal sa b aC ph L xs G A (Exa sa sv A) p l e (d + 1) x as S rs := by
  obtain ⟨n, hn⟩ := rn_to h
  exact cal_of (run_all htr n) hn
end Main
