/-! THE LAW, 1: its first part (the two objects are made: no word of it hangs on the script), then the loop as the interpreter has it -/
set_option maxRecDepth 100000
def zS : St := fun _ _ _ => 0
def stOf (r : Rs) : St := match r with
  | some q => q.2
  | none => zS
/-- behind 'new BreweryHouse()', behind its constructor; behind 'new BreweryHouseModel()', behind its constructor -/
def ZA : St := al zS 11 0 32
noncomputable def ZH : St := stOf (run false 6000 40 0 0 (lva 0 [(11, 1)]) [] ZA)
noncomputable def ZB : St := al ZH 18 0 87
noncomputable def ZM : St := stOf (run false 6000 40 124 0 (lva 0 [(18, 95)]) [] ZB)
theorem zh_run : (run false 6000 40 0 0 (lva 0 [(11, 1)]) [] ZA).map (·.1) = some (.inl 0) := by decide +kernel
theorem zm_run : (run false 6000 40 124 0 (lva 0 [(18, 95)]) [] ZB).map (·.1) = some (.inl 0) := by decide +kernel
theorem st_run {r : Rs} {o : Int ⊕ Int} (h : r.map (·.1) = some o) : r = some (o, stOf r) := by
  cases r with
  | none => cases h
  | some q =>
    obtain ⟨a, S⟩ := q
    cases h
    rfl
theorem zh_2 : ZH 2 0 0 = 94 := by decide +kernel
theorem zm_2 : ZM 2 0 0 = 188 ∧ 0 ≤ ZM 3 0 0 ∧ ZM 3 0 0 ≤ 100000 := by decide +kernel
theorem zm_pt : ∀ j, j < 140 → ∀ q, pt j = some q → ZM q.1 q.2.1 0 = q.2.2 := by decide +kernel
/-- the script is laid beside -/
def scS (L : Nat) (xs : Nat → Int32) (S : St) : St := fun f r i => if f = 4 then (xs i.toNat).toInt else if f = 5 then (L : Int) else S f r i
def lv8 : Lv := [(2, 18, 95), (1, 11, 1), (0, 4, 0)]
/-- WHAT IS STILL OWED: the loop ends with true, in its room -/
def LawMain (L : Nat) (xs : Nat → Int32) : Prop := ∃ d S', d ≤ 1300 ∧ rn true d 466 8 lv8 [] (scS L xs ZM) = some (.inl 1, S') ∧ S' 2 0 0 ≤ 600128 ∧ S' 3 0 0 ≤ 7301098
section Go
variable {sa sv : Nat → Nat} {b : Nat} {aC : Nat → ClassId} {L : Nat} {xs : Nat → Int32} {G : va_G} {A : Nat → Prop} {p : Program} {l : Launch} {e : Env}
variable {R : Room} {s : State} {m : MethodId} {args : Array Value} {below : List Frame} {meth : Method} {c : Code} {res : (Int ⊕ Int) × St}
theorem Rl.go {ads : List (Nat × Nat)} {ws : va_W} {S : St} (h : Rl sa b aC false L xs ads ws S) (h2 : N0 ≤ S 2 0 0) (hp : ∀ j q, pt j = some q → S q.1 q.2.1 0 = q.2.2) (hL : L < 2147483648) : Rl sa b aC true L xs ads ws (scS L xs S) := by
  obtain ⟨a1, a2, a3, a4, a5, a6⟩ := h
  have g : ∀ (f : Nat) (r i : Int), f ≠ 4 → f ≠ 5 → scS L xs S f r i = S f r i := fun f r i h4 h5 => by unfold scS; rw [if_neg h4, if_neg h5]
  refine ⟨a1, by rw [g _ _ _ (by decide) (by decide)]; exact a2, fun j a k hj => ?_, fun _ => ⟨by rw [g _ _ _ (by decide) (by decide)]; exact h2, fun j q hq => ?_⟩, fun _ => ⟨rfl, hL, fun j hj => ?_⟩, by rw [g _ _ _ (by decide) (by decide)]; exact a6⟩
  · obtain ⟨e1, b1, b2, b3⟩ := a3 j a k hj
    refine ⟨e1, b1, by rw [g _ _ _ (by decide) (by decide)]; exact b2, er_eq b3 (g _ _ _ (by decide) (by decide)) fun f hf i => ?_⟩
    rcases hf with hf | hf
    · have hk : k ∈ kl := by
        cases e1 with
        | inr o => exact b3.1
        | inl z => exact absurd b3.1 (by omega)
      have := kfs_rng k hk f hf.2
      exact g _ _ _ (by omega) (by omega)
    · exact g _ _ _ (by omega) (by omega)
  · have hr := pt_rng j (pt_lt hq) q hq
    rw [g _ _ _ (by omega) (by omega)]
    exact hp j q hq
  · show (xs (((j : Int)).toNat)).toInt = (xs j).toInt
    rw [Int.toNat_natCast]
theorem Rl.weak {ads : List (Nat × Nat)} {ws : va_W} {S : St} (h : Rl sa b aC true L xs ads ws S) : Rl sa b aC false L xs ads ws S :=
  ⟨h.1, h.2.1, h.2.2.1, fun q => (by cases q), fun q => (by cases q), h.2.2.2.2.2⟩
/-- where the law stands -/
def LwAt (sa : Nat → Nat) (b : Nat) (aC : Nat → ClassId) (L : Nat) (xs : Nat → Int32) (G : va_G) (A : Nat → Prop) (p : Program) (l : Launch) (e : Env) (R : Room) (s : State) (m : MethodId) (args : Array Value) (below : List Frame) (meth : Method) (c : Code) (res : (Int ⊕ Int) × St) (i : Nat) (lv : Lv) (st : List Wd) (S : St) : Prop :=
  ∀ (ads : List (Nat × Nat)) (ws : va_W) (H : Heap) (locs : List Loc) (ls : Array Slot) (vs : List Value), Bn sa b aC false L xs G A 0 0 [] s 466 lv st S ads ws H locs ls vs →
    W p l e R s m args below meth c H locs (S 2 0 0 - 0).toNat (S 3 0 0 - 0).toNat (MF below (Qs sa b aC false L xs G A [] (rtg 466) res) args s (res.2 2 0 0 - 0).toNat (res.2 3 0 0 - 0).toNat A) (F0 m (pcn 466 i) ls vs)
theorem lw_one (C : Cx G aC p s m meth c 466) (hA : Ax b L xs A (Exa sa sv A) s) (htr : l.stackTraces = false) {d : Nat} (hR : RoomOk (d + 1) R) (hRc : (res.2 2 0 0 - 0).toNat ≤ R.cells) (hRs : (res.2 3 0 0 - 0).toNat ≤ R.slots)
    {i i' : Nat} {lv lv' : Lv} {st st' : List Wd} {S S' : St} (hs : ∀ cg k, stp false cg k 466 i lv st S = k i' lv' st' S') (hm : S' 2 0 0 ≤ res.2 2 0 0 ∧ S' 3 0 0 ≤ res.2 3 0 0)
    (next : LwAt sa b aC L xs G A p l e R s m args below meth c res i' lv' st' S') : LwAt sa b aC L xs G A p l e R s m args below meth c res i lv st S := by
  classical
  intro ads ws H locs ls vs hB
  refine sn_step (cg := fun _ _ _ => none) (k := fun a b c U => if a = i' ∧ b = lv' ∧ c = st' ∧ U = S' then some res else none) (d := d) C hA ?_ hB htr hR (fun x as rs h => by cases h) ?_ (fun x as rs h => by cases h) hRc hRs ?_
  · intro a b' c' U ads' ws' H' locs' ls' vs' hk hb
    have hk : (if a = i' ∧ b' = lv' ∧ c' = st' ∧ U = S' then some res else none) = some res := hk
    split at hk
    · rename_i q
      obtain ⟨rfl, rfl, rfl, rfl⟩ := q
      exact next _ _ _ _ _ _ hb
    · cases hk
  · intro a b' c' U hk
    have hk : (if a = i' ∧ b' = lv' ∧ c' = st' ∧ U = S' then some res else none) = some res := hk
    split at hk
    · rename_i q
      obtain ⟨rfl, rfl, rfl, rfl⟩ := q
      exact hm
    · cases hk
  · rw [hs]
    exact if_pos ⟨rfl, rfl, rfl, rfl⟩
theorem lw_two (C : Cx G aC p s m meth c 466) (hA : Ax b L xs A (Exa sa sv A) s) (htr : l.stackTraces = false) {d : Nat} (hR : RoomOk (d + 1 + 1) R) (hRc : (res.2 2 0 0 - 0).toNat ≤ R.cells) (hRs : (res.2 3 0 0 - 0).toNat ≤ R.slots)
    {i i' x : Nat} {lv lv' : Lv} {st st' : List Wd} {as : List Wd} {S S' : St} (hs : ∀ cg k, stp false cg k 466 i lv st S = bd (cg x as S) (fun _ U => k i' lv' st' U) (hdl 466 i lv k)) (hc : rn false d x 0 (lva 0 as) [] S = some (.inl 0, S')) (hm : S' 2 0 0 ≤ res.2 2 0 0 ∧ S' 3 0 0 ≤ res.2 3 0 0)
    (next : LwAt sa b aC L xs G A p l e R s m args below meth c res i' lv' st' S') : LwAt sa b aC L xs G A p l e R s m args below meth c res i lv st S := by
  classical
  intro ads ws H locs ls vs hB
  refine sn_step (cg := fun y bs U => if y = x ∧ bs = as ∧ U = S then some (.inl 0, S') else none) (k := fun a b c U => if a = i' ∧ b = lv' ∧ c = st' ∧ U = S' then some res else none) (d := d + 1) C hA ?_ hB htr hR ?_ ?_ ?_ hRc hRs ?_
  · intro a b' c' U ads' ws' H' locs' ls' vs' hk hb
    have hk : (if a = i' ∧ b' = lv' ∧ c' = st' ∧ U = S' then some res else none) = some res := hk
    split at hk
    · rename_i q
      obtain ⟨rfl, rfl, rfl, rfl⟩ := q
      exact next _ _ _ _ _ _ hb
    · cases hk
  · intro y bs rs hk
    have hk : (if y = x ∧ bs = as ∧ S = S then some (.inl 0, S') else none) = some rs := hk
    by_cases q : y = x ∧ bs = as ∧ S = S
    · rw [if_pos q] at hk
      cases hk
      obtain ⟨rfl, rfl, -⟩ := q
      exact cal_rn htr hc
    · rw [if_neg q] at hk
      cases hk
  · intro a b' c' U hk
    have hk : (if a = i' ∧ b' = lv' ∧ c' = st' ∧ U = S' then some res else none) = some res := hk
    split at hk
    · rename_i q
      obtain ⟨rfl, rfl, rfl, rfl⟩ := q
      exact hm
    · cases hk
  · intro y bs rs hk
    have hk : (if y = x ∧ bs = as ∧ S = S then some (.inl 0, S') else none) = some rs := hk
    by_cases q : y = x ∧ bs = as ∧ S = S
    · rw [if_pos q] at hk
      cases hk
      have := rn_kp hc
      exact ⟨this.1, this.2.1⟩
    · rw [if_neg q] at hk
      cases hk
  · rw [hs]
    simp only [if_pos, true_and, and_self, bd]
/-- the second part: the loop -/
theorem lw_loop (C : Cx G aC p s m meth c 466) (hA : Ax b L xs A (Exa sa sv A) s) (htr : l.stackTraces = false) {d : Nat} (hR : RoomOk (d + 1) R) (hRc : (res.2 2 0 0 - 0).toNat ≤ R.cells) (hRs : (res.2 3 0 0 - 0).toNat ≤ R.slots) (hL : L < 2147483648)
    (h : rn true d 466 8 lv8 [] (scS L xs ZM) = some res) : LwAt sa b aC L xs G A p l e R s m args below meth c res 8 lv8 [] ZM := by
  intro ads ws H locs ls vs hB
  obtain ⟨n, hn⟩ := rn_to h
  obtain ⟨b1, b2, b3, b4, b5, b6, b7, b8, b9⟩ := hB
  have g : ∀ (f : Nat) (r i : Int), f ≠ 4 → f ≠ 5 → scS L xs ZM f r i = ZM f r i := fun f r i h4 h5 => by unfold scS; rw [if_neg h4, if_neg h5]
  have e2 : scS L xs ZM 2 0 0 = ZM 2 0 0 := g _ _ _ (by decide) (by decide)
  have e3 : scS L xs ZM 3 0 0 = ZM 3 0 0 := g _ _ _ (by decide) (by decide)
  have := run_all (sa := sa) (sv := sv) (b := b) (aC := aC) (ph := true) (L := L) (xs := xs) (G := G) (A := A) (p := p) (l := l) (e := e) htr n d 466 8 lv8 [] (scS L xs ZM) res hn R s m args below meth c 0 0 [] ads ws H locs ls vs C hA hR hRc hRs
    ⟨b1.go (by rw [zm_2.1]; decide) (fun j q hq => zm_pt j (pt_lt hq) q hq) hL, b2, b3, b4, b5, b6, by rw [e2]; exact b7, by rw [e3]; exact b8, b9⟩
  rw [e2, e3] at this
  refine W.mono (fun t ht => ?_) this
  obtain ⟨o, h1, h2, ⟨ads1, ws1, q1, q2⟩, h4⟩ := ht
  exact ⟨o, h1, h2, ⟨ads1, ws1, q1.weak, q2⟩, h4⟩
theorem lw_all8 (C : Cx G aC p s m meth c 466) (hA : Ax b L xs A (Exa sa sv A) s) (htr : l.stackTraces = false) {d : Nat} (hd : d ≤ 1300) (hR : R.frames = 2048 ∧ R.locals = 84000) (hRc : (res.2 2 0 0 - 0).toNat ≤ R.cells) (hRs : (res.2 3 0 0 - 0).toNat ≤ R.slots) (hL : L < 2147483648)
    (h : rn true d 466 8 lv8 [] (scS L xs ZM) = some res) : LwAt sa b aC L xs G A p l e R s m args below meth c res 0 [(0, 4, 0)] [] zS := by
  have hk := rn_kp (o := res.1) (S' := res.2) h
  have e2 : scS L xs ZM 2 0 0 = ZM 2 0 0 := by unfold scS; rw [if_neg (by decide), if_neg (by decide)]
  have e3 : scS L xs ZM 3 0 0 = ZM 3 0 0 := by unfold scS; rw [if_neg (by decide), if_neg (by decide)]
  have m2 : ZM 2 0 0 ≤ res.2 2 0 0 := by rw [← e2]; exact hk.1
  have m3 : ZM 3 0 0 ≤ res.2 3 0 0 := by rw [← e3]; exact hk.2.1
  have rH : run false 6000 40 0 0 (lva 0 [(11, 1)]) [] ZA = some (.inl 0, ZH) := st_run zh_run
  have rM : run false 6000 40 124 0 (lva 0 [(18, 95)]) [] ZB = some (.inl 0, ZM) := st_run zm_run
  have kM := rn_kp (rn_of rM)
  have kH := rn_kp (rn_of rH)
  have b2 : ZB 2 0 0 = ZH 2 0 0 + 1 := al_2 _ _ _ _
  have b3 : ZB 3 0 0 = ZH 3 0 0 + 87 := al_3 _ _ _ _
  have c1 := kM.1
  have c2 := kM.2.1
  have c3 := kH.1
  have c4 := kH.2.1
  have hR1 : RoomOk (d + 1) R := ⟨by rw [hR.1]; omega, by rw [hR.2]; omega⟩
  have hR2 : RoomOk (40 + 1 + 1) R := ⟨by rw [hR.1]; omega, by rw [hR.2]; omega⟩
  refine lw_one (i' := 1) (lv' := [(0, 4, 0)]) (st' := [(11, 1)]) (S' := ZA) C hA htr hR1 hRc hRs (fun cg k => rfl) ⟨by omega, by omega⟩ ?_
  refine lw_one (i' := 2) (lv' := [(0, 4, 0)]) (st' := [(11, 1), (11, 1)]) (S' := ZA) C hA htr hR1 hRc hRs (fun cg k => rfl) ⟨by omega, by omega⟩ ?_
  refine lw_two (i' := 3) (x := 0) (lv' := [(0, 4, 0)]) (st' := [(11, 1)]) (as := [(11, 1)]) (S' := ZH) C hA htr hR2 hRc hRs (fun cg k => rfl) (rn_of rH) ⟨by omega, by omega⟩ ?_
  refine lw_one (i' := 4) (lv' := [(1, 11, 1), (0, 4, 0)]) (st' := []) (S' := ZH) C hA htr hR1 hRc hRs (fun cg k => rfl) ⟨by omega, by omega⟩ ?_
  refine lw_one (i' := 5) (lv' := [(1, 11, 1), (0, 4, 0)]) (st' := [(18, 95)]) (S' := ZB) C hA htr hR1 hRc hRs (fun cg k => by
    show k 5 [(1, 11, 1), (0, 4, 0)] [(18, ZH 2 0 0 + 1)] ZB = _
    rw [zh_2]
    rfl) ⟨by omega, by omega⟩ ?_
  refine lw_one (i' := 6) (lv' := [(1, 11, 1), (0, 4, 0)]) (st' := [(18, 95), (18, 95)]) (S' := ZB) C hA htr hR1 hRc hRs (fun cg k => rfl) ⟨by omega, by omega⟩ ?_
  refine lw_two (i' := 7) (x := 124) (lv' := [(1, 11, 1), (0, 4, 0)]) (st' := [(18, 95)]) (as := [(18, 95)]) (S' := ZM) C hA htr hR2 hRc hRs (fun cg k => rfl) (rn_of rM) ⟨by omega, by omega⟩ ?_
  refine lw_one (i' := 8) (lv' := lv8) (st' := []) (S' := ZM) C hA htr hR1 hRc hRs (fun cg k => rfl) ⟨by omega, by omega⟩ ?_
  exact lw_loop C hA htr hR1 hRc hRs hL h
end Go
