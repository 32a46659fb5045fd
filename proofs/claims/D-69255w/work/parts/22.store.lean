/-! SOUNDNESS, 2: the relation is kept by stores, by new objects, by copies -/
section RlL
variable {sa : Nat → Nat} {b : Nat} {aC : Nat → ClassId} {ph : Bool} {L : Nat} {xs : Nat → Int32} {ads : List (Nat × Nat)} {ws : va_W} {S : St}
theorem Rl.kok (h : Rl sa b aC ph L xs ads ws S) : kOk ads := by
  intro j a k hj
  obtain ⟨e, -, -, he⟩ := h.2.2.1 j a k hj
  cases e with
  | inl q => exact Or.inr ⟨he.1, he.2.1⟩
  | inr o => exact Or.inl he.1
/-- a reference that is not null -/
theorem Rl.obj (h : Rl sa b aC ph L xs ads ws S) {g : Nat} {r : Int} {w : Value} (hv : vr sa b ads g r w) (hg : 6 ≤ g) (hr : r ≠ 0) :
    ∃ (j a k : Nat) (e : va_E), r = (j : Int) + 1 ∧ w = .ref a ∧ ads[j]? = some (a, k) ∧ sb g k = true ∧ ws[j]? = some (a, e) ∧ S 0 r 0 = (k : Int) ∧ er sa b aC ads S r k e := by
  rcases (vr_ref hg).mp hv with ⟨h0, -⟩ | ⟨j, a, k, h1, h2, h3, h4⟩
  · exact absurd h0 hr
  · obtain ⟨e, e1, e2, e3⟩ := h.2.2.1 j a k h2
    subst h1
    exact ⟨j, a, k, e, rfl, h3, h2, h4, e1, e2, e3⟩
theorem er_app {r : Int} {k : Nat} {e : va_E} (h : er sa b aC ads S r k e) (x : List (Nat × Nat)) : er sa b aC (ads ++ x) S r k e := by
  cases e with
  | inr o => exact ⟨h.1, h.2.1, h.2.2.1, fun j hj => vr_app (h.2.2.2 j hj) x⟩
  | inl q =>
    obtain ⟨h1, h2, h3, h4, h5, h6, h7, h8, h9, h10, h11⟩ := h
    refine ⟨h1, h2, h3, h4, h5, h6, h7, h8, h9, fun hk => ?_, h11⟩
    obtain ⟨f, e1, e2⟩ := h10 hk
    exact ⟨f, e1, fun i hi => vr_app (e2 i hi) x⟩
/-- what an entry's relation reads of the state -/
theorem er_eq {S' : St} {r : Int} {k : Nat} {e : va_E} (h : er sa b aC ads S r k e) (h1 : S' 1 r 0 = S 1 r 0) (h2 : ∀ f, (k < 70 ∧ f ∈ kfs k) ∨ (70 ≤ k ∧ f = k) → ∀ i, S' f r i = S f r i) : er sa b aC ads S' r k e := by
  cases e with
  | inr o =>
    refine ⟨h.1, h.2.1, h.2.2.1, fun j hj => ?_⟩
    rw [h2 (fat k j) (Or.inl ⟨(kl_lt k h.1).2, by
      unfold fat
      rw [List.getD_eq_getElem?_getD, List.getElem?_eq_getElem hj]
      exact List.getElem_mem _⟩)]
    exact h.2.2.2 j hj
  | inl q =>
    obtain ⟨a1, a2, a3, a4, a5, a6, a7, a8, a9, a10, a11⟩ := h
    have e0 : ∀ i, S' k r i = S k r i := h2 k (Or.inr ⟨a1, rfl⟩)
    refine ⟨a1, a2, a3, a4, h1.trans a5, a6, a7, fun hk => ?_, fun hk => ?_, fun hk => ?_, fun hk i hi => by rw [e0 i]; exact a11 hk i hi⟩
    · obtain ⟨f, e1, e2⟩ := a8 hk
      exact ⟨f, e1, fun i hi => (e0 i).trans (e2 i hi)⟩
    · obtain ⟨f, e1, e2⟩ := a9 hk
      exact ⟨f, e1, fun i hi => (e0 i).trans (e2 i hi)⟩
    · obtain ⟨f, e1, e2⟩ := a10 hk
      exact ⟨f, e1, fun i hi => by rw [e0 i]; exact e2 i hi⟩
theorem up_at (S : St) (f : Nat) (r i v : Int) : up S f r i v f r i = v := if_pos ⟨rfl, rfl, rfl⟩
theorem up_f {S : St} {f : Nat} {r i v : Int} {g : Nat} {a j : Int} (h : g ≠ f) : up S f r i v g a j = S g a j := if_neg fun q => h q.1
theorem up_r {S : St} {f : Nat} {r i v : Int} {g : Nat} {a j : Int} (h : a ≠ r) : up S f r i v g a j = S g a j := if_neg fun q => h q.2.1
theorem up_i {S : St} {f : Nat} {r i v : Int} {g : Nat} {a j : Int} (h : j ≠ i) : up S f r i v g a j = S g a j := if_neg fun q => h q.2.2
theorem fat_mem {k j : Nat} (hj : j < fN k) : fat k j ∈ kfs k := by
  unfold fat
  rw [List.getD_eq_getElem?_getD, List.getElem?_eq_getElem hj]
  exact List.getElem_mem _
theorem kfs_rng : ∀ k ∈ kl, ∀ f ∈ kfs k, 300 ≤ f ∧ f < 620 := by decide +kernel
theorem pt_rng : ∀ j, j < 140 → ∀ q, pt j = some q → 300 ≤ q.1 ∧ q.1 < 620 ∧ 1 ≤ q.2.1 ∧ q.2.1 ≤ N0 ∧ ffi q.1 = true := by decide +kernel
theorem pt_lt {j : Nat} {q : Nat × Int × Int} (h : pt j = some q) : j < 140 := by
  apply Nat.lt_of_not_le
  intro hj
  unfold pt at h
  rw [show Nat.blt j 133 = false by rw [Bool.eq_false_iff]; intro z; have := Nat.blt_eq.mp z; omega] at h
  cases h
theorem fat_inj {k i j : Nat} (hk : k ∈ kl) (hi : i < fN k) (hj : j < fN k) (h : fat k i = fat k j) : i = j := by
  have nd := kl_nd k hk
  unfold fat at h
  rw [List.getD_eq_getElem?_getD, List.getElem?_eq_getElem hi, List.getD_eq_getElem?_getD, List.getElem?_eq_getElem hj] at h
  exact (List.getElem_inj nd).mp h
/-- a field is stored -/
theorem Rl.put (h : Rl sa b aC ph L xs ads ws S) {j a k m : Nat} {ci : Nat} {fs : List Value} {v : Int} {w : Value} (hj : ads[j]? = some (a, k)) (hw : ws[j]? = some (a, .inr (ci, fs))) (hm : m < fN k) (hk : k ∈ kl)
    (hv : vr sa b ads (ftg (fat k m)) v w) (hfin : ph = true → ffi (fat k m) = true → N0 < (j : Int) + 1) :
    Rl sa b aC ph L xs ads (ws.set j (a, .inr (ci, fs.set m w))) (up S (fat k m) ((j : Int) + 1) 0 v) := by
  obtain ⟨h1, h2, h3, h4, h5, h6⟩ := h
  have hf := kfs_rng k hk _ (fat_mem hm)
  have g0 : ∀ (g : Nat) (a j' : Int), g < 300 → up S (fat k m) ((j : Int) + 1) 0 v g a j' = S g a j' := fun g a j' hg => up_f (by omega)
  refine ⟨by rw [List.length_set]; exact h1, by rw [g0 2 0 0 (by omega)]; exact h2, ?_, ?_, ?_, by rw [g0 3 0 0 (by omega)]; exact h6⟩
  · intro j' a' k' hj'
    obtain ⟨e, e1, e2, e3⟩ := h3 j' a' k' hj'
    by_cases hjj : j' = j
    · subst hjj
      cases hj.symm.trans hj'
      cases hw.symm.trans e1
      obtain ⟨b1, b2, b3, b4⟩ := e3
      refine ⟨.inr (ci, fs.set m w), ?_, by rw [g0 0 _ _ (by omega)]; exact e2, b1, b2, by rw [List.length_set]; exact b3, fun q hq => ?_⟩
      · rw [List.getElem?_set_self (by rw [h1]; exact (List.getElem?_eq_some_iff.mp hj).1)]
      · by_cases hqm : q = m
        · subst hqm
          rw [up_at, List.getD_eq_getElem?_getD, List.getElem?_set_self (show q < fs.length from by rw [show fs.length = fN k from b3]; exact hm)]
          exact hv
        · rw [up_f (fun z => hqm (fat_inj hk hq hm z)), List.getD_eq_getElem?_getD, List.getElem?_set_ne (fun z => hqm z.symm), ← List.getD_eq_getElem?_getD]
          exact b4 q hq
    · refine ⟨e, by rw [List.getElem?_set_ne (fun z => hjj z.symm)]; exact e1, by rw [g0 0 _ _ (by omega)]; exact e2, er_eq e3 (g0 1 _ _ (by omega)) fun f _ i => up_r (by omega)⟩
  · intro hp
    obtain ⟨c1, c2⟩ := h4 hp
    refine ⟨by rw [g0 2 0 0 (by omega)]; exact c1, fun i q hq => ?_⟩
    have hr := pt_rng i (pt_lt hq) q hq
    rw [show up S (fat k m) ((j : Int) + 1) 0 v q.1 q.2.1 0 = S q.1 q.2.1 0 from if_neg fun z => by
      have := hfin hp (by rw [← z.1]; exact hr.2.2.2.2)
      omega]
    exact c2 i q hq
  · exact fun hp => ⟨by rw [g0 5 0 0 (by omega)]; exact (h5 hp).1, (h5 hp).2.1, fun i hi => by rw [g0 4 0 _ (by omega)]; exact (h5 hp).2.2 i hi⟩
/-- an array is stored to -/
theorem Rl.ast (h : Rl sa b aC ph L xs ads ws S) {j a k : Nat} {cA : ClassId} {n : Nat} {c c' : (Nat → Int32) ⊕ (Nat → Int64) ⊕ (Nat → UInt32) ⊕ (Nat → UInt64) ⊕ (Nat → Option Nat)} {S' : St} (hj : ads[j]? = some (a, k)) (hw : ws[j]? = some (a, .inl (cA, n, c)))
    (hk : 70 ≤ k ∧ k < 300) (hS : ∀ g r i, ¬ (g = k ∧ r = (j : Int) + 1) → S' g r i = S g r i) (hc : er sa b aC ads S ((j : Int) + 1) k (.inl (cA, n, c)) → er sa b aC ads S' ((j : Int) + 1) k (.inl (cA, n, c'))) :
    Rl sa b aC ph L xs ads (ws.set j (a, .inl (cA, n, c'))) S' := by
  obtain ⟨h1, h2, h3, h4, h5, h6⟩ := h
  have g0 : ∀ (g : Nat) (r i : Int), g < 70 → S' g r i = S g r i := fun g r i hg => hS g r i (by omega)
  refine ⟨by rw [List.length_set]; exact h1, by rw [g0 2 0 0 (by omega)]; exact h2, ?_, ?_, ?_, by rw [g0 3 0 0 (by omega)]; exact h6⟩
  · intro j' a' k' hj'
    obtain ⟨e, e1, e2, e3⟩ := h3 j' a' k' hj'
    by_cases hjj : j' = j
    · subst hjj
      cases hj.symm.trans hj'
      cases hw.symm.trans e1
      exact ⟨.inl (cA, n, c'), by rw [List.getElem?_set_self (by rw [h1]; exact (List.getElem?_eq_some_iff.mp hj).1)], by rw [g0 0 _ _ (by omega)]; exact e2, hc e3⟩
    · exact ⟨e, by rw [List.getElem?_set_ne (fun z => hjj z.symm)]; exact e1, by rw [g0 0 _ _ (by omega)]; exact e2, er_eq e3 (g0 1 _ _ (by omega)) fun f _ i => hS _ _ _ (by omega)⟩
  · intro hp
    obtain ⟨c1, c2⟩ := h4 hp
    refine ⟨by rw [g0 2 0 0 (by omega)]; exact c1, fun i q hq => ?_⟩
    have hr := pt_rng i (pt_lt hq) q hq
    rw [hS _ _ _ (by omega)]
    exact c2 i q hq
  · exact fun hp => ⟨by rw [g0 5 0 0 (by omega)]; exact (h5 hp).1, (h5 hp).2.1, fun i hi => by rw [g0 4 0 _ (by omega)]; exact (h5 hp).2.2 i hi⟩
/-- something new -/
theorem Rl.new (h : Rl sa b aC ph L xs ads ws S) {q k : Nat} {e : va_E} {l u : Int} (hu : 0 ≤ u) (he : er sa b aC ads (al S k l u) ((ads.length : Int) + 1) k e) :
    Rl sa b aC ph L xs (ads ++ [(q, k)]) (ws ++ [(q, e)]) (al S k l u) := by
  obtain ⟨h1, h2, h3, h4, h5, h6⟩ := h
  have old : ∀ (g : Nat) (a j : Int), g ≠ 2 → g ≠ 3 → a ≠ (ads.length : Int) + 1 → al S k l u g a j = S g a j := fun g a j g2 g3 ha => al_no g2 g3 (Or.inl (by rw [h2]; exact ha))
  refine ⟨by rw [List.length_append, List.length_append, h1]; rfl, by rw [al_2, h2, List.length_append]; simp, ?_, ?_, ?_, by rw [al_3]; omega⟩
  · intro j' a' k' hj'
    by_cases hjl : j' < ads.length
    · rw [List.getElem?_append_left hjl] at hj'
      obtain ⟨e', e1, e2, e3⟩ := h3 j' a' k' hj'
      refine ⟨e', by rw [List.getElem?_append_left (by omega)]; exact e1, by rw [old 0 _ _ (by omega) (by omega) (by omega)]; exact e2, er_app (er_eq e3 (old 1 _ _ (by omega) (by omega) (by omega)) fun f hf i => ?_) _⟩
      refine old f _ _ ?_ ?_ (by omega)
      · rcases hf with hf | hf
        · rcases ((h3 j' a' k' hj')).choose_spec.2.2 with _
          have : k' ∈ kl := by
            cases e' with
            | inr o => exact e3.1
            | inl z => exact absurd e3.1 (by omega)
          have := kfs_rng k' this f hf.2
          omega
        · omega
      · rcases hf with hf | hf
        · have : k' ∈ kl := by
            cases e' with
            | inr o => exact e3.1
            | inl z => exact absurd e3.1 (by omega)
          have := kfs_rng k' this f hf.2
          omega
        · omega
    · have hlt := (List.getElem?_eq_some_iff.mp hj').1
      rw [List.length_append, List.length_singleton] at hlt
      have : j' = ads.length := by omega
      subst this
      rw [List.getElem?_append_right (Nat.le_refl _), Nat.sub_self] at hj'
      cases hj'
      refine ⟨e, by rw [← h1, List.getElem?_append_right (Nat.le_refl _), Nat.sub_self]; rfl, ?_, er_app he _⟩
      unfold al
      rw [if_neg (by omega), if_neg (by omega), if_pos ⟨by rw [h2], rfl⟩, if_pos rfl]
  · intro hp
    obtain ⟨c1, c2⟩ := h4 hp
    refine ⟨by rw [al_2]; omega, fun i p hq => ?_⟩
    have hr := pt_rng i (pt_lt hq) p hq
    rw [old _ _ _ (by omega) (by omega) (by omega)]
    exact c2 i p hq
  · exact fun hp => ⟨by rw [old 5 0 0 (by omega) (by omega) (by omega)]; exact (h5 hp).1, (h5 hp).2.1, fun i hi => by rw [old 4 0 _ (by omega) (by omega) (by omega)]; exact (h5 hp).2.2 i hi⟩
end RlL
