/-! WHAT EVERY RUN KEEPS: fields that its method cannot change (md), kinds and lengths of what is there, counters that only grow; more frames do no harm -/
set_option maxRecDepth 100000
def kmk (k g : Nat) : Bool := cond (Nat.blt k 70) (kfl k g) (Nat.beq g k)
theorem kfl_rng {k g : Nat} (h : kfl k g = true) : 300 ≤ g ∧ g < 620 := by
  refine ⟨?_, ?_⟩
  · apply Nat.le_of_not_lt
    intro hg
    revert h
    have e1 : ∀ n, 300 ≤ n → Nat.ble n g = false := fun n hn => by rw [Bool.eq_false_iff]; intro q; have := Nat.ble_eq.mp q; omega
    have e2 : ∀ n, 300 ≤ n → Nat.beq g n = false := fun n hn => by rw [Bool.eq_false_iff]; intro q; have := Nat.eq_of_beq_eq_true q; omega
    unfold kfl
    simp [e1, e2]
  · apply Nat.lt_of_not_le
    intro hg
    revert h
    have e1 : ∀ n, n < 620 → Nat.ble g n = false := fun n hn => by rw [Bool.eq_false_iff]; intro q; have := Nat.ble_eq.mp q; omega
    have e2 : ∀ n, n < 620 → Nat.beq g n = false := fun n hn => by rw [Bool.eq_false_iff]; intro q; have := Nat.eq_of_beq_eq_true q; omega
    unfold kfl
    simp [e1, e2]
/-- the bits of what a new object of kind k lays -/
def okA (M k : Nat) : Bool := M.testBit 0 && (M.testBit 1 && (M.testBit 2 && (M.testBit 3 && cond (Nat.blt k 70) ((List.range 320).all fun q => !(kfl k (300 + q)) || M.testBit (300 + q)) (M.testBit k))))
/-- a method's code stays in its bits -/
def mok (m : Nat) (e : En) : Bool := match e with
  | (_, ins, x, y, _, _, _) => match ins with
    | .putfield _ => Nat.ble 300 y && (md m).testBit y
    | .iastore => Nat.ble 70 x && (md m).testBit x
    | .bastore => Nat.ble 70 x && (md m).testBit x
    | .lastore => Nat.ble 70 x && (md m).testBit x
    | .aastore => Nat.ble 70 x && (md m).testBit x
    | .new _ => okA (md m) x
    | .newarray _ => Nat.ble 70 x && okA (md m) x
    | .anewarray _ => Nat.ble 70 x && okA (md m) x
    | .invokestatic _ => cond (Nat.blt y 100) (Nat.beq (md x &&& md m) (md x)) (Nat.ble 70 x && (md m).testBit x)
    | .invokespecial _ => cond (Nat.blt y 100) (Nat.beq (md x &&& md m) (md x)) true
    | .invokevirtual _ => cond (Nat.blt y 100) (Nat.beq (md x &&& md m) (md x)) (cond (Nat.blt y 200) ((vt x).all fun q => Nat.beq (md q.2 &&& md m) (md q.2)) true)
    | _ => true
noncomputable def mokM (m : Nat) : Bool := (List.range (cln m)).all fun i => match cod m i with
  | none => true
  | some e => mok m e
/-- what is kept, M: the bits that may change -/
def Kp (M : Nat) (S S' : St) : Prop := S 2 0 0 ≤ S' 2 0 0 ∧ S 3 0 0 ≤ S' 3 0 0 ∧ (∀ r, r ≤ S 2 0 0 → ∀ j, S' 0 r j = S 0 r j ∧ S' 1 r j = S 1 r j) ∧ ∀ f, M.testBit f = false → S' f = S f
theorem Kp.rf (M : Nat) (S : St) : Kp M S S := ⟨Int.le_refl _, Int.le_refl _, fun _ _ _ => ⟨rfl, rfl⟩, fun _ _ => rfl⟩
theorem Kp.tr {M : Nat} {S S1 S2 : St} (h : Kp M S S1) (g : Kp M S1 S2) : Kp M S S2 := by
  obtain ⟨a1, a2, a3, a4⟩ := h
  obtain ⟨b1, b2, b3, b4⟩ := g
  refine ⟨Int.le_trans a1 b1, Int.le_trans a2 b2, fun r hr j => ?_, fun f hf => (b4 f hf).trans (a4 f hf)⟩
  obtain ⟨c1, c2⟩ := a3 r hr j
  obtain ⟨d1, d2⟩ := b3 r (Int.le_trans hr a1) j
  exact ⟨d1.trans c1, d2.trans c2⟩
theorem Kp.sub {M N : Nat} {S S' : St} (h : Kp M S S') (hs : Nat.beq (M &&& N) M = true) : Kp N S S' := by
  obtain ⟨a1, a2, a3, a4⟩ := h
  refine ⟨a1, a2, a3, fun f hf => a4 f ?_⟩
  have e := Nat.eq_of_beq_eq_true hs
  rw [← e, Nat.testBit_and, hf, Bool.and_false]
theorem kp_up {M : Nat} {S : St} {f : Nat} {r i v : Int} (hf : M.testBit f = true) (h4 : 4 ≤ f) : Kp M S (up S f r i v) := by
  have e : ∀ g a j, g ≠ f → up S f r i v g a j = S g a j := fun g a j hg => if_neg fun q => hg q.1
  refine ⟨by rw [e 2 0 0 (by omega)]; exact Int.le_refl _, by rw [e 3 0 0 (by omega)]; exact Int.le_refl _, fun r hr j => ⟨e 0 r j (by omega), e 1 r j (by omega)⟩, fun g hg => ?_⟩
  funext a j
  exact e g a j fun q => by rw [q, hf] at hg; cases hg
theorem kp_cp {M : Nat} {S : St} {c e : Nat} {r sp d dp n : Int} (hf : M.testBit e = true) (h4 : 4 ≤ e) : Kp M S (cp S c r sp e d dp n) := by
  have q : ∀ g a j, g ≠ e → cp S c r sp e d dp n g a j = S g a j := fun g a j hg => if_neg fun q => hg q.1
  refine ⟨by rw [q 2 0 0 (by omega)]; exact Int.le_refl _, by rw [q 3 0 0 (by omega)]; exact Int.le_refl _, fun r hr j => ⟨q 0 r j (by omega), q 1 r j (by omega)⟩, fun g hg => ?_⟩
  funext a j
  exact q g a j fun z => by rw [z, hf] at hg; cases hg
theorem al_2 (S : St) (k : Nat) (l u : Int) : al S k l u 2 0 0 = S 2 0 0 + 1 := by simp [al]
theorem al_3 (S : St) (k : Nat) (l u : Int) : al S k l u 3 0 0 = S 3 0 0 + u := by simp [al]
theorem al_no {S : St} {k : Nat} {l u : Int} {g : Nat} {a j : Int} (h2 : g ≠ 2) (h3 : g ≠ 3) (h : a ≠ S 2 0 0 + 1 ∨ blg k g = false) : al S k l u g a j = S g a j := by
  unfold al
  rw [if_neg fun q => h2 q.1, if_neg fun q => h3 q.1, if_neg]
  rintro ⟨q1, q2⟩
  rcases h with h | h
  · exact h q1
  · rw [h] at q2; cases q2
theorem kp_al {M : Nat} {S : St} {k : Nat} {l u : Int} (h : okA M k = true) (hu : 0 ≤ u) : Kp M S (al S k l u) := by
  unfold okA at h
  simp only [Bool.and_eq_true] at h
  obtain ⟨h0, h1, h2, h3, h4⟩ := h
  refine ⟨by rw [al_2]; omega, by rw [al_3]; omega, fun r hr j => ⟨al_no (by omega) (by omega) (Or.inl (by omega)), al_no (by omega) (by omega) (Or.inl (by omega))⟩, fun g hg => ?_⟩
  have n0 : g ≠ 0 := fun q => by rw [q, h0] at hg; cases hg
  have n1 : g ≠ 1 := fun q => by rw [q, h1] at hg; cases hg
  have n2 : g ≠ 2 := fun q => by rw [q, h2] at hg; cases hg
  have n3 : g ≠ 3 := fun q => by rw [q, h3] at hg; cases hg
  funext a j
  refine al_no n2 n3 (Or.inr ?_)
  unfold blg
  have nb : Nat.blt g 2 = false := by rw [Bool.eq_false_iff]; intro q; have := Nat.blt_eq.mp q; omega
  rw [nb, Bool.false_or]
  cases hk : Nat.blt k 70 with
  | true =>
    rw [hk] at h4
    cases hq : kfl k g with
    | false => rfl
    | true =>
      exfalso
      obtain ⟨r1, r2⟩ := kfl_rng hq
      have := List.all_eq_true.mp h4 (g - 300) (List.mem_range.mpr (by omega))
      rw [show 300 + (g - 300) = g by omega, hq, hg] at this
      cases this
  | false =>
    rw [hk] at h4
    cases hq : Nat.beq g k with
    | false => rfl
    | true => exfalso; rw [Nat.eq_of_beq_eq_true hq] at hg; rw [hg] at h4; cases h4
def Iv (P : St → Prop) (a : Rs) : Prop := ∀ o S', a = some (o, S') → P S'
theorem iv_no (P : St → Prop) : Iv P none := fun _ _ h => by cases h
theorem iv_ok {P : St → Prop} {o : Int ⊕ Int} {S : St} (h : P S) : Iv P (some (o, S)) := fun _ _ e => by cases e; exact h
theorem iv_p1 {P : St → Prop} {t : Nat} {st : List Wd} {k : Int → List Wd → Rs} (h : ∀ x s, Iv P (k x s)) : Iv P (p1 t st k) := by
  cases st with
  | nil => exact iv_no _
  | cons w s =>
    simp only [p1]
    cases Nat.beq w.1 t
    · exact iv_no _
    · exact h _ _
theorem iv_pr {P : St → Prop} {st : List Wd} {k : Nat → Int → List Wd → Rs} (h : ∀ g x s, Iv P (k g x s)) : Iv P (pr st k) := by
  cases st with
  | nil => exact iv_no _
  | cons w s =>
    simp only [pr]
    cases Nat.ble 2 w.1
    · exact iv_no _
    · exact h _ _ _
theorem iv_pa {P : St → Prop} {st : List Wd} {k : Wd → List Wd → Rs} (h : ∀ x s, Iv P (k x s)) : Iv P (pa st k) := by
  cases st with
  | nil => exact iv_no _
  | cons w s =>
    simp only [pa]
    cases Nat.beq w.1 1
    · exact h _ _
    · exact iv_no _
theorem iv_pl {P : St → Prop} {t i : Nat} {lv : Lv} {k : Int → Rs} (h : ∀ x, Iv P (k x)) : Iv P (pl t i lv k) := by
  unfold pl
  cases lg_ lv i with
  | none => exact iv_no _
  | some w =>
    simp only
    cases Nat.beq w.1 t
    · exact iv_no _
    · exact h _
theorem iv_plr {P : St → Prop} {i : Nat} {lv : Lv} {k : Nat → Int → Rs} (h : ∀ g x, Iv P (k g x)) : Iv P (plr i lv k) := by
  unfold plr
  cases lg_ lv i with
  | none => exact iv_no _
  | some w =>
    simp only
    cases Nat.ble 2 w.1
    · exact iv_no _
    · exact h _ _
theorem iv_pn {P : St → Prop} {n : Nat} {k : List Wd → List Wd → Rs} (h : ∀ x s, Iv P (k x s)) : ∀ {acc st : List Wd}, Iv P (pn n acc st k) := by
  induction n with
  | zero => intro acc st; simp only [pn]; exact h _ _
  | succ n ih =>
    intro acc st
    cases st with
    | nil => exact iv_no _
    | cons w s => simp only [pn]; exact ih
theorem iv_ck {P : St → Prop} {b : Bool} {a : Rs} (h : Iv P a) : Iv P (ck b a) := by
  cases b
  · exact iv_no _
  · exact h
theorem iv_cond {P : St → Prop} {b : Bool} {a c : Rs} (h : b = true → Iv P a) (g : b = false → Iv P c) : Iv P (cond b a c) := by
  cases b
  · exact g rfl
  · exact h rfl
theorem iv_ite {P : St → Prop} {c : Prop} [Decidable c] {a b : Rs} (h : Iv P a) (g : Iv P b) : Iv P (if c then a else b) := by
  split
  · exact h
  · exact g
theorem iv_nz {P : St → Prop} {x : Int} {a : Rs} (h : Iv P a) : Iv P (nz x a) := iv_ite (iv_no _) h
theorem iv_eqr {P : St → Prop} {x y : Int} {a : Rs} (h : Iv P a) : Iv P (eqr x y a) := iv_ite h (iv_no _)
theorem iv_ib {P : St → Prop} {x y : Int} {a : Rs} (h : 0 ≤ x → Iv P a) : Iv P (ib x y a) := by
  unfold ib
  split
  · exact h (by omega)
  · exact iv_no _
theorem iv_tv {P : St → Prop} {x : Int} {a : Rs} (h : Iv P a) : Iv P (tv x a) := iv_ite h (iv_no _)
theorem iv_ali {P : St → Prop} {ph : Bool} {x y : Int} {a : Rs} (h : Iv P a) : Iv P (ali ph x y a) := iv_ite (iv_ite h (iv_no _)) h
theorem iv_gtf {P : St → Prop} {tg : List Nat} {a : Rs} {b : Nat → Rs} (h : Iv P a) (g : ∀ j, Iv P (b j)) : Iv P (gtf tg a b) := by
  cases tg
  · exact h
  · exact g _
theorem iv_alm {P : St → Prop} {o : Option Int} {x : Int} {a : Rs} (h : Iv P a) : Iv P (alm o x a) := by
  cases o
  · exact h
  · exact iv_eqr h
theorem iv_hd1 {P : St → Prop} {as : List Wd} {k : Wd → List Wd → Rs} (h : ∀ x s, Iv P (k x s)) : Iv P (hd1 as k) := by
  cases as
  · exact iv_no _
  · exact h _ _
theorem iv_rcv {P : St → Prop} {z : Int} {as : List Wd} {k : List Wd → Rs} (h : ∀ x, Iv P (k x)) : Iv P (rcv z as k) := by
  cases as
  · exact iv_no _
  · exact iv_ite (iv_nz (h _)) (iv_eqr (h _))
theorem iv_lt {P : St → Prop} {α : Type} {a : α} {k : α → Rs} (h : Iv P (k a)) : Iv P (lt_ a k) := h
theorem iv_cko {P : St → Prop} {α : Type} {o : Option α} {k : α → Rs} (h : ∀ x, Iv P (k x)) : Iv P (cko o k) := by
  cases o
  · exact iv_no _
  · exact h _
theorem iv_bd {P Q : St → Prop} {r : Rs} {k g : Int → St → Rs} (hr : Iv Q r) (h : ∀ x s, Q s → Iv P (k x s)) (h2 : ∀ x s, Q s → Iv P (g x s)) : Iv P (bd r k g) := by
  cases e : r with
  | none => exact iv_no _
  | some q =>
    obtain ⟨v | x, S⟩ := q
    · exact h _ _ (hr _ _ e)
    · exact h2 _ _ (hr _ _ e)
theorem iv_swc {P : St → Prop} {a : Int} {k : Nat → Rs} {d : Rs} (h : ∀ x, Iv P (k x)) (g : Iv P d) : ∀ {tg : List Nat} {lo : Int}, Iv P (swc a lo tg k d) := by
  intro tg
  induction tg with
  | nil => intro lo; exact g
  | cons t r ih => intro lo; simp only [swc]; exact iv_ite (h _) ih
theorem iv_vsw {P : St → Prop} {a : Int} {k : Nat → Rs} : ∀ {l : List (Int × Nat)}, (∀ q ∈ l, Iv P (k q.2)) → Iv P (vsw a l k) := by
  intro l
  induction l with
  | nil => intro _; exact iv_no _
  | cons t r ih => intro h; simp only [vsw]; exact iv_ite (h t List.mem_cons_self) (ih fun q hq => h q (List.mem_cons_of_mem _ hq))
theorem iv_hdl {P : St → Prop} {mi i : Nat} {lv : Lv} {k : Nat → Lv → List Wd → St → Rs} {x : Int} {S : St} (h0 : P S) (h : ∀ i lv s, Iv P (k i lv s S)) : Iv P (hdl mi i lv k x S) := by
  unfold hdl
  split
  · exact iv_ok h0
  · exact iv_eqr (h _ _ _)
set_option maxHeartbeats 8000000 in
theorem iv_stp {ph : Bool} {cg : Nat → List Wd → St → Rs} {k : Nat → Lv → List Wd → St → Rs} (mi i : Nat) (lv : Lv) (st : List Wd) (S : St) (hm : ∀ e, cod mi i = some e → mok mi e = true)
    (hc : ∀ m as S1, Iv (Kp (md m) S1) (cg m as S1)) (hk : ∀ i lv s S1, Iv (Kp (md mi) S1) (k i lv s S1)) : Iv (Kp (md mi) S) (stp ph cg k mi i lv st S) := by
  have hk' : ∀ i lv s S1, Kp (md mi) S S1 → Iv (Kp (md mi) S) (k i lv s S1) := fun i lv s S1 q o S' e => q.tr (hk i lv s S1 o S' e)
  have hc' : ∀ m as, Nat.beq (md m &&& md mi) (md m) = true → Iv (Kp (md mi) S) (cg m as S) := fun m as q o S' e => (hc m as S o S' e).sub q
  unfold stp
  cases hcod : cod mi i with
  | none => exact iv_no _
  | some q =>
    obtain ⟨pc, ins, x, y, t, z, tg⟩ := q
    have hm := hm _ hcod
    simp only
    split
    all_goals try simp only [mok] at hm
    all_goals with_reducible repeat' first | apply hk' | exact iv_no _ | apply iv_ok | apply iv_p1 | apply iv_pr | apply iv_pl | apply iv_plr | apply iv_pa | apply iv_pn | apply iv_ck | apply iv_nz | apply iv_eqr | apply iv_ib | apply iv_tv | apply iv_ali | apply iv_gtf | apply iv_alm | apply iv_hd1 | apply iv_rcv | apply iv_cond | apply iv_ite | apply iv_cko | apply iv_swc | apply iv_vsw | apply iv_lt | apply kp_up | apply kp_cp | apply kp_al | exact Kp.rf _ _ | intro _
    all_goals first
      | exact (Bool.and_eq_true_iff.mp hm).2
      | exact Nat.le_trans (by decide) (Nat.ble_eq.mp (Bool.and_eq_true_iff.mp hm).1)
      | exact hm
      | assumption
      | exact Int.natCast_nonneg _
      | decide
      | (rw [‹Nat.blt y 100 = true›] at hm; exact iv_bd (Q := fun S1 => Kp (md mi) S S1) (hc' _ _ hm) (fun v S1 q => hk' _ _ _ _ q) (fun x S1 q => iv_hdl q fun _ _ _ => hk' _ _ _ _ q))
      | (rw [‹Nat.blt y 100 = false›, ‹Nat.blt y 200 = true›] at hm; exact iv_bd (Q := fun S1 => Kp (md mi) S S1) (hc' _ _ (List.all_eq_true.mp hm _ ‹_›)) (fun v S1 q => hk' _ _ _ _ q) (fun x S1 q => iv_hdl q fun _ _ _ => hk' _ _ _ _ q))
      | (rw [‹Nat.blt y 100 = false›] at hm; exact (Bool.and_eq_true_iff.mp hm).2)
      | (rw [‹Nat.blt y 100 = false›] at hm; exact Nat.le_trans (by decide) (Nat.ble_eq.mp (Bool.and_eq_true_iff.mp hm).1))
theorem iv_msk {P : St → Prop} {k : Lv → List Wd → St → Rs} (mi i : Nat) (lv : Lv) (st : List Wd) (S : St) (h : ∀ lv s, Iv P (k lv s S)) : Iv P (msk k mi i lv st S) := by
  unfold msk
  split
  · exact h _ _
  · exact iv_cko fun _ => iv_cko fun _ => h _ _
def allM : Prop := ∀ m, mokM m = true
theorem iv_run (hM : ∀ m i e, cod m i = some e → mok m e = true) (ph : Bool) : ∀ (n d mi i : Nat) (lv : Lv) (st : List Wd) (S : St), Iv (Kp (md mi) S) (run ph n d mi i lv st S) := by
  intro n
  induction n with
  | zero => intro d mi i lv st S; exact iv_no _
  | succ n ih =>
    intro d mi i lv st S
    refine iv_stp mi i lv st S (hM mi i) ?_ ?_
    · intro m as S1
      cases d with
      | zero => exact iv_no _
      | succ d => exact ih _ _ _ _ _ _
    · intro i lv s S1; exact iv_msk _ _ _ _ _ fun _ _ => ih _ _ _ _ _ _
