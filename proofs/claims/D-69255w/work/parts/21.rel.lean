/-! SOUNDNESS OF THE INTERPRETER, 1: the relation between a state of the interpreter and the machine's heap. The whole heap of the run is ONE world of the kit (ws): the r-th object made is ws[r - 1] -/
def clK : List vw_C := kl.map (fun k => (cn k, fT k, fN k))
theorem kl_at : ∀ k ∈ kl, kl[kix k]? = some k := by decide +kernel
theorem kl_lt : ∀ k ∈ kl, 10 ≤ k ∧ k < 70 := by decide +kernel
theorem kl_nd : ∀ k ∈ kl, (kfs k).Nodup := by decide +kernel
theorem clK_at {k : Nat} (h : k ∈ kl) : clK[kix k]? = some (cn k, fT k, fN k) := by
  rw [clK, List.getElem?_map, kl_at k h]; rfl
def tysA (aC : Nat → ClassId) : List (ClassId × FieldType) := (List.range 11).map (fun j => (aC j, atl.getD j .int))
theorem tysA_at (aC : Nat → ClassId) {j : Nat} (h : j < 11) : (tysA aC)[j]? = some (aC j, atl.getD j .int) := by
  rw [tysA, List.getElem?_map, List.getElem?_range h]; rfl
section Rel
variable (sa : Nat → Nat) (b : Nat) (aC : Nat → ClassId)
/-- a word of the interpreter and a value of the machine; ads: the objects' addresses and kinds -/
def vr (ads : List (Nat × Nat)) (t : Nat) (v : Int) (w : Value) : Prop := match t with
  | 0 => ∃ x : Int32, w = .int x ∧ v = x.toInt
  | 1 => ∃ x : Int64, w = .long x ∧ v = x.toInt
  | 2 => w = .null ∧ v = 0
  | 3 => w = .ref (sa v.toNat) ∧ 0 ≤ v ∧ v < 50
  | 4 => w = .ref b
  | 5 => ∃ a, w = .ref a
  | t => (v = 0 ∧ w = .null) ∨ ∃ (j a k : Nat), v = (j : Int) + 1 ∧ ads[j]? = some (a, k) ∧ w = .ref a ∧ sb t k = true
def sr (ads : List (Nat × Nat)) : List Wd → List Value → Prop
  | [], [] => True
  | w :: s, v :: vs => vr sa b ads w.1 w.2 v ∧ sr ads s vs
  | _, _ => False
def lr (ads : List (Nat × Nat)) : Lv → List (Nat × Value) → Prop
  | [], [] => True
  | q :: r, p :: rs => q.1 = p.1 ∧ vr sa b ads q.2.1 q.2.2 p.2 ∧ lr ads r rs
  | _, _ => False
/-- an object or array as the interpreter has it and as the kit's world has it -/
def er (ads : List (Nat × Nat)) (S : St) (r : Int) (k : Nat) (e : va_E) : Prop := match e with
  | .inr o => k ∈ kl ∧ o.1 = kix k ∧ o.2.length = fN k ∧ ∀ j, j < fN k → vr sa b ads (ftg (fat k j)) (S (fat k j) r 0) (o.2.getD j .null)
  | .inl q => 70 ≤ k ∧ akd k < 5 ∧ atx k < 11 ∧ q.1 = aC (atx k) ∧ S 1 r 0 = (q.2.1 : Int) ∧ q.2.1 < 100000 ∧ (∀ l, alc k = some l → l = (q.2.1 : Int)) ∧
      (akd k < 3 → ∃ f, q.2.2 = .inl f ∧ ∀ i : Nat, i < q.2.1 → S k r i = (f i).toInt) ∧
      (akd k = 3 → ∃ f, q.2.2 = .inr (.inl f) ∧ ∀ i : Nat, i < q.2.1 → S k r i = (f i).toInt) ∧
      (akd k = 4 → ∃ f, q.2.2 = .inr (.inr (.inr (.inr f))) ∧ ∀ i : Nat, i < q.2.1 → vr sa b ads (ael k) (S k r i) (va_rf (f i))) ∧
      (akd k = 1 → ∀ i : Nat, i < q.2.1 → -128 ≤ S k r i ∧ S k r i < 128)
/-- the whole: L, xs: the script -/
def Rl (ph : Bool) (L : Nat) (xs : Nat → Int32) (ads : List (Nat × Nat)) (ws : va_W) (S : St) : Prop :=
  ws.length = ads.length ∧ S 2 0 0 = (ads.length : Int) ∧ (∀ (j a k : Nat), ads[j]? = some (a, k) → ∃ e, ws[j]? = some (a, e) ∧ S 0 ((j : Int) + 1) 0 = (k : Int) ∧ er sa b aC ads S ((j : Int) + 1) k e) ∧
  (ph = true → N0 ≤ S 2 0 0 ∧ ∀ j q, pt j = some q → S q.1 q.2.1 0 = q.2.2) ∧ (ph = true → S 5 0 0 = (L : Int) ∧ L < 2147483648 ∧ ∀ j : Nat, j < L → S 4 0 j = (xs j).toInt) ∧ 0 ≤ S 3 0 0
end Rel
section RelL
variable {sa : Nat → Nat} {b : Nat} {aC : Nat → ClassId} {ads : List (Nat × Nat)}
theorem vr_ref {t : Nat} (ht : 6 ≤ t) {v : Int} {w : Value} : vr sa b ads t v w ↔ ((v = 0 ∧ w = .null) ∨ ∃ (j a k : Nat), v = (j : Int) + 1 ∧ ads[j]? = some (a, k) ∧ w = .ref a ∧ sb t k = true) := by
  match t, ht with
  | t + 6, _ => exact Iff.rfl
theorem vr_cat {t : Nat} {v : Int} {w : Value} (h : vr sa b ads t v w) : w.category = if t = 1 then 2 else 1 := by
  by_cases ht : 6 ≤ t
  · rw [if_neg (by omega)]
    rcases (vr_ref ht).mp h with ⟨-, rfl⟩ | ⟨j, a, k, -, -, rfl, -⟩ <;> rfl
  · match t, ht, h with
    | 0, _, h => obtain ⟨x, rfl, -⟩ := h; rfl
    | 1, _, h => obtain ⟨x, rfl, -⟩ := h; rfl
    | 2, _, h => obtain ⟨rfl, -⟩ := h; rfl
    | 3, _, h => obtain ⟨rfl, -⟩ := h; rfl
    | 4, _, h => cases h; rfl
    | 5, _, h => obtain ⟨a, rfl⟩ := h; rfl
    | t + 6, ht, _ => omega
theorem vr_app {t : Nat} {v : Int} {w : Value} (h : vr sa b ads t v w) (x : List (Nat × Nat)) : vr sa b (ads ++ x) t v w := by
  by_cases ht : 6 ≤ t
  · rcases (vr_ref ht).mp h with h | ⟨j, a, k, h1, h2, h3, h4⟩
    · exact (vr_ref ht).mpr (Or.inl h)
    · refine (vr_ref ht).mpr (Or.inr ⟨j, a, k, h1, ?_, h3, h4⟩)
      rw [List.getElem?_append_left (List.getElem?_eq_some_iff.mp h2).1]; exact h2
  · match t, ht, h with
    | 0, _, h => exact h
    | 1, _, h => exact h
    | 2, _, h => exact h
    | 3, _, h => exact h
    | 4, _, h => exact h
    | 5, _, h => exact h
    | t + 6, ht, _ => omega
theorem sr_app {s : List Wd} : ∀ {vs : List Value}, sr sa b ads s vs → ∀ x, sr sa b (ads ++ x) s vs := by
  induction s with
  | nil => intro vs h x; cases vs with
    | nil => trivial
    | cons v vs => exact h
  | cons w s ih => intro vs h x; cases vs with
    | nil => exact h
    | cons v vs => exact ⟨vr_app h.1 x, ih h.2 x⟩
theorem lr_app {s : Lv} : ∀ {vs : List (Nat × Value)}, lr sa b ads s vs → ∀ x, lr sa b (ads ++ x) s vs := by
  induction s with
  | nil => intro vs h x; cases vs with
    | nil => trivial
    | cons v vs => exact h
  | cons w s ih => intro vs h x; cases vs with
    | nil => exact h
    | cons v vs => exact ⟨h.1, vr_app h.2.1 x, ih h.2.2 x⟩
/-- the classes are what the tags say -/
theorem sbc_tr : ∀ k ∈ kl, ∀ t, t < 60 → sbc t k = true → ∀ t', t' < 60 → sbc t' t = true → sbc t' k = true := by decide +kernel
theorem sbc_no {t' t : Nat} (h : 60 ≤ t') : sbc t' t = false := by
  unfold sbc
  simp [show ∀ n, n ≤ 60 → Nat.blt t' n = false from fun n hn => by rw [Bool.eq_false_iff]; intro q; have := Nat.blt_eq.mp q; omega]
theorem sbc_no2 {t' t : Nat} (h : 60 ≤ t) : sbc t' t = false := by
  cases hq : sbc t' t with
  | false => rfl
  | true =>
    exfalso
    revert hq
    unfold sbc
    have e1 : ∀ n, n < 60 → Nat.ble t n = false := fun n hn => by rw [Bool.eq_false_iff]; intro q; have := Nat.ble_eq.mp q; omega
    have e2 : ∀ n, n < 60 → Nat.beq t n = false := fun n hn => by rw [Bool.eq_false_iff]; intro q; have := Nat.eq_of_beq_eq_true q; omega
    simp [e1, e2]
end RelL
section RelM
variable {sa : Nat → Nat} {b : Nat} {aC : Nat → ClassId} {ads : List (Nat × Nat)}
def kOk (ads : List (Nat × Nat)) : Prop := ∀ (j a k : Nat), ads[j]? = some (a, k) → k ∈ kl ∨ (70 ≤ k ∧ akd k < 5)
theorem sb_tr {t t' k : Nat} (hk : k ∈ kl ∨ (70 ≤ k ∧ akd k < 5)) (ht' : 10 ≤ t') (ht : 10 ≤ t) (h : sbc t' t = true) (g : sb t k = true) : sb t' k = true := by
  have a1 : t' < 60 := Nat.lt_of_not_le fun q => by rw [sbc_no q] at h; cases h
  have a2 : t < 60 := Nat.lt_of_not_le fun q => by rw [sbc_no2 q] at h; cases h
  have k10 : 10 ≤ k := hk.elim (fun q => (kl_lt k q).1) (fun q => by omega)
  unfold sb at g ⊢
  rcases Bool.or_eq_true_iff.mp g with e | e
  · have := Nat.eq_of_beq_eq_true e
    subst this
    simp [h, ht', ht]
  · obtain ⟨-, e2⟩ := Bool.and_eq_true_iff.mp e
    rcases Bool.or_eq_true_iff.mp e2 with e3 | e3
    · have := Nat.eq_of_beq_eq_true e3; omega
    · obtain ⟨-, e5⟩ := Bool.and_eq_true_iff.mp e3
      have a3 : k < 60 := Nat.lt_of_not_le fun q => by rw [sbc_no2 q] at e5; cases e5
      have a4 : k ∈ kl := hk.elim id (fun q => by omega)
      have := sbc_tr k a4 t a2 e5 t' a1 h
      simp [this, ht', k10]
theorem vr_sb {t t' : Nat} {v : Int} {w : Value} (hk : kOk ads) (h : vr sa b ads t v w) (hs : sb t' t = true) : vr sa b ads t' v w := by
  unfold sb at hs
  rcases Bool.or_eq_true_iff.mp hs with e | e
  · rw [← Nat.eq_of_beq_eq_true e]; exact h
  · obtain ⟨e1, e2⟩ := Bool.and_eq_true_iff.mp e
    have ht' : 10 ≤ t' := Nat.ble_eq.mp e1
    rcases Bool.or_eq_true_iff.mp e2 with e3 | e3
    · have := Nat.eq_of_beq_eq_true e3
      subst this
      exact (vr_ref (by omega)).mpr (Or.inl ⟨h.2, h.1⟩)
    · obtain ⟨e4, e5⟩ := Bool.and_eq_true_iff.mp e3
      have ht : 10 ≤ t := Nat.ble_eq.mp e4
      rcases (vr_ref (by omega)).mp h with h | ⟨j, a, k, h1, h2, h3, h4⟩
      · exact (vr_ref (by omega)).mpr (Or.inl h)
      · exact (vr_ref (by omega)).mpr (Or.inr ⟨j, a, k, h1, h2, h3, sb_tr (hk j a k h2) ht' ht e5 h4⟩)
theorem sr_nil {vs : List Value} (h : sr sa b ads [] vs) : vs = [] := by
  cases vs with
  | nil => rfl
  | cons v vs => exact h.elim
theorem sr_cons {w : Wd} {s : List Wd} {vs : List Value} (h : sr sa b ads (w :: s) vs) : ∃ v vs', vs = v :: vs' ∧ vr sa b ads w.1 w.2 v ∧ sr sa b ads s vs' := by
  cases vs with
  | nil => exact h.elim
  | cons v vs => exact ⟨v, vs, rfl, h.1, h.2⟩
theorem sr_split {t s : List Wd} : ∀ {vs : List Value}, sr sa b ads (t ++ s) vs → ∃ tv sv, vs = tv ++ sv ∧ sr sa b ads t tv ∧ sr sa b ads s sv := by
  induction t with
  | nil => intro vs h; exact ⟨[], vs, rfl, trivial, h⟩
  | cons w t ih =>
    intro vs h
    obtain ⟨v, vs', rfl, h1, h2⟩ := sr_cons h
    obtain ⟨tv, sv, rfl, h3, h4⟩ := ih h2
    exact ⟨v :: tv, sv, rfl, ⟨h1, h3⟩, h4⟩
theorem sr_join {t s : List Wd} : ∀ {tv sv : List Value}, sr sa b ads t tv → sr sa b ads s sv → sr sa b ads (t ++ s) (tv ++ sv) := by
  induction t with
  | nil => intro tv sv h g; rw [sr_nil h]; exact g
  | cons w t ih =>
    intro tv sv h g
    obtain ⟨v, vs', rfl, h1, h2⟩ := sr_cons h
    exact ⟨h1, ih h2 g⟩
theorem sr_rev {t : List Wd} : ∀ {tv : List Value}, sr sa b ads t tv → sr sa b ads t.reverse tv.reverse := by
  induction t with
  | nil => intro tv h; rw [sr_nil h]; trivial
  | cons w t ih =>
    intro tv h
    obtain ⟨v, vs', rfl, h1, h2⟩ := sr_cons h
    rw [List.reverse_cons, List.reverse_cons]
    exact sr_join (ih h2) ⟨h1, trivial⟩
theorem sr_len {t : List Wd} : ∀ {tv : List Value}, sr sa b ads t tv → tv.length = t.length := by
  induction t with
  | nil => intro tv h; rw [sr_nil h]; rfl
  | cons w t ih =>
    intro tv h
    obtain ⟨v, vs', rfl, h1, h2⟩ := sr_cons h
    rw [List.length_cons, List.length_cons, ih h2]
theorem sr_sum {t : List Wd} : ∀ {tv : List Value}, sr sa b ads t tv → (tv.map fun v => v.category).sum ≤ 2 * t.length := by
  induction t with
  | nil => intro tv h; rw [sr_nil h]; exact Nat.le_refl _
  | cons w t ih =>
    intro tv h
    obtain ⟨v, vs', rfl, h1, h2⟩ := sr_cons h
    have := ih h2
    have hc := vr_cat h1
    rw [List.map_cons, List.sum_cons, List.length_cons, hc]
    split <;> omega
theorem coL_sr (hk : kOk ads) {ts : List Nat} : ∀ {ws ws' : List Wd} {vs : List Value}, coL ts ws = some ws' → sr sa b ads ws vs → sr sa b ads ws' vs ∧ ws'.map (·.1) = ts := by
  induction ts with
  | nil =>
    intro ws ws' vs h g
    cases ws with
    | nil => cases h; exact ⟨g, rfl⟩
    | cons w ws => cases h
  | cons t ts ih =>
    intro ws ws' vs h g
    cases ws with
    | nil => cases h
    | cons w ws =>
      simp only [coL] at h
      cases hs : sb t w.1 with
      | false => rw [hs] at h; cases h
      | true =>
        rw [hs] at h
        cases hq : coL ts ws with
        | none => rw [hq] at h; cases h
        | some r =>
          rw [hq] at h
          cases h
          obtain ⟨v, vs', rfl, h1, h2⟩ := sr_cons g
          obtain ⟨a1, a2⟩ := ih hq h2
          exact ⟨⟨vr_sb hk h1 hs, a1⟩, by rw [List.map_cons, a2]⟩
theorem pn_sp {k : List Wd → List Wd → Rs} {r : (Int ⊕ Int) × St} : ∀ {n : Nat} {acc st : List Wd}, pn n acc st k = some r → ∃ top rest, st = top ++ rest ∧ top.length = n ∧ k (top.reverse ++ acc) rest = some r := by
  intro n
  induction n with
  | zero => intro acc st h; exact ⟨[], st, rfl, rfl, by simpa [pn] using h⟩
  | succ n ih =>
    intro acc st h
    cases st with
    | nil => cases h
    | cons w s =>
      simp only [pn] at h
      obtain ⟨top, rest, rfl, h2, h3⟩ := ih h
      exact ⟨w :: top, rest, rfl, by rw [List.length_cons, h2], by rw [List.reverse_cons, List.append_assoc]; exact h3⟩
theorem lr_nil {vs : List (Nat × Value)} (h : lr sa b ads [] vs) : vs = [] := by
  cases vs with
  | nil => rfl
  | cons v vs => exact h.elim
theorem lr_cons {q : Nat × Nat × Int} {s : Lv} {vs : List (Nat × Value)} (h : lr sa b ads (q :: s) vs) : ∃ v vs', vs = (q.1, v) :: vs' ∧ vr sa b ads q.2.1 q.2.2 v ∧ lr sa b ads s vs' := by
  cases vs with
  | nil => exact h.elim
  | cons v vs =>
    obtain ⟨i, v⟩ := v
    obtain ⟨h1, h2, h3⟩ := h
    have h1 : q.1 = i := h1
    subst h1
    exact ⟨v, vs, rfl, h2, h3⟩
theorem lr_get {lv : Lv} : ∀ {ms : List (Nat × Value)} {i : Nat} {w : Wd}, lr sa b ads lv ms → lg_ lv i = some w → ∃ v, (i, v) ∈ ms ∧ vr sa b ads w.1 w.2 v := by
  induction lv with
  | nil => intro ms i w h g; cases g
  | cons q lv ih =>
    intro ms i w h g
    obtain ⟨v, vs', rfl, h1, h2⟩ := lr_cons h
    simp only [lg_] at g
    cases hq : Nat.beq q.1 i with
    | true =>
      rw [hq] at g
      cases g
      rw [← Nat.eq_of_beq_eq_true hq]
      exact ⟨v, List.mem_cons_self, h1⟩
    | false =>
      rw [hq] at g
      obtain ⟨v', a1, a2⟩ := ih h2 g
      exact ⟨v', List.mem_cons_of_mem _ a1, a2⟩
theorem lr_filter {f : Nat × Nat × Int → Bool} {g : Nat × Value → Bool} {lv : Lv} (hfg : ∀ i t v w, vr sa b ads t v w → f (i, t, v) = g (i, w)) : ∀ {ms : List (Nat × Value)}, lr sa b ads lv ms → lr sa b ads (lv.filter f) (ms.filter g) := by
  induction lv with
  | nil => intro ms h; rw [lr_nil h]; trivial
  | cons q lv ih =>
    intro ms h
    obtain ⟨v, vs', rfl, h1, h2⟩ := lr_cons h
    have e := hfg q.1 q.2.1 q.2.2 v h1
    rw [List.filter_cons, List.filter_cons, ← e]
    split
    · exact ⟨rfl, h1, ih h2⟩
    · exact ih h2
theorem beq_cat {t : Nat} {v : Int} {w : Value} (h : vr sa b ads t v w) : Nat.beq t 1 = (w.category == 2) := by
  rw [vr_cat h]
  by_cases e : t = 1
  · subst e; rfl
  · rw [if_neg e]
    cases hq : Nat.beq t 1 with
    | false => rfl
    | true => exact absurd (Nat.eq_of_beq_eq_true hq) e
theorem nbeq (a c : Nat) : Nat.beq a c = (a == c) := by
  rw [Bool.eq_iff_iff, Nat.beq_eq]; simp
theorem lr_ls1 {lv : Lv} {ms : List (Nat × Value)} (h : lr sa b ads lv ms) (i : Nat) {w : Wd} {x : Value} (hw : vr sa b ads w.1 w.2 x) : lr sa b ads (ls1 lv i w) ((i, x) :: ms.filter (fun q => !(q.1 == i) && !(q.1 + 1 == i && q.2.category == 2))) := by
  refine ⟨rfl, hw, lr_filter (fun j t v w h => ?_) h⟩
  simp only [nbeq]
  rw [← nbeq t 1, beq_cat h]
theorem lr_ls2 {lv : Lv} {ms : List (Nat × Value)} (h : lr sa b ads lv ms) (i : Nat) {w : Wd} {x : Value} (hw : vr sa b ads w.1 w.2 x) : lr sa b ads (ls2 lv i w) ((i, x) :: ms.filter (fun q => !(q.1 == i) && (!(q.1 == i + 1) && !(q.1 + 1 == i && q.2.category == 2)))) := by
  refine ⟨rfl, hw, lr_filter (fun j t v w h => ?_) h⟩
  simp only [nbeq]
  rw [← nbeq t 1, beq_cat h]
theorem pkl_lr (hk : kOk ads) {ls : List (Nat × Nat)} : ∀ {lv lv' : Lv} {ms : List (Nat × Value)}, pkl ls lv = some lv' → lr sa b ads lv ms → ∃ ms', lr sa b ads lv' ms' ∧ ∀ q ∈ ms', q ∈ ms := by
  induction ls with
  | nil => intro lv lv' ms h g; cases h; exact ⟨[], trivial, fun q h => absurd h List.not_mem_nil⟩
  | cons q ls ih =>
    intro lv lv' ms h g
    simp only [pkl] at h
    cases h1 : lg_ lv q.1 with
    | none => rw [h1] at h; cases h
    | some w =>
      cases h2 : pkl ls lv with
      | none => rw [h1, h2] at h; cases h
      | some l =>
        rw [h1, h2] at h
        simp only at h
        cases hs : sb q.2 w.1 with
        | false => rw [hs] at h; cases h
        | true =>
          rw [hs] at h
          cases h
          obtain ⟨v, a1, a2⟩ := lr_get g h1
          obtain ⟨ms', b1, b2⟩ := ih h2 g
          refine ⟨(q.1, v) :: ms', ⟨rfl, vr_sb hk a2 hs, b1⟩, fun p hp => ?_⟩
          rcases List.mem_cons.mp hp with e | e
          · rw [e]; exact a1
          · exact b2 p e
theorem lr_args {as : List Wd} : ∀ {vs : List Value} (i : Nat), sr sa b ads as vs → lr sa b ads (lva i as) (lv_args i vs) := by
  induction as with
  | nil => intro vs i h; rw [sr_nil h]; exact trivial
  | cons w as ih =>
    intro vs i h
    obtain ⟨v, vs', rfl, h1, h2⟩ := sr_cons h
    refine ⟨rfl, h1, ?_⟩
    have e : cond (Nat.beq w.1 1) (i + 2) (i + 1) = if v.category = 2 then i + 2 else i + 1 := by
      rw [beq_cat h1]
      by_cases q : v.category = 2
      · simp [q]
      · rw [show (v.category == 2) = false from beq_eq_false_iff_ne.mpr q, if_neg q]; rfl
    show lr sa b ads (lva (cond (Nat.beq w.1 1) (i + 2) (i + 1)) as) (lv_args (if v.category = 2 then i + 2 else i + 1) vs')
    rw [e]
    exact ih _ h2
end RelM
