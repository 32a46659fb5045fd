/-! LAYER 3, 1: the tape: feed -/
/-- bytes are written behind the last one: array a of object r, how many: field c of object q -/
def wrl (a : Nat) (r : Int) (c : Nat) (q : Int) (S : St) (bs : List Int) : St := fun g x i =>
  if g = c ∧ x = q ∧ i = 0 then S c q 0 + bs.length else if g = a ∧ x = r ∧ S c q 0 ≤ i ∧ i < S c q 0 + bs.length then bs.getD (i - S c q 0).toNat 0 else S g x i
theorem wrl_nil (a : Nat) (r : Int) (c : Nat) (q : Int) (S : St) : wrl a r c q S [] = S := by
  funext g x i
  unfold wrl
  split
  · rename_i h
    obtain ⟨rfl, rfl, rfl⟩ := h
    simp
  · split
    · rename_i h
      simp at h
      omega
    · rfl
theorem wrl_n (a : Nat) (r : Int) (c : Nat) (q : Int) (S : St) (bs : List Int) : wrl a r c q S bs c q 0 = S c q 0 + bs.length := if_pos ⟨rfl, rfl, rfl⟩
/-- one more byte, whichever of the two stores comes first -/
theorem wrl_up {a : Nat} {r : Int} {c : Nat} {q : Int} {S : St} {bs : List Int} {b : Int} (hac : a ≠ c) :
    up (up (wrl a r c q S bs) c q 0 (S c q 0 + bs.length + 1)) a r (S c q 0 + bs.length) b = wrl a r c q S (bs ++ [b]) := by
  funext g x i
  simp only [up_ap, wrl, List.length_append, List.length_singleton]
  by_cases h1 : g = c ∧ x = q ∧ i = 0
  · obtain ⟨rfl, rfl, rfl⟩ := h1
    rw [if_neg (fun h => hac h.1.symm), if_pos ⟨rfl, rfl, rfl⟩, if_pos ⟨rfl, rfl, rfl⟩]
    push_cast; omega
  · rw [if_neg h1, if_neg h1, if_neg h1]
    by_cases h2 : g = a ∧ x = r
    · obtain ⟨rfl, rfl⟩ := h2
      by_cases h3 : i = S c q 0 + bs.length
      · subst h3
        rw [if_pos ⟨rfl, rfl, rfl⟩, if_pos ⟨rfl, rfl, by omega, by push_cast; omega⟩]
        rw [show (S c q 0 + (bs.length : Int) - S c q 0).toNat = bs.length by omega]
        simp
      · rw [if_neg (fun h => h3 h.2.2)]
        by_cases h4 : S c q 0 ≤ i ∧ i < S c q 0 + bs.length
        · rw [if_pos ⟨rfl, rfl, h4.1, h4.2⟩, if_pos ⟨rfl, rfl, h4.1, by push_cast; omega⟩]
          have : (i - S c q 0).toNat < bs.length := by omega
          rw [List.getD_eq_getElem?_getD, List.getD_eq_getElem?_getD, List.getElem?_append_left this]
        · rw [if_neg (fun h => h4 ⟨h.2.2.1, h.2.2.2⟩), if_neg (fun h => h4 ⟨h.2.2.1, by have := h.2.2.2; push_cast at this; omega⟩)]
    · rw [if_neg (fun h => h2 ⟨h.1, h.2.1⟩), if_neg (fun h => h2 ⟨h.1, h.2.1⟩), if_neg (fun h => h2 ⟨h.1, h.2.1⟩)]
theorem wrl_up2 {a : Nat} {r : Int} {c : Nat} {q : Int} {S : St} {bs : List Int} {b : Int} (hac : a ≠ c) :
    up (up (wrl a r c q S bs) a r (S c q 0 + bs.length) b) c q 0 (S c q 0 + bs.length + 1) = wrl a r c q S (bs ++ [b]) := by
  rw [← wrl_up hac]
  funext g x i
  simp only [up_ap]
  by_cases h1 : g = c ∧ x = q ∧ i = 0
  · rw [if_pos h1, if_neg (fun h => hac (h.1.symm.trans h1.1)), if_pos h1]
  · rw [if_neg h1, if_neg h1]
noncomputable def byt (v k : Int) : Int := Int.bmod (Int.bmod (i_ushr v k) 256) 256
theorem put4_step (d : Nat) (v k : Int) (S : St) (bs : List Int) (h0 : 0 ≤ S 301 1 0) (h1 : S 301 1 0 + bs.length < 4020) (hk : 0 ≤ k ∧ k ≤ 24) :
    jH_put4_2 d v k (wrl 70 2 301 1 S bs) = jH_put4_2 d v (k - 8) (wrl 70 2 301 1 S (bs ++ [byt v k])) := by
  rw [jH_put4_2_e]
  rw [if_neg (by omega)]
  simp only [lt_eq, wrl_n]
  rw [ib_eq (by omega) h1, w32_eq (x := S 301 1 0 + bs.length + 1) (by omega) (by omega), w32_eq (x := k + -8) (by omega) (by omega)]
  rw [show k + -8 = k - 8 by omega]
  rw [show Int.bmod (Int.bmod (i_ushr v k) 256) 256 = byt v k from rfl, wrl_up (by decide)]
theorem put4_run (d : Nat) (v : Int) (S : St) (bs : List Int) (h0 : 0 ≤ S 301 1 0) (h1 : S 301 1 0 + bs.length + 4 ≤ 4020) :
    jH_put4 d v (wrl 70 2 301 1 S bs) = some (.inl 0, wrl 70 2 301 1 S (bs ++ [byt v 24, byt v 16, byt v 8, byt v 0])) := by
  rw [jH_put4_e, lt_eq]
  rw [put4_step d v 24 S bs h0 (by omega) (by omega)]
  rw [put4_step d v (24 - 8) S _ h0 (by simp; omega) (by omega)]
  rw [put4_step d v (24 - 8 - 8) S _ h0 (by simp; omega) (by omega)]
  rw [put4_step d v (24 - 8 - 8 - 8) S _ h0 (by simp; omega) (by omega)]
  rw [jH_put4_2_e, if_pos (by omega)]
  simp only [List.append_assoc, List.cons_append, List.nil_append]
  rfl
noncomputable def bytes (a b c d e : Int) : List Int := [byt a 24, byt a 16, byt a 8, byt a 0, byt b 24, byt b 16, byt b 8, byt b 0, byt c 24, byt c 16, byt c 8, byt c 0, byt d 24, byt d 16, byt d 8, byt d 0, byt e 24, byt e 16, byt e 8, byt e 0]
theorem feedH (k : Nat) (a b c d e : Int) (S : St) (h0 : 0 ≤ S 301 1 0) (h1 : S 301 1 0 ≤ 4020) :
    jH_feed (k + 1) a b c d e S = if 4020 < S 301 1 0 + 20 then some (.inl (-2), S) else some (.inl (S 301 1 0 + 20), wrl 70 2 301 1 S (bytes a b c d e)) := by
  rw [jH_feed_e, w32_eq (by omega) (by omega)]
  by_cases h : 4020 < S 301 1 0 + 20
  · rw [if_pos h, if_pos h]
  · rw [if_neg h, if_neg h]
    have e0 : jH_put4 k a S = some (.inl 0, wrl 70 2 301 1 S [byt a 24, byt a 16, byt a 8, byt a 0]) := by
      have := put4_run k a S [] h0 (by simp; omega)
      rw [wrl_nil] at this
      exact this
    rw [cl_eq e0]
    rw [cl_eq (put4_run k b S _ h0 (by simp; omega))]
    rw [cl_eq (put4_run k c S _ h0 (by simp; omega))]
    rw [cl_eq (put4_run k d S _ h0 (by simp; omega))]
    rw [cl_eq (put4_run k e S _ h0 (by simp; omega))]
    simp only [wrl_n]
    rfl
theorem feedM_step (k : Nat) (a b c d e : Int) (n : Nat) (S : St) (bs : List Int) (h0 : 0 ≤ S 375 95 0) (h1 : S 375 95 0 + bs.length < 4020) (hn : n < 20) (hb : bs.length = n) :
    jM_feed_10 k a b c d e n (wrl 108 96 375 95 S bs) = jM_feed_10 k a b c d e ((n + 1 : Nat) : Int) (wrl 108 96 375 95 S (bs ++ [(bytes a b c d e).getD n 0])) := by
  have key : ∀ x : Int, jM_feed_34 k a b c d e n x (wrl 108 96 375 95 S bs) = jM_feed_10 k a b c d e ((n + 1 : Nat) : Int) (wrl 108 96 375 95 S (bs ++ [byt x (24 - 8 * ((n % 4 : Nat) : Int))])) := by
    intro x
    rw [jM_feed_34_e]
    simp only [lt_eq, wrl_n]
    rw [ib_eq (by omega) h1]
    have em : Int.tmod (n : Int) 4 = ((n % 4 : Nat) : Int) := by
      rw [Int.tmod_eq_emod_of_nonneg (by omega)]; omega
    have hm : n % 4 < 4 := Nat.mod_lt _ (by decide)
    rw [em, w32_eq (x := 8 * ((n % 4 : Nat) : Int)) (by omega) (by omega), w32_eq (x := 24 - 8 * ((n % 4 : Nat) : Int)) (by omega) (by omega), w32_eq (x := (n : Int) + 1) (by omega) (by omega)]
    have e1 : up (wrl 108 96 375 95 S bs) 108 96 (S 375 95 0 + bs.length) (Int.bmod (Int.bmod (i_ushr x (24 - 8 * ((n % 4 : Nat) : Int))) 256) 256) 375 95 0 = S 375 95 0 + bs.length := by
      rw [up_f (by decide), wrl_n]
    rw [e1, w32_eq (by omega) (by omega)]
    rw [show Int.bmod (Int.bmod (i_ushr x (24 - 8 * ((n % 4 : Nat) : Int))) 256) 256 = byt x (24 - 8 * ((n % 4 : Nat) : Int)) from rfl, wrl_up2 (by decide)]
    rfl
  rw [jM_feed_10_e, if_pos (by omega)]
  simp only [key]
  match n, hn with
  | 0, _ => rfl
  | 1, _ => rfl
  | 2, _ => rfl
  | 3, _ => rfl
  | 4, _ => rfl
  | 5, _ => rfl
  | 6, _ => rfl
  | 7, _ => rfl
  | 8, _ => rfl
  | 9, _ => rfl
  | 10, _ => rfl
  | 11, _ => rfl
  | 12, _ => rfl
  | 13, _ => rfl
  | 14, _ => rfl
  | 15, _ => rfl
  | 16, _ => rfl
  | 17, _ => rfl
  | 18, _ => rfl
  | 19, _ => rfl
  | n + 20, h => omega
theorem feedM_all (k : Nat) (a b c d e : Int) (S : St) (h0 : 0 ≤ S 375 95 0) (h1 : S 375 95 0 + 20 ≤ 4020) : ∀ j : Nat, j ≤ 20 →
    jM_feed_10 k a b c d e 0 S = jM_feed_10 k a b c d e (j : Int) (wrl 108 96 375 95 S ((bytes a b c d e).take j)) := by
  intro j
  induction j with
  | zero => intro _; rw [List.take_zero, wrl_nil]; rfl
  | succ j ih =>
    intro hj
    have hl : ((bytes a b c d e).take j).length = j := by rw [List.length_take]; show min j 20 = j; omega
    rw [ih (by omega), feedM_step k a b c d e j S _ h0 (by omega) (by omega) hl]
    congr 2
    rw [List.take_succ, List.getD_eq_getElem?_getD]
    have : j < (bytes a b c d e).length := by show j < 20; omega
    rw [List.getElem?_eq_getElem this]
    rfl
theorem feedM (k : Nat) (a b c d e : Int) (S : St) (h0 : 0 ≤ S 375 95 0) (h1 : S 375 95 0 ≤ 4020) :
    jM_feed k a b c d e S = if 4020 < S 375 95 0 + 20 then some (.inl (-2), S) else some (.inl (S 375 95 0 + 20), wrl 108 96 375 95 S (bytes a b c d e)) := by
  rw [jM_feed_e, w32_eq (by omega) (by omega)]
  by_cases h : 4020 < S 375 95 0 + 20
  · rw [if_pos h, if_pos h]
  · rw [if_neg h, if_neg h, lt_eq, feedM_all k a b c d e S h0 (by omega) 20 (Nat.le_refl _)]
    rw [jM_feed_10_e, if_neg (by omega), wrl_n]
    rfl
/-- both answer the same, each on its own state, and then P -/
def Two (f g : St → Rs) (S M : St) (P : St → St → Prop) : Prop := ∃ v S' M', f S = some (.inl v, S') ∧ g M = some (.inl v, M') ∧ P S' M'
/-- the two tapes -/
def RT (S M : St) : Prop := 0 ≤ S 301 1 0 ∧ S 301 1 0 ≤ 4020 ∧ M 375 95 0 = S 301 1 0 ∧ ∀ i, 0 ≤ i → i < S 301 1 0 → M 108 96 i = S 70 2 i ∧ -128 ≤ S 70 2 i ∧ S 70 2 i < 128
theorem byt_rng (v k : Int) : -128 ≤ byt v k ∧ byt v k < 128 := bm8 _
theorem bytes_rng (a b c d e : Int) : ∀ x ∈ bytes a b c d e, -128 ≤ x ∧ x < 128 := by
  intro x hx
  simp only [bytes, List.mem_cons, List.not_mem_nil, or_false] at hx
  rcases hx with rfl | rfl | rfl | rfl | rfl | rfl | rfl | rfl | rfl | rfl | rfl | rfl | rfl | rfl | rfl | rfl | rfl | rfl | rfl | rfl <;> exact byt_rng _ _
theorem wrl_a {a : Nat} {r : Int} {c : Nat} {q : Int} {S : St} {bs : List Int} (hac : a ≠ c) (i : Int) : wrl a r c q S bs a r i = if S c q 0 ≤ i ∧ i < S c q 0 + bs.length then bs.getD (i - S c q 0).toNat 0 else S a r i := by
  unfold wrl
  rw [if_neg (fun z => hac z.1)]
  by_cases z : S c q 0 ≤ i ∧ i < S c q 0 + bs.length
  · rw [if_pos z, if_pos ⟨rfl, rfl, z.1, z.2⟩]
  · rw [if_neg z, if_neg (fun y => z ⟨y.2.2.1, y.2.2.2⟩)]
theorem wrl_f {a : Nat} {r : Int} {c : Nat} {q : Int} {S : St} {bs : List Int} {g : Nat} (h1 : g ≠ a) (h2 : g ≠ c) : wrl a r c q S bs g = S g := by
  funext x i
  unfold wrl
  rw [if_neg (fun z => h2 z.1), if_neg (fun z => h1 z.1)]
theorem feed_ok (k k' : Nat) (a b c d e : Int) (S M : St) (h : RT S M) : Two (jH_feed (k + 1) a b c d e) (jM_feed k' a b c d e) S M (fun S' M' => RT S' M' ∧ (∀ g, g ≠ 301 → g ≠ 70 → S' g = S g) ∧ ∀ g, g ≠ 375 → g ≠ 108 → M' g = M g) := by
  obtain ⟨h0, h1, h2, h3⟩ := h
  unfold Two
  rw [feedH k a b c d e S h0 h1, feedM k' a b c d e M (by omega) (by omega), h2]
  by_cases h : 4020 < S 301 1 0 + 20
  · rw [if_pos h, if_pos h]
    exact ⟨-2, S, M, rfl, rfl, ⟨h0, h1, h2, h3⟩, fun _ _ _ => rfl, fun _ _ _ => rfl⟩
  · rw [if_neg h, if_neg h]
    refine ⟨S 301 1 0 + 20, _, _, rfl, rfl, ?_, fun g g1 g2 => wrl_f g2 g1, fun g g1 g2 => wrl_f g2 g1⟩
    have hl : (bytes a b c d e).length = 20 := rfl
    refine ⟨by rw [wrl_n, hl]; omega, by rw [wrl_n, hl]; omega, by rw [wrl_n, wrl_n, h2], fun i i0 i1 => ?_⟩
    rw [wrl_n, hl] at i1
    rw [wrl_a (by decide), wrl_a (by decide), h2, hl]
    by_cases q : S 301 1 0 ≤ i ∧ i < S 301 1 0 + (20 : Nat)
    · rw [if_pos q, if_pos q]
      refine ⟨rfl, ?_⟩
      have hl2 : (i - S 301 1 0).toNat < (bytes a b c d e).length := by rw [hl]; omega
      rw [List.getD_eq_getElem?_getD, List.getElem?_eq_getElem hl2]
      exact bytes_rng a b c d e _ (List.getElem_mem _)
    · rw [if_neg q, if_neg q]
      exact h3 i i0 (by omega)
