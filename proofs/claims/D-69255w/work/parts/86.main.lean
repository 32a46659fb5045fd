/-! LAYER 3, 81: what is owed of the law's loop, out of the operations -/
theorem law_8 (d : Nat) (S : St) : rn true d 466 8 lv8 [] S = jLaw_law_10 d 0 1 95 0 S := (U_eq d 466 2 8 _ _ _).symm.trans rfl
theorem law_main_of {Iv : Nat → St → Prop} {d : Nat} (hd : d + 1 ≤ 1300) (hop : Ops Iv d) {L : Nat} {xs : Nat → Int32} (hL : L ≤ 384) (hI : Iv 0 (scS L xs ZM)) (hb : ∀ n S, n ≤ 64 → Iv n S → S 2 0 0 ≤ 600128 ∧ S 3 0 0 ≤ 7301098) : LawMain L xs := by
  have e5 : scS L xs ZM 5 0 0 = (L : Int) := rfl
  obtain ⟨n', S', h1, h2, h3⟩ := law_loop hop 64 0 (scS L xs ZM) rfl hI (by rw [e5]; omega) (by rw [e5]; omega) (fun j _ _ => ⟨Int32.le_toInt _, Int32.toInt_lt _⟩)
  obtain ⟨b1, b2⟩ := hb n' S' h2 h3
  refine ⟨d + 1, S', hd, ?_, b1, b2⟩
  rw [law_8]
  exact h1
