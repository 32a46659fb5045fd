theorem law_main {L : Nat} {xs : Nat → Int32} (hL : L ≤ 384) : LawMain L xs := sorry
