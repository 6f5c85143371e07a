/-! X: the small ones -/
theorem X_in {d u : Nat} {h : pmH} {Q : pmO → Prop} (v a b : Int32) (hQ : Q (.inl (some (.int (bI (a ≤ v ∧ v ≤ b)))), h)) : Wp d u 50 0 (pm_entry 50 [.int v, .int a, .int b]) [] h Q := by
  repeat (first | refine Wp.putX rfl rfl rfl ?_ | refine Wp.putM rfl rfl rfl ?_ | refine Wp.step rfl ?_)
  try dsimp only
  refine Wp.br rfl (fun h1 => ?_) (fun h1 => ?_)
  · repeat (first | refine Wp.putX rfl rfl rfl ?_ | refine Wp.putM rfl rfl rfl ?_ | refine Wp.step rfl ?_)
    try dsimp only
    refine Wp.fin rfl rfl ?_
    rwa [show bI (a ≤ v ∧ v ≤ b) = nI 0 from if_neg (fun q => absurd h1 (Int32.not_lt.mpr q.1))] at hQ
  · repeat (first | refine Wp.putX rfl rfl rfl ?_ | refine Wp.putM rfl rfl rfl ?_ | refine Wp.step rfl ?_)
    try dsimp only
    refine Wp.br rfl (fun h2 => ?_) (fun h2 => ?_)
    · repeat (first | refine Wp.putX rfl rfl rfl ?_ | refine Wp.putM rfl rfl rfl ?_ | refine Wp.step rfl ?_)
      try dsimp only
      refine Wp.fin rfl rfl ?_
      rwa [show bI (a ≤ v ∧ v ≤ b) = nI 0 from if_neg (fun q => absurd h2 (Int32.not_lt.mpr q.2))] at hQ
    · repeat (first | refine Wp.putX rfl rfl rfl ?_ | refine Wp.putM rfl rfl rfl ?_ | refine Wp.step rfl ?_)
      try dsimp only
      refine Wp.fin rfl rfl ?_
      rwa [show bI (a ≤ v ∧ v ≤ b) = nI 1 from if_pos ⟨Int32.not_lt.mp h1, Int32.not_lt.mp h2⟩] at hQ
theorem bI_or (c : Prop) [Decidable c] : bI c = 0 ∨ bI c = 1 := by
  unfold bI; split
  · exact Or.inr rfl
  · exact Or.inl rfl
theorem X_isKingdom {d u : Nat} (X : pmXs) (M : pmMs) (Z : pmZs) (k : Int32) {Q : pmO → Prop} (hQ : Q (.inl (some (.int (bI (nI 0 ≤ k ∧ k ≤ X.1 13 - nI 1)))), hp X M Z)) : Wp (d + 1) u 55 0 (pm_entry 55 [.ref 14, .int k]) [] (hp X M Z) Q := by
  repeat (first | refine Wp.putX rfl rfl rfl ?_ | refine Wp.putM rfl rfl rfl ?_ | refine Wp.step rfl ?_)
  try dsimp only
  refine Wp.call rfl (Nat.zero_le _) (X_in _ _ _ ⟨_, _, rfl, ?_⟩)
  exact Wp.finZ rfl (bI_or _) hQ
theorem X_isField {d u : Nat} (X : pmXs) (M : pmMs) (Z : pmZs) (k : Int32) {Q : pmO → Prop} (hQ : Q (.inl (some (.int (bI (nI 0 ≤ k ∧ k ≤ X.1 14 - nI 1)))), hp X M Z)) : Wp (d + 1) u 49 0 (pm_entry 49 [.ref 14, .int k]) [] (hp X M Z) Q := by
  repeat (first | refine Wp.putX rfl rfl rfl ?_ | refine Wp.putM rfl rfl rfl ?_ | refine Wp.step rfl ?_)
  try dsimp only
  refine Wp.call rfl (Nat.zero_le _) (X_in _ _ _ ⟨_, _, rfl, ?_⟩)
  exact Wp.finZ rfl (bI_or _) hQ
theorem X_of {d u : Nat} (X : pmXs) (M : pmMs) (Z : pmZs) {F K : Nat} (h : 4 * F + K < 32) {Q : pmO → Prop} (hQ : Q (.inl (some (.int (xa X 22 (4 * F + K)))), hp X M Z)) : Wp d u 51 0 (pm_entry 51 [.ref 14, .int (nI F), .int (nI K)]) [] (hp X M Z) Q := by
  repeat (first | refine Wp.putX rfl rfl rfl ?_ | refine Wp.putM rfl rfl rfl ?_ | refine Wp.step rfl ?_)
  try dsimp only
  refine Wp.ldX rfl rfl (by (try simp only [nI_add, pk_mul]); exact rfl) (by omega) (by decide) ?_
  exact Wp.fin rfl rfl hQ
theorem X_pageOf {d u : Nat} (X : pmXs) (M : pmMs) (Z : pmZs) {i k : Nat} (h : 3 * i + k < 271) {Q : pmO → Prop} (hQ : Q (.inl (some (.int (xa X 26 (20 + 3 * i + k)))), hp X M Z)) : Wp d u 90 0 (pm_entry 90 [.ref 14, .int (nI i), .int (nI k)]) [] (hp X M Z) Q := by
  repeat (first | refine Wp.putX rfl rfl rfl ?_ | refine Wp.putM rfl rfl rfl ?_ | refine Wp.step rfl ?_)
  try dsimp only
  refine Wp.ldX rfl rfl (by (try simp only [nI_add, pk_mul]); exact rfl) (by omega) (by decide) ?_
  exact Wp.fin rfl rfl hQ
/-- how many of the first n pages are k's -/
def cntP (w : Nat → Int32) (k : Int32) : Nat → Nat
  | 0 => 0
  | i + 1 => cntP w k i + if w (20 + 3 * i + 1) = k then 1 else 0
theorem X_pagesOf_l {d u : Nat} (X : pmXs) (M : pmMs) (Z : pmZs) (k : Int32) {pg : Nat} (hpg : xa X 26 19 = nI pg) (hle : pg ≤ 30) {Q : pmO → Prop} (hQ : Q (.inl (some (.int (nI (cntP (xa X 26) k pg)))), hp X M Z)) : ∀ m i : Nat, i + m = pg → Wp (d + 1) u 71 4 [some (.ref 14), some (.int k), some (.int (nI (cntP (xa X 26) k i))), some (.int (nI i))] [] (hp X M Z) Q := by
  intro m
  induction m with
  | zero =>
    intro i hi
    repeat (first | refine Wp.putX rfl rfl rfl ?_ | refine Wp.putM rfl rfl rfl ?_ | refine Wp.step rfl ?_)
    try dsimp only
    refine Wp.ldX rfl rfl (by (try simp only [nI_add, pk_mul]); exact rfl) (by omega) (by decide) ?_
    refine Wp.brT rfl (by rw [hpg]; exact nI_le (by omega) (by omega)) ?_
    repeat (first | refine Wp.putX rfl rfl rfl ?_ | refine Wp.putM rfl rfl rfl ?_ | refine Wp.step rfl ?_)
    try dsimp only
    obtain rfl : i = pg := by omega
    exact Wp.fin rfl rfl hQ
  | succ m ih =>
    intro i hi
    repeat (first | refine Wp.putX rfl rfl rfl ?_ | refine Wp.putM rfl rfl rfl ?_ | refine Wp.step rfl ?_)
    try dsimp only
    refine Wp.ldX rfl rfl (by (try simp only [nI_add, pk_mul]); exact rfl) (by omega) (by decide) ?_
    refine Wp.brF rfl (by rw [hpg]; exact nI_ge (by omega) (by omega)) ?_
    repeat (first | refine Wp.putX rfl rfl rfl ?_ | refine Wp.putM rfl rfl rfl ?_ | refine Wp.step rfl ?_)
    try dsimp only
    refine Wp.call rfl (Nat.zero_le _) (X_pageOf X M Z (by omega) ⟨_, _, rfl, ?_⟩)
    repeat (first | refine Wp.putX rfl rfl rfl ?_ | refine Wp.putM rfl rfl rfl ?_ | refine Wp.step rfl ?_)
    try dsimp only
    refine Wp.br rfl (fun h1 => ?_) (fun h1 => ?_)
    · have k9 := ih (i + 1) (by omega)
      rw [show cntP (xa X 26) k (i + 1) = cntP (xa X 26) k i from by rw [cntP, if_neg h1]; rfl, ← nI_add i 1] at k9
      repeat (first | exact k9 | refine Wp.putX rfl rfl rfl ?_ | refine Wp.putM rfl rfl rfl ?_ | refine Wp.step rfl ?_)
    · have k9 := ih (i + 1) (by omega)
      rw [show cntP (xa X 26) k (i + 1) = cntP (xa X 26) k i + 1 from by rw [cntP, if_pos (Decidable.not_not.mp h1)], ← nI_add i 1, ← nI_add _ 1] at k9
      repeat (first | exact k9 | refine Wp.putX rfl rfl rfl ?_ | refine Wp.putM rfl rfl rfl ?_ | refine Wp.step rfl ?_)
theorem X_pagesOf {d u : Nat} (X : pmXs) (M : pmMs) (Z : pmZs) (k : Int32) {pg : Nat} (hpg : xa X 26 19 = nI pg) (hle : pg ≤ 30) {Q : pmO → Prop} (hQ : Q (.inl (some (.int (nI (cntP (xa X 26) k pg)))), hp X M Z)) : Wp (d + 1) u 71 0 (pm_entry 71 [.ref 14, .int k]) [] (hp X M Z) Q := by
  iterate 4 refine Wp.step rfl ?_
  exact X_pagesOf_l X M Z k hpg hle hQ pg 0 (by omega)
