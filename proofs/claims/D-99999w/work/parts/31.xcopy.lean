/-! X: rows copied -/
theorem X_putAside {d u : Nat} (X : pmXs) (M : pmMs) (Z : pmZs) {Q : pmO → Prop} (hQ : Q (.inl none, hp (xA X 28 (va_cpy (xa X 26) (xa X 28) 0 0 110)) M Z)) : Wp d u 64 0 (pm_entry 64 [.ref 14]) [] (hp X M Z) Q := by
  iterate 2 refine Wp.step rfl ?_
  have k0 := cpy_L (f := xa X 26) (g := xa X 28) (sp := 0) (dp := 0) 110 (fun i q => Wp d u 64 2 [some (.ref 14), some (.int (nI i))] [] (hp (xA X 28 q) M Z) Q) ?_ ?_
  · rw [xA_self] at k0
    exact k0
  · repeat (first | refine Wp.putX rfl rfl rfl ?_ | refine Wp.putM rfl rfl rfl ?_ | refine Wp.step rfl ?_)
    try dsimp only
    refine Wp.brT rfl (nI_le (by omega) (by omega)) ?_
    repeat (first | refine Wp.putX rfl rfl rfl ?_ | refine Wp.putM rfl rfl rfl ?_ | refine Wp.step rfl ?_)
    try dsimp only
    exact Wp.fin rfl trivial hQ
  · intro i q hi k9
    rw [← nI_add i 1, Nat.zero_add] at k9
    repeat (first | refine Wp.putX rfl rfl rfl ?_ | refine Wp.putM rfl rfl rfl ?_ | refine Wp.step rfl ?_)
    try dsimp only
    refine Wp.brF rfl (nI_ge hi (by omega)) ?_
    repeat (first | refine Wp.putX rfl rfl rfl ?_ | refine Wp.putM rfl rfl rfl ?_ | refine Wp.step rfl ?_)
    try dsimp only
    refine Wp.ldX rfl rfl (by (try simp only [nI_add, pk_mul]); exact rfl) (by omega) (by decide) ?_
    refine Wp.istX rfl rfl rfl rfl (by omega) (by decide) ?_
    rw [xA_xA, xA_same]
    repeat (first | exact k9 | refine Wp.putX rfl rfl rfl ?_ | refine Wp.putM rfl rfl rfl ?_ | refine Wp.step rfl ?_)
theorem X_takeBack {d u : Nat} (X : pmXs) (M : pmMs) (Z : pmZs) {Q : pmO → Prop} (hQ : Q (.inl none, hp (xA X 26 (va_cpy (xa X 28) (xa X 26) 0 0 110)) M Z)) : Wp d u 67 0 (pm_entry 67 [.ref 14]) [] (hp X M Z) Q := by
  iterate 2 refine Wp.step rfl ?_
  have k0 := cpy_L (f := xa X 28) (g := xa X 26) (sp := 0) (dp := 0) 110 (fun i q => Wp d u 67 2 [some (.ref 14), some (.int (nI i))] [] (hp (xA X 26 q) M Z) Q) ?_ ?_
  · rw [xA_self] at k0
    exact k0
  · repeat (first | refine Wp.putX rfl rfl rfl ?_ | refine Wp.putM rfl rfl rfl ?_ | refine Wp.step rfl ?_)
    try dsimp only
    refine Wp.brT rfl (nI_le (by omega) (by omega)) ?_
    repeat (first | refine Wp.putX rfl rfl rfl ?_ | refine Wp.putM rfl rfl rfl ?_ | refine Wp.step rfl ?_)
    try dsimp only
    exact Wp.fin rfl trivial hQ
  · intro i q hi k9
    rw [← nI_add i 1, Nat.zero_add] at k9
    repeat (first | refine Wp.putX rfl rfl rfl ?_ | refine Wp.putM rfl rfl rfl ?_ | refine Wp.step rfl ?_)
    try dsimp only
    refine Wp.brF rfl (nI_ge hi (by omega)) ?_
    repeat (first | refine Wp.putX rfl rfl rfl ?_ | refine Wp.putM rfl rfl rfl ?_ | refine Wp.step rfl ?_)
    try dsimp only
    refine Wp.ldX rfl rfl (by (try simp only [nI_add, pk_mul]); exact rfl) (by omega) (by decide) ?_
    refine Wp.istX rfl rfl rfl rfl (by omega) (by decide) ?_
    rw [xA_xA, xA_same]
    repeat (first | exact k9 | refine Wp.putX rfl rfl rfl ?_ | refine Wp.putM rfl rfl rfl ?_ | refine Wp.step rfl ?_)

/-- the row kept ahead of an act: the oldest falls out -/
def keepX (X : pmXs) (ac : Nat) : Nat → Int32 := if ac = 40 then va_cpy (xa X 26) (va_cpy (xa X 27) (xa X 27) 291 0 11349) 0 (291 * 39) 291 else va_cpy (xa X 26) (xa X 27) 0 (291 * ac) 291
def acts1 (ac : Nat) : Nat := if ac = 40 then 40 else ac + 1
theorem X_act2 {d u : Nat} (X : pmXs) (M : pmMs) (Z : pmZs) {ac : Nat} (hac : X.1 24 = nI ac) (hle : ac < 40) {Q : pmO → Prop} (hQ : Q (.inl none, hp (xI (xA X 27 (va_cpy (xa X 26) (xa X 27) 0 (291 * ac) 291)) 24 (nI (ac + 1))) M Z)) : ∀ l1, Wp d u 53 52 [some (.ref 14), l1] [] (hp X M Z) Q := by
  intro l1
  iterate 2 refine Wp.step rfl ?_
  have k0 := cpy_L (f := xa X 26) (g := xa X 27) (sp := 0) (dp := 291 * ac) 291 (fun i q => Wp d u 53 54 [some (.ref 14), some (.int (nI i))] [] (hp (xA X 27 q) M Z) Q) ?_ ?_
  · rw [xA_self] at k0
    exact k0
  · repeat (first | refine Wp.putX rfl rfl rfl ?_ | refine Wp.putM rfl rfl rfl ?_ | refine Wp.step rfl ?_)
    try dsimp only
    refine Wp.brT rfl (nI_le (by omega) (by omega)) ?_
    repeat (first | refine Wp.putX rfl rfl rfl ?_ | refine Wp.putM rfl rfl rfl ?_ | refine Wp.step rfl ?_)
    try dsimp only
    rw [xA_1, hac, nI_add]
    exact Wp.fin rfl trivial hQ
  · intro i q hi k9
    rw [← nI_add i 1, Nat.zero_add] at k9
    repeat (first | refine Wp.putX rfl rfl rfl ?_ | refine Wp.putM rfl rfl rfl ?_ | refine Wp.step rfl ?_)
    try dsimp only
    refine Wp.brF rfl (nI_ge hi (by omega)) ?_
    repeat (first | refine Wp.putX rfl rfl rfl ?_ | refine Wp.putM rfl rfl rfl ?_ | refine Wp.step rfl ?_)
    try dsimp only
    refine Wp.ldX rfl rfl (by (try simp only [nI_add, pk_mul]); exact rfl) (by omega) (by decide) ?_
    rw [xA_1, hac]
    refine Wp.istX (k := 291 * ac + i) rfl rfl rfl (by rw [pk_mul, nI_add]) (by omega) (by decide) ?_
    rw [xA_xA, xA_same]
    repeat (first | exact k9 | refine Wp.putX rfl rfl rfl ?_ | refine Wp.putM rfl rfl rfl ?_ | refine Wp.step rfl ?_)
theorem X_act {d u : Nat} (X : pmXs) (M : pmMs) (Z : pmZs) {ac : Nat} (hac : X.1 24 = nI ac) (hle : ac ≤ 40) {Q : pmO → Prop} (hQ : Q (.inl none, hp (xI (xA X 27 (keepX X ac)) 24 (nI (acts1 ac))) M Z)) : Wp d u 53 0 (pm_entry 53 [.ref 14]) [] (hp X M Z) Q := by
  unfold keepX acts1 at hQ
  repeat (first | refine Wp.putX rfl rfl rfl ?_ | refine Wp.putM rfl rfl rfl ?_ | refine Wp.step rfl ?_)
  try dsimp only
  by_cases h40 : ac = 40
  · subst h40
    rw [if_pos rfl, if_pos rfl] at hQ
    refine Wp.brF rfl (fun q => q hac) ?_
    iterate 2 refine Wp.step rfl ?_
    have k0 := cpy_S (g := xa X 27) (sp := 291) (dp := 0) (by omega) 11349 (fun i q => Wp d u 53 13 [some (.ref 14), some (.int (nI (291 + i)))] [] (hp (xA X 27 q) M Z) Q) ?_ ?_
    · rw [xA_self] at k0
      exact k0
    · repeat (first | refine Wp.putX rfl rfl rfl ?_ | refine Wp.putM rfl rfl rfl ?_ | refine Wp.step rfl ?_)
      try dsimp only
      refine Wp.brT rfl (nI_le (by omega) (by omega)) ?_
      iterate 5 (first | refine Wp.putX rfl rfl rfl ?_ | refine Wp.step rfl ?_)
      repeat (first | refine X_act2 (ac := 39) _ M Z ?_ (by omega) ?_ _ | refine Wp.putX rfl rfl rfl ?_ | refine Wp.step rfl ?_)
      · rw [xI_same, xA_1, hac]; exact pk_sub (by decide)
      simp only [xI_xA, xI_xI, xA_xA]
      exact hQ
    · intro i q hi hq k9
      rw [show 291 + (i + 1) = 291 + i + 1 by omega, ← nI_add (291 + i) 1, Nat.zero_add] at k9
      repeat (first | refine Wp.putX rfl rfl rfl ?_ | refine Wp.putM rfl rfl rfl ?_ | refine Wp.step rfl ?_)
      try dsimp only
      refine Wp.brF rfl (nI_ge (by omega) (by omega)) ?_
      repeat (first | refine Wp.putX rfl rfl rfl ?_ | refine Wp.putM rfl rfl rfl ?_ | refine Wp.step rfl ?_)
      try dsimp only
      refine Wp.ldX rfl rfl (by (try simp only [nI_add, pk_mul]); exact rfl) (by omega) (by decide) ?_
      rw [xA_same, hq, pk_sub (by omega)]
      refine Wp.istX (k := i) rfl rfl rfl (by rw [Nat.add_sub_cancel_left]) (by omega) (by decide) ?_
      rw [xA_xA, xA_same]
      repeat (first | exact k9 | refine Wp.putX rfl rfl rfl ?_ | refine Wp.putM rfl rfl rfl ?_ | refine Wp.step rfl ?_)
  · rw [if_neg h40, if_neg h40] at hQ
    refine Wp.brT rfl (fun q => h40 ((nI_eq (by omega) (by omega)).mp (hac.symm.trans q))) ?_
    exact X_act2 X M Z hac (by omega) hQ _
