/-! arm, teach, swear, burn, give, year, undo -/
def CA (K : Nat) (now : Nat → Int32) (k : Int32) : Prop := ∃ j, j < K ∧ k = nI j ∧ now j < nI 30 ∧ ¬ now 17 < nI 2
def CT (K : Nat) (now : Nat → Int32) (k : Int32) : Prop := ∃ j, j < K ∧ k = nI j ∧ now (8 + j) < nI 9 ∧ ¬ now 17 < nI 3
def armP (now : Nat → Int32) (j : Nat) : Nat → Int32 := upd (upd now 17 (now 17 - nI 2)) j (now j + nI 1)
def teachP (now : Nat → Int32) (j : Nat) : Nat → Int32 := upd (upd now 17 (now 17 - nI 3)) (8 + j) (now (8 + j) + nI 1)
def spP (w : Nat → Int32) (k i : Nat) (p : Int32) : Nat → Int32 := upd (upd w 17 (w 17 - p)) (4 * k + i) (w (4 * k + i) + if i = 1 then -1 else nI 1)
section ARM
variable {d u : Nat} {X : pmXs} {M : pmMs} {Z : pmZs} {Q : pmO → Prop} {K : Nat}
theorem X_canArm (hK : X.1 13 = nI K) (hK4 : K ≤ 4) (k : Int32) (h1 : CA K (xa X 26) k → Q (.inl (some (.int 1)), hp X M Z)) (h0 : ¬ CA K (xa X 26) k → Q (.inl (some (.int 0)), hp X M Z)) : Wp (d + 2) u 56 0 (pm_entry 56 [.ref 14, .int k]) [] (hp X M Z) Q := by
  repeat (refine Wp.step rfl ?_)
  refine Wp.call rfl (Nat.zero_le _) (X_isK hK hK4 k (fun hc => ⟨_, _, rfl, ?_⟩) (fun hc => ⟨_, _, rfl, ?_⟩))
  case refine_2 =>
    refine Wp.brT rfl rfl ?_
    iterate 1 refine Wp.step rfl ?_
    exact Wp.finZ rfl (Or.inl rfl) (h0 fun ⟨j, a, b, _⟩ => hc ⟨j, a, b⟩)
  obtain ⟨j, hj, rfl⟩ := hc
  refine Wp.brF rfl (by decide) ?_
  repeat (refine Wp.step rfl ?_)
  refine Wp.ldX (k := j) rfl rfl (by first | (simp only [nI_add, pk_mul, Nat.zero_add, Nat.add_zero]; done) | (simp only [nI_add, pk_mul, Nat.zero_add, Nat.add_zero]; exact rfl) | exact rfl) (by omega) (by decide) ?_
  repeat (refine Wp.step rfl ?_)
  by_cases c1 : xa X 26 j < nI 30
  case neg =>
    refine Wp.brT rfl (Int32.not_lt.mp c1) ?_
    iterate 1 refine Wp.step rfl ?_
    exact Wp.finZ rfl (Or.inl rfl) (h0 fun ⟨j', a, b, q, _⟩ => c1 (by rw [(nI_eq (by omega) (by omega)).mp b]; exact q))
  refine Wp.brF rfl (Int32.not_le.mpr c1) ?_
  repeat (refine Wp.step rfl ?_)
  refine Wp.ldX (k := 17) rfl rfl (by first | (simp only [nI_add, pk_mul, Nat.zero_add, Nat.add_zero]; done) | (simp only [nI_add, pk_mul, Nat.zero_add, Nat.add_zero]; exact rfl) | exact rfl) (by omega) (by decide) ?_
  repeat (refine Wp.step rfl ?_)
  by_cases c2 : xa X 26 17 < nI 2
  · refine Wp.brT rfl c2 ?_
    iterate 1 refine Wp.step rfl ?_
    exact Wp.finZ rfl (Or.inl rfl) (h0 fun ⟨j', a, b, _, q⟩ => q c2)
  refine Wp.brF rfl c2 ?_
  iterate 2 refine Wp.step rfl ?_
  exact Wp.finZ rfl (Or.inr rfl) (h1 ⟨j, hj, rfl, c1, c2⟩)
theorem M_canArm {a N : Nat} {now : Nat → Int32} (ha : a = 48 ∨ a = 49) (hR : RR N (ma M a) now) (hN : 110 ≤ N) (hK : M.1 26 = nI K) (hK4 : K ≤ 4) (k : Int32) (h1 : CA K now k → Q (.inl (some (.int 1)), hp X M Z)) (h0 : ¬ CA K now k → Q (.inl (some (.int 0)), hp X M Z)) : Wp (d + 2) u 177 0 (pm_entry 177 [.ref 35, .ref a, .int k]) [] (hp X M Z) Q := by
  repeat (refine Wp.step rfl ?_)
  refine Wp.call rfl (Nat.zero_le _) (M_is (Or.inl ⟨rfl, rfl⟩) hK (by omega) k (fun hc => ⟨_, _, rfl, ?_⟩) (fun hc => ⟨_, _, rfl, ?_⟩))
  case refine_2 =>
    refine Wp.brT rfl rfl ?_
    iterate 1 refine Wp.step rfl ?_
    exact Wp.finZ rfl (Or.inl rfl) (h0 fun ⟨j, a, b, _⟩ => hc ⟨j, a, b⟩)
  obtain ⟨j, hj, rfl⟩ := hc
  have e1 := hR.1 j 0 (by omega) (by omega)
  rw [Nat.add_zero, Nat.mul_zero, Nat.zero_add] at e1
  have e2 := hR.2 17 (by omega) (by omega)
  refine Wp.brF rfl (by decide) ?_
  repeat (refine Wp.step rfl ?_)
  refine Wp.ldW (k := 4 * j) ha rfl (by first | (simp only [nI_add, pk_mul, Nat.zero_add, Nat.add_zero]; done) | (simp only [nI_add, pk_mul, Nat.zero_add, Nat.add_zero]; exact rfl) | exact rfl) (by omega) ?_
  repeat (refine Wp.step rfl ?_)
  rw [e1]
  by_cases c1 : now j < nI 30
  case neg =>
    refine Wp.brT rfl (Int32.not_lt.mp c1) ?_
    iterate 1 refine Wp.step rfl ?_
    exact Wp.finZ rfl (Or.inl rfl) (h0 fun ⟨j', a, b, q, _⟩ => c1 (by rw [(nI_eq (by omega) (by omega)).mp b]; exact q))
  refine Wp.brF rfl (Int32.not_le.mpr c1) ?_
  repeat (refine Wp.step rfl ?_)
  refine Wp.ldW (k := 17) ha rfl (by first | (simp only [nI_add, pk_mul, Nat.zero_add, Nat.add_zero]; done) | (simp only [nI_add, pk_mul, Nat.zero_add, Nat.add_zero]; exact rfl) | exact rfl) (by omega) ?_
  repeat (refine Wp.step rfl ?_)
  rw [e2]
  by_cases c2 : now 17 < nI 2
  · refine Wp.brT rfl c2 ?_
    iterate 1 refine Wp.step rfl ?_
    exact Wp.finZ rfl (Or.inl rfl) (h0 fun ⟨j', a, b, _, q⟩ => q c2)
  refine Wp.brF rfl c2 ?_
  iterate 2 refine Wp.step rfl ?_
  exact Wp.finZ rfl (Or.inr rfl) (h1 ⟨j, hj, rfl, c1, c2⟩)
theorem X_canTeach (hK : X.1 13 = nI K) (hK4 : K ≤ 4) (k : Int32) (h1 : CT K (xa X 26) k → Q (.inl (some (.int 1)), hp X M Z)) (h0 : ¬ CT K (xa X 26) k → Q (.inl (some (.int 0)), hp X M Z)) : Wp (d + 2) u 58 0 (pm_entry 58 [.ref 14, .int k]) [] (hp X M Z) Q := by
  repeat (refine Wp.step rfl ?_)
  refine Wp.call rfl (Nat.zero_le _) (X_isK hK hK4 k (fun hc => ⟨_, _, rfl, ?_⟩) (fun hc => ⟨_, _, rfl, ?_⟩))
  case refine_2 =>
    refine Wp.brT rfl rfl ?_
    iterate 1 refine Wp.step rfl ?_
    exact Wp.finZ rfl (Or.inl rfl) (h0 fun ⟨j, a, b, _⟩ => hc ⟨j, a, b⟩)
  obtain ⟨j, hj, rfl⟩ := hc
  refine Wp.brF rfl (by decide) ?_
  repeat (refine Wp.step rfl ?_)
  refine Wp.ldX (k := 8 + j) rfl rfl (by first | (simp only [nI_add, pk_mul, Nat.zero_add, Nat.add_zero]; done) | (simp only [nI_add, pk_mul, Nat.zero_add, Nat.add_zero]; exact rfl) | exact rfl) (by omega) (by decide) ?_
  repeat (refine Wp.step rfl ?_)
  by_cases c1 : xa X 26 (8 + j) < nI 9
  case neg =>
    refine Wp.brT rfl (Int32.not_lt.mp c1) ?_
    iterate 1 refine Wp.step rfl ?_
    exact Wp.finZ rfl (Or.inl rfl) (h0 fun ⟨j', a, b, q, _⟩ => c1 (by rw [(nI_eq (by omega) (by omega)).mp b]; exact q))
  refine Wp.brF rfl (Int32.not_le.mpr c1) ?_
  repeat (refine Wp.step rfl ?_)
  refine Wp.ldX (k := 17) rfl rfl (by first | (simp only [nI_add, pk_mul, Nat.zero_add, Nat.add_zero]; done) | (simp only [nI_add, pk_mul, Nat.zero_add, Nat.add_zero]; exact rfl) | exact rfl) (by omega) (by decide) ?_
  repeat (refine Wp.step rfl ?_)
  by_cases c2 : xa X 26 17 < nI 3
  · refine Wp.brT rfl c2 ?_
    iterate 1 refine Wp.step rfl ?_
    exact Wp.finZ rfl (Or.inl rfl) (h0 fun ⟨j', a, b, _, q⟩ => q c2)
  refine Wp.brF rfl c2 ?_
  iterate 2 refine Wp.step rfl ?_
  exact Wp.finZ rfl (Or.inr rfl) (h1 ⟨j, hj, rfl, c1, c2⟩)
theorem M_canTeach {a N : Nat} {now : Nat → Int32} (ha : a = 48 ∨ a = 49) (hR : RR N (ma M a) now) (hN : 110 ≤ N) (hK : M.1 26 = nI K) (hK4 : K ≤ 4) (k : Int32) (h1 : CT K now k → Q (.inl (some (.int 1)), hp X M Z)) (h0 : ¬ CT K now k → Q (.inl (some (.int 0)), hp X M Z)) : Wp (d + 2) u 179 0 (pm_entry 179 [.ref 35, .ref a, .int k]) [] (hp X M Z) Q := by
  repeat (refine Wp.step rfl ?_)
  refine Wp.call rfl (Nat.zero_le _) (M_is (Or.inl ⟨rfl, rfl⟩) hK (by omega) k (fun hc => ⟨_, _, rfl, ?_⟩) (fun hc => ⟨_, _, rfl, ?_⟩))
  case refine_2 =>
    refine Wp.brT rfl rfl ?_
    iterate 1 refine Wp.step rfl ?_
    exact Wp.finZ rfl (Or.inl rfl) (h0 fun ⟨j, a, b, _⟩ => hc ⟨j, a, b⟩)
  obtain ⟨j, hj, rfl⟩ := hc
  have e1 := hR.1 j 2 (by omega) (by omega)
  have e2 := hR.2 17 (by omega) (by omega)
  refine Wp.brF rfl (by decide) ?_
  repeat (refine Wp.step rfl ?_)
  refine Wp.ldW (k := 4 * j + 2) ha rfl (by first | (simp only [nI_add, pk_mul, Nat.zero_add, Nat.add_zero]; done) | (simp only [nI_add, pk_mul, Nat.zero_add, Nat.add_zero]; exact rfl) | exact rfl) (by omega) ?_
  repeat (refine Wp.step rfl ?_)
  rw [e1]
  by_cases c1 : now (8 + j) < nI 9
  case neg =>
    refine Wp.brT rfl (Int32.not_lt.mp c1) ?_
    iterate 1 refine Wp.step rfl ?_
    exact Wp.finZ rfl (Or.inl rfl) (h0 fun ⟨j', a, b, q, _⟩ => c1 (by rw [(nI_eq (by omega) (by omega)).mp b]; exact q))
  refine Wp.brF rfl (Int32.not_le.mpr c1) ?_
  repeat (refine Wp.step rfl ?_)
  refine Wp.ldW (k := 17) ha rfl (by first | (simp only [nI_add, pk_mul, Nat.zero_add, Nat.add_zero]; done) | (simp only [nI_add, pk_mul, Nat.zero_add, Nat.add_zero]; exact rfl) | exact rfl) (by omega) ?_
  repeat (refine Wp.step rfl ?_)
  rw [e2]
  by_cases c2 : now 17 < nI 3
  · refine Wp.brT rfl c2 ?_
    iterate 1 refine Wp.step rfl ?_
    exact Wp.finZ rfl (Or.inl rfl) (h0 fun ⟨j', a, b, _, q⟩ => q c2)
  refine Wp.brF rfl c2 ?_
  iterate 2 refine Wp.step rfl ?_
  exact Wp.finZ rfl (Or.inr rfl) (h1 ⟨j, hj, rfl, c1, c2⟩)
theorem X_armNow {j : Nat} (hj : j < 4) (hQ : Q (.inl none, hp (xA X 26 (armP (xa X 26) j)) M Z)) : Wp d u 57 0 (pm_entry 57 [.ref 14, .int (nI j)]) [] (hp X M Z) Q := by
  repeat (refine Wp.step rfl ?_)
  refine Wp.ldX (k := 17) rfl rfl (by first | (simp only [nI_add, pk_mul, Nat.zero_add, Nat.add_zero]; done) | (simp only [nI_add, pk_mul, Nat.zero_add, Nat.add_zero]; exact rfl) | exact rfl) (by omega) (by decide) ?_
  repeat (refine Wp.step rfl ?_)
  refine Wp.istX (k := 17) rfl rfl rfl (by first | (simp only [nI_add, pk_mul, Nat.zero_add, Nat.add_zero]; done) | (simp only [nI_add, pk_mul, Nat.zero_add, Nat.add_zero]; exact rfl) | exact rfl) (by omega) (by decide) ?_
  repeat (refine Wp.step rfl ?_)
  refine Wp.ldX (k := j) rfl rfl (by first | (simp only [nI_add, pk_mul, Nat.zero_add, Nat.add_zero]; done) | (simp only [nI_add, pk_mul, Nat.zero_add, Nat.add_zero]; exact rfl) | exact rfl) (by omega) (by decide) ?_
  repeat (refine Wp.step rfl ?_)
  refine Wp.istX (k := j) rfl rfl rfl (by first | (simp only [nI_add, pk_mul, Nat.zero_add, Nat.add_zero]; done) | (simp only [nI_add, pk_mul, Nat.zero_add, Nat.add_zero]; exact rfl) | exact rfl) (by omega) (by decide) ?_
  rw [xA_xA, xA_same, pk_un (by omega)]
  exact Wp.fin rfl trivial hQ
theorem X_teachNow {j : Nat} (hj : j < 4) (hQ : Q (.inl none, hp (xA X 26 (teachP (xa X 26) j)) M Z)) : Wp d u 59 0 (pm_entry 59 [.ref 14, .int (nI j)]) [] (hp X M Z) Q := by
  repeat (refine Wp.step rfl ?_)
  refine Wp.ldX (k := 17) rfl rfl (by first | (simp only [nI_add, pk_mul, Nat.zero_add, Nat.add_zero]; done) | (simp only [nI_add, pk_mul, Nat.zero_add, Nat.add_zero]; exact rfl) | exact rfl) (by omega) (by decide) ?_
  repeat (refine Wp.step rfl ?_)
  refine Wp.istX (k := 17) rfl rfl rfl (by first | (simp only [nI_add, pk_mul, Nat.zero_add, Nat.add_zero]; done) | (simp only [nI_add, pk_mul, Nat.zero_add, Nat.add_zero]; exact rfl) | exact rfl) (by omega) (by decide) ?_
  repeat (refine Wp.step rfl ?_)
  refine Wp.ldX (k := 8 + j) rfl rfl (by first | (simp only [nI_add, pk_mul, Nat.zero_add, Nat.add_zero]; done) | (simp only [nI_add, pk_mul, Nat.zero_add, Nat.add_zero]; exact rfl) | exact rfl) (by omega) (by decide) ?_
  repeat (refine Wp.step rfl ?_)
  refine Wp.istX (k := 8 + j) rfl rfl rfl (by first | (simp only [nI_add, pk_mul, Nat.zero_add, Nat.add_zero]; done) | (simp only [nI_add, pk_mul, Nat.zero_add, Nat.add_zero]; exact rfl) | exact rfl) (by omega) (by decide) ?_
  rw [xA_xA, xA_same, pk_un (by omega)]
  exact Wp.fin rfl trivial hQ
theorem M_spends {a j i : Nat} (ha : a = 48 ∨ a = 49) (hj : j < 4) (hi : i < 4) (p : Int32) (hQ : Q (.inl none, hp X (mA M a (spP (ma M a) j i p)) Z)) : Wp d u 178 0 (pm_entry 178 [.ref a, .int (nI j), .int (nI i), .int p]) [] (hp X M Z) Q := by
  repeat (refine Wp.step rfl ?_)
  refine Wp.ldW (k := 17) ha rfl (by first | (simp only [nI_add, pk_mul, Nat.zero_add, Nat.add_zero]; done) | (simp only [nI_add, pk_mul, Nat.zero_add, Nat.add_zero]; exact rfl) | exact rfl) (by omega) ?_
  repeat (refine Wp.step rfl ?_)
  refine Wp.istW (k := 17) ha rfl (by first | (simp only [nI_add, pk_mul, Nat.zero_add, Nat.add_zero]; done) | (simp only [nI_add, pk_mul, Nat.zero_add, Nat.add_zero]; exact rfl) | exact rfl) (by omega) ?_
  repeat (refine Wp.step rfl ?_)
  refine Wp.ldW (k := 4 * j + i) ha rfl (by first | (simp only [nI_add, pk_mul, Nat.zero_add, Nat.add_zero]; done) | (simp only [nI_add, pk_mul, Nat.zero_add, Nat.add_zero]; exact rfl) | exact rfl) (by omega) ?_
  rw [mA_same, pk_un (by omega)]
  iterate 2 refine Wp.step rfl ?_
  unfold spP at hQ
  by_cases c : i = 1
  · subst c
    rw [if_pos rfl] at hQ
    refine Wp.brF rfl (fun q => q rfl) ?_
    repeat (refine Wp.step rfl ?_)
    refine Wp.istW (k := 4 * j + 1) ha rfl (by first | (simp only [nI_add, pk_mul, Nat.zero_add, Nat.add_zero]; done) | (simp only [nI_add, pk_mul, Nat.zero_add, Nat.add_zero]; exact rfl) | exact rfl) (by omega) ?_
    rw [mA_mA, mA_same]
    exact Wp.fin rfl trivial hQ
  · rw [if_neg c] at hQ
    refine Wp.brT rfl (fun q => c ((nI_eq (b := 1) (by omega) (by omega)).mp q)) ?_
    repeat (refine Wp.step rfl ?_)
    refine Wp.istW (k := 4 * j + i) ha rfl (by first | (simp only [nI_add, pk_mul, Nat.zero_add, Nat.add_zero]; done) | (simp only [nI_add, pk_mul, Nat.zero_add, Nat.add_zero]; exact rfl) | exact rfl) (by omega) ?_
    rw [mA_mA, mA_same]
    exact Wp.fin rfl trivial hQ
end ARM
theorem RowC.arm {K F k : Nat} {w now : Nat → Int32} (h : RowC K F w now) (hK : K ≤ 4) (hk : k < K) (hm : now k < nI 30) : RowC K F (spP w k 0 (nI 2)) (armP now k) := by
  obtain ⟨m, h1, h2⟩ := (h.2.1.1 k hk).1
  have h3 : m < 30 := by
    rw [h2] at hm
    by_cases q : m < 30
    · exact q
    · exact absurd hm (Int32.not_lt.mpr (nI_le (by omega) (by omega)))
  have e1 : w (4 * k) = now k := h.1.1 k 0 (by omega) (by omega) |>.trans (congrArg now (by omega))
  have e2 := h.at (j := 17) (by omega) (by omega)
  have := (h.coin hK (Or.inr rfl) (now 17 - nI 2)).might (k := k) (m := m + 1) hK (by omega) (by omega)
  unfold spP armP
  rw [Nat.add_zero, if_neg (by omega), e1, e2, h2, nI_add]
  exact this
theorem RowC.teach {K F k : Nat} {w now : Nat → Int32} (h : RowC K F w now) (hK : K ≤ 4) (hk : k < K) (hm : now (8 + k) < nI 9) : RowC K F (spP w k 2 (nI 3)) (teachP now k) := by
  obtain ⟨m, h1, h2⟩ := (h.2.1.1 k hk).2.1
  have h3 : m < 9 := by
    rw [h2] at hm
    by_cases q : m < 9
    · exact q
    · exact absurd hm (Int32.not_lt.mpr (nI_le (by omega) (by omega)))
  have e1 : w (4 * k + 2) = now (8 + k) := h.1.1 k 2 (by omega) (by omega)
  have e2 := h.at (j := 17) (by omega) (by omega)
  have := (h.coin hK (Or.inr rfl) (now 17 - nI 3)).style (k := k) (m := m + 1) hK (by omega) (by omega)
  unfold spP teachP
  rw [if_neg (by omega), e1, e2, h2, nI_add]
  exact this
