/-! THE COUPLING of both systems -/
def RowC (K F : Nat) (w now : Nat → Int32) : Prop := RR 291 w now ∧ RI K F 999 now ∧ LI now
theorem RowC.ext {K F : Nat} {w now w' now' : Nat → Int32} (h : RowC K F w now) (hK : K ≤ 4) (h1 : ∀ j, j < 291 → w' j = w j) (h2 : ∀ j, j < 291 → now' j = now j) : RowC K F w' now' := by
  refine ⟨⟨fun k i hk hi => ?_, fun j a b => ?_⟩, h.2.1.ext hK (fun j hj => h2 j (by omega)), ?_⟩
  · rw [h1 _ (by omega), h2 _ (by omega)]; exact h.1.1 k i hk hi
  · rw [h1 j b, h2 j b]; exact h.1.2 j a b
  · obtain ⟨lg, a, b⟩ := h.2.2
    exact ⟨lg, a, (h2 110 (by omega)).trans b⟩
def CTape (X : pmXs) (M : pmMs) : Prop := ∃ n, X.1 2 = nI n ∧ M.1 6 = nI n ∧ n ≤ 240 ∧ ∀ j, j < n → xa X 16 j = ma M 36 j ∧ isB (ma M 36 j)
def CLaw (X : pmXs) (M : pmMs) (N : List va_E) (lm : Nat) (G : Nat → (Nat → Int32) → Int32) : Prop := X.1 19 = nI lm ∧ M.1 7 = nI lm ∧ X.1 20 = M.1 34 ∧ X.1 21 = M.1 35 ∧ ∀ i, i < lm → ∃ r lo hi, X.2.2.2 i = some (r + 59) ∧ DenL 140 lo hi r (G i) N
def CCamp (X : pmXs) (M : pmMs) : Prop := ∃ cm, X.1 17 = nI cm ∧ M.1 30 = nI cm ∧ cm ≤ 4 ∧ ∀ n, n < cm → ∃ L, 1 ≤ L ∧ L ≤ 16 ∧ xa X 24 n = nI L ∧ ma M 47 n = nI L ∧ ∀ j, j < 2 * L → xa X 23 (32 * n + j) = ma M 46 (32 * n + j)
def CActs (X : pmXs) (M : pmMs) (K F : Nat) : Prop := ∃ ac, ac ≤ 40 ∧ X.1 24 = nI ac ∧ M.1 39 = nI ac ∧ ∀ i, i < ac → RowC K F (fun j => ma M 52 (291 * i + j)) (fun j => xa X 27 (291 * i + j))
def CNote (X : pmXs) (M : pmMs) (K F : Nat) : Prop := ∃ nt, nt ≤ 10 ∧ X.1 31 = nI nt ∧ M.1 44 = nI nt ∧ ∀ i, i < nt → ∃ k f v, k < K ∧ f < F ∧ v ≤ 29 ∧ xa X 29 i = nI k ∧ xa X 30 i = nI f ∧ xa X 31 i = nI v ∧ ma M 53 (3 * i) = nI k ∧ ma M 53 (3 * i + 1) = nI f ∧ ma M 53 (3 * i + 2) = nI v
def CImg (X : pmXs) (M : pmMs) (K F : Nat) : Prop := (X.1 34 = 0 ∧ M.1 47 = 0) ∨ (X.1 34 = 1 ∧ M.1 47 = 1 ∧ RowC K F (ma M 57) (xa X 34))
/-- the coupling, its numbers named -/
def Cq (K F : Nat) (gr : Nat → Int32) (rt lm : Nat) (G : Nat → (Nat → Int32) → Int32) (lw : pmLw) (X : pmXs) (M : pmMs) (Z : pmZs) : Prop := GE K F gr rt ∧ (K = 0 ∧ F = 0 ∨ 2 ≤ K ∧ 1 ≤ F) ∧ XE X Z K F gr rt lw ∧ ME M K F gr rt lm G lw ∧ CTape X M ∧ CLaw X M Z.2.2 lm G ∧ CCamp X M ∧ RowC K F (ma M 48) (xa X 26) ∧ CActs X M K F ∧ CNote X M K F ∧ CImg X M K F
def Cp (X : pmXs) (M : pmMs) (Z : pmZs) : Prop := ∃ K F gr rt lm G lw, Cq K F gr rt lm G lw X M Z
/-- one of the law's calls, on both -/
def Op (mx mm : Nat) (args : List Value) : Prop := ∀ (X : pmXs) (M : pmMs) (Z : pmZs), Cp X M Z → ∃ (v : Int32) (Mid : pmXs → List va_E → Prop),
  (∀ (d u : Nat) (M1 : pmMs) (Q : pmO → Prop), 300 ≤ d → 3000 ≤ u → (∀ X' N, Mid X' N → Q (.inl (some (.int v)), hp X' M1 (zN Z N))) → Wp d u mx 0 (pm_entry mx (.ref 14 :: args)) [] (hp X M1 Z) Q) ∧
  (∀ X' N, Mid X' N → ∀ (d u : Nat) (Q : pmO → Prop), 300 ≤ d → (∀ M', Cp X' M' (zN Z N) → Q (.inl (some (.int v)), hp X' M' (zN Z N))) → Wp d u mm 0 (pm_entry mm (.ref 35 :: args)) [] (hp X' M (zN Z N)) Q)
theorem Cq_thrown {K F rt lm : Nat} {gr : Nat → Int32} {G : Nat → (Nat → Int32) → Int32} {lw : pmLw} {X : pmXs} {M : pmMs} {Z : pmZs} (h : Cq K F gr rt lm G lw X M Z) (v : Int32) : Cq K F gr rt lm G lw X (mI M 0 v) Z := h
/-! who is in what range -/
theorem in_lt (v : Int32) {n : Nat} (hn : n ≤ 1000) : (nI 0 ≤ v ∧ v ≤ nI n - nI 1) ↔ ∃ j, j < n ∧ v = nI j := by
  constructor
  · rintro ⟨h1, h2⟩
    obtain ⟨j, hj, rfl⟩ := nI_of (x := v) (Int32.not_lt.mpr h1)
    refine ⟨j, ?_, rfl⟩
    by_cases h0 : n = 0
    · subst h0
      rw [Int32.le_iff_toInt_le, nI_toInt hj, show (nI 0 - nI 1).toInt = -1 from rfl] at h2
      omega
    · rw [pk_sub (by omega), nI_leI hj (by omega)] at h2
      omega
  · rintro ⟨j, hj, rfl⟩
    rw [pk_sub (by omega)]
    exact ⟨nI_le (by omega) (by omega), nI_le (by omega) (by omega)⟩
theorem in_le (v : Int32) {lo hi : Nat} (h0 : lo ≤ hi) (hh : hi < 2 ^ 30) : (nI lo ≤ v ∧ v ≤ nI hi) ↔ ∃ j, lo ≤ j ∧ j ≤ hi ∧ v = nI j := by
  constructor
  · rintro ⟨h1, h2⟩
    have h3 : (nI lo).toInt = lo := nI_toInt (by omega)
    have h4 := h1
    rw [Int32.le_iff_toInt_le, h3] at h4
    obtain ⟨j, hj, rfl⟩ := nI_of (x := v) (by rw [Int32.lt_iff_toInt_lt]; show ¬ v.toInt < 0; omega)
    rw [nI_leI hj (by omega)] at h2
    rw [nI_leI (by omega) hj] at h1
    exact ⟨j, h1, h2, rfl⟩
  · rintro ⟨j, h1, h2, rfl⟩
    exact ⟨nI_le h1 (by omega), nI_le h2 (by omega)⟩
theorem i2l_le (x y : Int32) : x.toInt64 ≤ y.toInt64 ↔ x ≤ y := by
  rw [Int64.le_iff_toInt_le, Int32.toInt_toInt64, Int32.toInt_toInt64, Int32.le_iff_toInt_le]
section INS
variable {d u : Nat} {X : pmXs} {M : pmMs} {Z : pmZs} {Q : pmO → Prop}
theorem bI_t {c : Prop} [Decidable c] (h : c) : bI c = 1 := if_pos h
theorem bI_f {c : Prop} [Decidable c] (h : ¬ c) : bI c = 0 := if_neg h
theorem X_inP {h : pmH} (v a b : Int32) (P : Prop) (hP : (a ≤ v ∧ v ≤ b) ↔ P) (h1 : P → Q (.inl (some (.int 1)), h)) (h0 : ¬ P → Q (.inl (some (.int 0)), h)) : Wp d u 50 0 (pm_entry 50 [.int v, .int a, .int b]) [] h Q := by
  refine X_in v a b ?_
  by_cases q : a ≤ v ∧ v ≤ b
  · rw [bI_t q]; exact h1 (hP.mp q)
  · rw [bI_f q]; exact h0 (fun z => q (hP.mpr z))
theorem M_isIn {h : pmH} (v a b : Int32) {A B : Int64} (hA : A = a.toInt64) (hB : B = b.toInt64) (P : Prop) (hP : (a ≤ v ∧ v ≤ b) ↔ P) (h1 : P → Q (.inl (some (.int 1)), h)) (h0 : ¬ P → Q (.inl (some (.int 0)), h)) : Wp d u 168 0 (pm_entry 168 [.long v.toInt64, .long A, .long B]) [] h Q := by
  subst hA hB
  iterate 3 refine Wp.step rfl ?_
  by_cases c1 : a ≤ v
  case neg =>
    refine Wp.brT rfl ((lg_cmp_lt _ _).mpr (by
      have := (not_congr (i2l_le a v)).mpr c1
      exact Int64.not_le.mp this)) ?_
    refine Wp.step rfl ?_
    exact Wp.finZ rfl (Or.inl rfl) (h0 (fun q => c1 (hP.mpr q).1))
  refine Wp.brF rfl (fun q => absurd ((lg_cmp_lt _ _).mp q) (Int64.not_lt.mpr ((i2l_le a v).mpr c1))) ?_
  iterate 3 refine Wp.step rfl ?_
  by_cases c2 : v ≤ b
  case neg =>
    refine Wp.brT rfl ((lg_cmp_gt _ _).mpr (by
      have := (not_congr (i2l_le v b)).mpr c2
      exact Int64.not_le.mp this)) ?_
    refine Wp.step rfl ?_
    exact Wp.finZ rfl (Or.inl rfl) (h0 (fun q => c2 (hP.mpr q).2))
  refine Wp.brF rfl (fun q => absurd ((lg_cmp_gt _ _).mp q) (Int64.not_lt.mpr ((i2l_le v b).mpr c2))) ?_
  iterate 2 refine Wp.step rfl ?_
  exact Wp.finZ rfl (Or.inr rfl) (h1 (hP.mp ⟨c1, c2⟩))
theorem X_isK {K : Nat} (hK : X.1 13 = nI K) (hK4 : K ≤ 4) (k : Int32) (h1 : (∃ j, j < K ∧ k = nI j) → Q (.inl (some (.int 1)), hp X M Z)) (h0 : ¬ (∃ j, j < K ∧ k = nI j) → Q (.inl (some (.int 0)), hp X M Z)) : Wp (d + 1) u 55 0 (pm_entry 55 [.ref 14, .int k]) [] (hp X M Z) Q := by
  iterate 6 refine Wp.step rfl ?_
  refine Wp.call rfl (Nat.zero_le _) (X_inP _ _ _ (∃ j, j < K ∧ k = nI j) (by rw [hK]; exact in_lt k (by omega)) (fun q => ⟨_, _, rfl, ?_⟩) (fun q => ⟨_, _, rfl, ?_⟩))
  · exact Wp.finZ rfl (Or.inr rfl) (h1 q)
  · exact Wp.finZ rfl (Or.inl rfl) (h0 q)
theorem X_isF {K : Nat} (hK : X.1 14 = nI K) (hK4 : K ≤ 8) (k : Int32) (h1 : (∃ j, j < K ∧ k = nI j) → Q (.inl (some (.int 1)), hp X M Z)) (h0 : ¬ (∃ j, j < K ∧ k = nI j) → Q (.inl (some (.int 0)), hp X M Z)) : Wp (d + 1) u 49 0 (pm_entry 49 [.ref 14, .int k]) [] (hp X M Z) Q := by
  iterate 6 refine Wp.step rfl ?_
  refine Wp.call rfl (Nat.zero_le _) (X_inP _ _ _ (∃ j, j < K ∧ k = nI j) (by rw [hK]; exact in_lt k (by omega)) (fun q => ⟨_, _, rfl, ?_⟩) (fun q => ⟨_, _, rfl, ?_⟩))
  · exact Wp.finZ rfl (Or.inr rfl) (h1 q)
  · exact Wp.finZ rfl (Or.inl rfl) (h0 q)
theorem X_isC {K : Nat} (hK : X.1 17 = nI K) (hK4 : K ≤ 4) (k : Int32) (h1 : (∃ j, j < K ∧ k = nI j) → Q (.inl (some (.int 1)), hp X M Z)) (h0 : ¬ (∃ j, j < K ∧ k = nI j) → Q (.inl (some (.int 0)), hp X M Z)) : Wp (d + 1) u 63 0 (pm_entry 63 [.ref 14, .int k]) [] (hp X M Z) Q := by
  iterate 6 refine Wp.step rfl ?_
  refine Wp.call rfl (Nat.zero_le _) (X_inP _ _ _ (∃ j, j < K ∧ k = nI j) (by rw [hK]; exact in_lt k (by omega)) (fun q => ⟨_, _, rfl, ?_⟩) (fun q => ⟨_, _, rfl, ?_⟩))
  · exact Wp.finZ rfl (Or.inr rfl) (h1 q)
  · exact Wp.finZ rfl (Or.inl rfl) (h0 q)
theorem M_is {mi c : Nat} {K : Nat} (hmi : mi = 172 ∧ c = 26 ∨ mi = 174 ∧ c = 27 ∨ mi = 182 ∧ c = 30) (hK : M.1 c = nI K) (hK8 : K ≤ 8) (k : Int32) (h1 : (∃ j, j < K ∧ k = nI j) → Q (.inl (some (.int 1)), hp X M Z)) (h0 : ¬ (∃ j, j < K ∧ k = nI j) → Q (.inl (some (.int 0)), hp X M Z)) : Wp d u mi 0 (pm_entry mi [.ref 35, .int k]) [] (hp X M Z) Q := by
  rcases pk_ix k (n := K) (by omega) with q | q | ⟨j, hj, rfl⟩
  · have hn : ¬ ∃ j, j < K ∧ k = nI j := by
      rintro ⟨j, hj, rfl⟩
      exact nI_pos (by omega) q
    rcases hmi with ⟨rfl, rfl⟩ | ⟨rfl, rfl⟩ | ⟨rfl, rfl⟩
    · refine Wp.step rfl ?_
      refine Wp.brT rfl q ?_
      refine Wp.step rfl ?_
      exact Wp.finZ rfl (Or.inl rfl) (h0 hn)
    · refine Wp.step rfl ?_
      refine Wp.brT rfl q ?_
      refine Wp.step rfl ?_
      exact Wp.finZ rfl (Or.inl rfl) (h0 hn)
    · refine Wp.step rfl ?_
      refine Wp.brT rfl q ?_
      refine Wp.step rfl ?_
      exact Wp.finZ rfl (Or.inl rfl) (h0 hn)
  · have hn : ¬ ∃ j, j < K ∧ k = nI j := by
      rintro ⟨j, hj, rfl⟩
      exact nI_ge hj (by omega) q
    have hp0 : ¬ k < 0 := by
      intro z
      have h3 : (nI K).toInt = K := nI_toInt (by omega)
      rw [Int32.le_iff_toInt_le, h3] at q
      rw [Int32.lt_iff_toInt_lt] at z
      have h4 : (0 : Int32).toInt = 0 := rfl
      omega
    rcases hmi with ⟨rfl, rfl⟩ | ⟨rfl, rfl⟩ | ⟨rfl, rfl⟩
    · refine Wp.step rfl ?_
      refine Wp.brF rfl hp0 ?_
      iterate 3 refine Wp.step rfl ?_
      refine Wp.brT rfl (by rw [hK]; exact q) ?_
      refine Wp.step rfl ?_
      exact Wp.finZ rfl (Or.inl rfl) (h0 hn)
    · refine Wp.step rfl ?_
      refine Wp.brF rfl hp0 ?_
      iterate 3 refine Wp.step rfl ?_
      refine Wp.brT rfl (by rw [hK]; exact q) ?_
      refine Wp.step rfl ?_
      exact Wp.finZ rfl (Or.inl rfl) (h0 hn)
    · refine Wp.step rfl ?_
      refine Wp.brF rfl hp0 ?_
      iterate 3 refine Wp.step rfl ?_
      refine Wp.brT rfl (by rw [hK]; exact q) ?_
      refine Wp.step rfl ?_
      exact Wp.finZ rfl (Or.inl rfl) (h0 hn)
  · have hy := h1 ⟨j, hj, rfl⟩
    rcases hmi with ⟨rfl, rfl⟩ | ⟨rfl, rfl⟩ | ⟨rfl, rfl⟩
    · refine Wp.step rfl ?_
      refine Wp.brF rfl (nI_pos (by omega)) ?_
      iterate 3 refine Wp.step rfl ?_
      refine Wp.brF rfl (by rw [hK]; exact nI_ge hj (by omega)) ?_
      iterate 2 refine Wp.step rfl ?_
      exact Wp.finZ rfl (Or.inr rfl) hy
    · refine Wp.step rfl ?_
      refine Wp.brF rfl (nI_pos (by omega)) ?_
      iterate 3 refine Wp.step rfl ?_
      refine Wp.brF rfl (by rw [hK]; exact nI_ge hj (by omega)) ?_
      iterate 2 refine Wp.step rfl ?_
      exact Wp.finZ rfl (Or.inr rfl) hy
    · refine Wp.step rfl ?_
      refine Wp.brF rfl (nI_pos (by omega)) ?_
      iterate 3 refine Wp.step rfl ?_
      refine Wp.brF rfl (by rw [hK]; exact nI_ge hj (by omega)) ?_
      iterate 2 refine Wp.step rfl ?_
      exact Wp.finZ rfl (Or.inr rfl) hy
theorem X_isRealm {K : Nat} (hK : X.1 13 = nI K) (hK4 : K ≤ 4) (h1 : 0 < K → Q (.inl (some (.int 1)), hp X M Z)) (h0 : K = 0 → Q (.inl (some (.int 0)), hp X M Z)) : Wp d u 61 0 (pm_entry 61 [.ref 14]) [] (hp X M Z) Q := by
  iterate 2 refine Wp.step rfl ?_
  by_cases h : K = 0
  · refine Wp.brT rfl (by rw [hK, h]; decide) ?_
    refine Wp.step rfl ?_
    exact Wp.finZ rfl (Or.inl rfl) (h0 h)
  · refine Wp.brF rfl (by rw [hK]; exact nI_nle (by omega) (by omega)) ?_
    iterate 2 refine Wp.step rfl ?_
    exact Wp.finZ rfl (Or.inr rfl) (h1 (by omega))
end INS
/-! acts kept -/
def keepF (now kept : Nat → Int32) (ac : Nat) : Nat → Int32 := if ac = 40 then va_cpy now (va_cpy kept kept 291 0 11349) 0 (291 * 39) 291 else va_cpy now kept 0 (291 * ac) 291
theorem keepF_at {now kept : Nat → Int32} {ac i j : Nat} (hac : ac ≤ 40) (hi : i < acts1 ac) (hj : j < 291) : keepF now kept ac (291 * i + j) = if i + 1 = acts1 ac then now j else if ac = 40 then kept (291 * (i + 1) + j) else kept (291 * i + j) := by
  unfold keepF acts1 at *
  by_cases h : ac = 40
  · subst h
    rw [if_pos rfl] at hi ⊢
    rw [if_pos rfl, if_pos rfl]
    by_cases q : i + 1 = 40
    · rw [if_pos q]
      obtain rfl : i = 39 := by omega
      unfold va_cpy
      rw [if_pos (by omega)]
      exact congrArg now (by omega)
    · rw [if_neg q]
      unfold va_cpy
      rw [if_neg (by omega), if_pos (by omega)]
      exact congrArg kept (by omega)
  · rw [if_neg h] at hi ⊢
    rw [if_neg h, if_neg h]
    by_cases q : i + 1 = ac + 1
    · rw [if_pos q]
      obtain rfl : i = ac := by omega
      unfold va_cpy
      rw [if_pos (by omega)]
      exact congrArg now (by omega)
    · rw [if_neg q]
      unfold va_cpy
      rw [if_neg (by omega)]
theorem acts_keep {K F ac : Nat} {w now mk xk : Nat → Int32} (hK : K ≤ 4) (hac : ac ≤ 40) (hA : ∀ i, i < ac → RowC K F (fun j => mk (291 * i + j)) (fun j => xk (291 * i + j))) (hN : RowC K F w now) : ∀ i, i < acts1 ac → RowC K F (fun j => keepF w mk ac (291 * i + j)) (fun j => keepF now xk ac (291 * i + j)) := by
  intro i hi
  have ha : acts1 ac = if ac = 40 then 40 else ac + 1 := rfl
  by_cases q : i + 1 = acts1 ac
  · exact hN.ext hK (fun j hj => by show keepF w mk ac (291 * i + j) = _; rw [keepF_at hac hi hj, if_pos q]) (fun j hj => by show keepF now xk ac (291 * i + j) = _; rw [keepF_at hac hi hj, if_pos q])
  · by_cases h : ac = 40
    · rw [if_pos h] at ha
      exact (hA (i + 1) (by omega)).ext hK (fun j hj => by show keepF w mk ac (291 * i + j) = _; rw [keepF_at hac hi hj, if_neg q, if_pos h]) (fun j hj => by show keepF now xk ac (291 * i + j) = _; rw [keepF_at hac hi hj, if_neg q, if_pos h])
    · rw [if_neg h] at ha
      exact (hA i (by omega)).ext hK (fun j hj => by show keepF w mk ac (291 * i + j) = _; rw [keepF_at hac hi hj, if_neg q, if_neg h]) (fun j hj => by show keepF now xk ac (291 * i + j) = _; rw [keepF_at hac hi hj, if_neg q, if_neg h])
theorem acts1_le {ac : Nat} (h : ac ≤ 40) : acts1 ac ≤ 40 := by unfold acts1; split <;> omega
