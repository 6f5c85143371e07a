/-! steps of campaigns -/
def CS (K : Nat) (now : Nat → Int32) (s a : Int32) : Prop := if s = nI 0 then ∃ y, y ≤ 998 ∧ now 18 = nI y else if s = nI 1 then ∃ j, j < K ∧ a = nI j else if s = nI 2 then CA K now a else CT K now a
theorem sw3 {a b c e : Nat} {s : Int32} (h0 : s ≠ nI 0) (h1 : s ≠ nI 1) (h2 : s ≠ nI 2) : pm_sw [(0, a), (1, b), (2, c)] e s = e := by
  show (if s = nI 0 then a else if s = nI 1 then b else if s = nI 2 then c else e) = e
  rw [if_neg h0, if_neg h1, if_neg h2]
section ST
variable {d u : Nat} {X : pmXs} {M : pmMs} {Z : pmZs} {Q : pmO → Prop} {K : Nat}
theorem X_canStep {c y : Nat} {s a : Int32} (hK : X.1 13 = nI K) (h0K : 0 < K) (hK4 : K ≤ 4) (hc : c + 1 < 160) (hs : xa X 23 c = s) (ha : xa X 23 (c + 1) = a) (h18 : xa X 26 18 = nI y) (hy : y ≤ 999) (h1 : CS K (xa X 26) s a → Q (.inl (some (.int 1)), hp X M Z)) (h0 : ¬ CS K (xa X 26) s a → Q (.inl (some (.int 0)), hp X M Z)) : Wp (d + 3) u 65 0 (pm_entry 65 [.ref 14, .int (nI c)]) [] (hp X M Z) Q := by
  repeat (refine Wp.step rfl ?_)
  refine Wp.ldX (k := c + 1) rfl rfl (by first | (simp only [nI_add, pk_mul, Nat.zero_add, Nat.add_zero]; done) | (simp only [nI_add, pk_mul, Nat.zero_add, Nat.add_zero]; exact rfl) | exact rfl) (by omega) (by decide) ?_
  rw [ha]
  repeat (refine Wp.step rfl ?_)
  refine Wp.ldX (k := c) rfl rfl (by first | (simp only [nI_add, pk_mul, Nat.zero_add, Nat.add_zero]; done) | (simp only [nI_add, pk_mul, Nat.zero_add, Nat.add_zero]; exact rfl) | exact rfl) (by omega) (by decide) ?_
  rw [hs]
  unfold CS at h1 h0
  by_cases c0 : s = nI 0
  · rw [if_pos c0] at h1 h0
    subst c0
    iterate 3 refine Wp.step rfl ?_
    refine Wp.call rfl (Nat.zero_le _) (X_canPass hK hK4 h18 hy (n := 1) (by omega) (fun hc => ⟨_, _, rfl, ?_⟩) (fun hc => ⟨_, _, rfl, ?_⟩))
    · exact Wp.finZ rfl (Or.inr rfl) (h1 ⟨y, by omega, h18⟩)
    · refine Wp.finZ rfl (Or.inl rfl) (h0 fun ⟨y', a, b⟩ => hc ⟨h0K, ?_⟩)
      have := (nI_eq (by omega) (by omega)).mp (h18.symm.trans b)
      omega
  rw [if_neg c0] at h1 h0
  by_cases c1 : s = nI 1
  · rw [if_pos c1] at h1 h0
    subst c1
    iterate 3 refine Wp.step rfl ?_
    refine Wp.call rfl (Nat.zero_le _) (X_isK hK hK4 a (fun hc => ⟨_, _, rfl, ?_⟩) (fun hc => ⟨_, _, rfl, ?_⟩))
    · exact Wp.finZ rfl (Or.inr rfl) (h1 hc)
    · exact Wp.finZ rfl (Or.inl rfl) (h0 hc)
  rw [if_neg c1] at h1 h0
  by_cases c2 : s = nI 2
  · rw [if_pos c2] at h1 h0
    subst c2
    iterate 3 refine Wp.step rfl ?_
    refine Wp.call rfl (Nat.zero_le _) (X_canArm hK hK4 a (fun hc => ⟨_, _, rfl, ?_⟩) (fun hc => ⟨_, _, rfl, ?_⟩))
    · exact Wp.finZ rfl (Or.inr rfl) (h1 hc)
    · exact Wp.finZ rfl (Or.inl rfl) (h0 hc)
  rw [if_neg c2] at h1 h0
  refine Wp.step rfl ?_
  rw [sw3 c0 c1 c2]
  iterate 2 refine Wp.step rfl ?_
  refine Wp.call rfl (Nat.zero_le _) (X_canTeach hK hK4 a (fun hc => ⟨_, _, rfl, ?_⟩) (fun hc => ⟨_, _, rfl, ?_⟩))
  · exact Wp.finZ rfl (Or.inr rfl) (h1 hc)
  · exact Wp.finZ rfl (Or.inl rfl) (h0 hc)
theorem M_canStep {r N c y : Nat} {now : Nat → Int32} {s a : Int32} (ha : r = 48 ∨ r = 49) (hR : RR N (ma M r) now) (hN : 110 ≤ N) (hK : M.1 26 = nI K) (hK4 : K ≤ 4) (hc : c + 1 < 160) (hs : ma M 46 c = s) (has : ma M 46 (c + 1) = a) (h18 : now 18 = nI y) (hy : y ≤ 999) (h1 : CS K now s a → Q (.inl (some (.int 1)), hp X M Z)) (h0 : ¬ CS K now s a → Q (.inl (some (.int 0)), hp X M Z)) : Wp (d + 3) u 184 0 (pm_entry 184 [.ref 35, .ref r, .int (nI c)]) [] (hp X M Z) Q := by
  repeat (refine Wp.step rfl ?_)
  refine Wp.ldM (k := c + 1) rfl rfl (by first | (simp only [nI_add, pk_mul, Nat.zero_add, Nat.add_zero]; done) | (simp only [nI_add, pk_mul, Nat.zero_add, Nat.add_zero]; exact rfl) | exact rfl) (by omega) (by decide) ?_
  rw [has]
  repeat (refine Wp.step rfl ?_)
  refine Wp.ldM (k := c) rfl rfl (by first | (simp only [nI_add, pk_mul, Nat.zero_add, Nat.add_zero]; done) | (simp only [nI_add, pk_mul, Nat.zero_add, Nat.add_zero]; exact rfl) | exact rfl) (by omega) (by decide) ?_
  rw [hs]
  unfold CS at h1 h0
  by_cases c0 : s = nI 0
  · rw [if_pos c0] at h1 h0
    subst c0
    iterate 3 refine Wp.step rfl ?_
    refine Wp.ldW (k := 18) ha rfl (by first | (simp only [nI_add, pk_mul, Nat.zero_add, Nat.add_zero]; done) | (simp only [nI_add, pk_mul, Nat.zero_add, Nat.add_zero]; exact rfl) | exact rfl) (by omega) ?_
    rw [hR.2 18 (by omega) (by omega), h18]
    iterate 1 refine Wp.step rfl ?_
    by_cases q : y ≤ 998
    · refine Wp.brF rfl (nI_ge (by omega) (by omega)) ?_
      repeat (refine Wp.step rfl ?_)
      exact Wp.finZ rfl (Or.inr rfl) (h1 ⟨y, q, h18⟩)
    · refine Wp.brT rfl (nI_le (by omega) (by omega)) ?_
      repeat (refine Wp.step rfl ?_)
      refine Wp.finZ rfl (Or.inl rfl) (h0 fun ⟨y', a, b⟩ => q ?_)
      have := (nI_eq (by omega) (by omega)).mp (h18.symm.trans b)
      omega
  rw [if_neg c0] at h1 h0
  by_cases c1 : s = nI 1
  · rw [if_pos c1] at h1 h0
    subst c1
    iterate 3 refine Wp.step rfl ?_
    refine Wp.call rfl (Nat.zero_le _) (M_is (Or.inl ⟨rfl, rfl⟩) hK (by omega) a (fun hc => ⟨_, _, rfl, ?_⟩) (fun hc => ⟨_, _, rfl, ?_⟩))
    · exact Wp.finZ rfl (Or.inr rfl) (h1 hc)
    · exact Wp.finZ rfl (Or.inl rfl) (h0 hc)
  rw [if_neg c1] at h1 h0
  by_cases c2 : s = nI 2
  · rw [if_pos c2] at h1 h0
    subst c2
    iterate 4 refine Wp.step rfl ?_
    refine Wp.call rfl (Nat.zero_le _) (M_canArm ha hR hN hK hK4 a (fun hc => ⟨_, _, rfl, ?_⟩) (fun hc => ⟨_, _, rfl, ?_⟩))
    · exact Wp.finZ rfl (Or.inr rfl) (h1 hc)
    · exact Wp.finZ rfl (Or.inl rfl) (h0 hc)
  rw [if_neg c2] at h1 h0
  refine Wp.step rfl ?_
  rw [sw3 c0 c1 c2]
  iterate 3 refine Wp.step rfl ?_
  refine Wp.call rfl (Nat.zero_le _) (M_canTeach ha hR hN hK hK4 a (fun hc => ⟨_, _, rfl, ?_⟩) (fun hc => ⟨_, _, rfl, ?_⟩))
  · exact Wp.finZ rfl (Or.inr rfl) (h1 hc)
  · exact Wp.finZ rfl (Or.inl rfl) (h0 hc)
end ST
