/-! doing a step -/
def stX (now : Nat → Int32) (s a : Int32) : Nat → Int32 := if s = nI 1 then upd now 16 (now 16 ^^^ (nI 1 <<< (a &&& 31))) else if s = nI 2 then armP now a.toNatClampNeg else teachP now a.toNatClampNeg
def stW (w : Nat → Int32) (s a : Int32) : Nat → Int32 := if s = nI 1 then upd w 16 (w 16 ^^^ (nI 1 <<< (a &&& 31))) else if s = nI 2 then spP w a.toNatClampNeg 0 (nI 2) else spP w a.toNatClampNeg 2 (nI 3)
theorem CS_arm {K j : Nat} {now : Nat → Int32} {a : Int32} (hK : K ≤ 4) (h : CA K now a) : ∃ j, j < K ∧ a = nI j ∧ a.toNatClampNeg = j ∧ now j < nI 30 := by
  obtain ⟨j, a1, rfl, a3, _⟩ := h
  exact ⟨j, a1, rfl, nI_clamp (by omega), a3⟩
theorem CS_teach {K j : Nat} {now : Nat → Int32} {a : Int32} (hK : K ≤ 4) (h : CT K now a) : ∃ j, j < K ∧ a = nI j ∧ a.toNatClampNeg = j ∧ now (8 + j) < nI 9 := by
  obtain ⟨j, a1, rfl, a3, _⟩ := h
  exact ⟨j, a1, rfl, nI_clamp (by omega), a3⟩
theorem lt_nI {m n : Nat} (h : nI m < nI n) (hm : m < 2 ^ 31) : m < n := by
  by_cases q : m < n
  · exact q
  · exact absurd h (Int32.not_lt.mpr (nI_le (by omega) hm))
section ST
variable {K F Y N : Nat} {w now : Nat → Int32} {s a : Int32}
theorem st_RI (h : RI K F Y now) (hK : K ≤ 4) (hc : CS K now s a) (h0 : s ≠ nI 0) : RI K F Y (stX now s a) := by
  unfold CS at hc
  rw [if_neg h0] at hc
  unfold stX
  by_cases c1 : s = nI 1
  · rw [if_pos c1]; exact h.other hK (by omega) _
  rw [if_neg c1] at hc ⊢
  by_cases c2 : s = nI 2
  · rw [if_pos c2] at hc ⊢
    obtain ⟨j, a1, rfl, a3, a4⟩ := CS_arm (j := 0) hK hc
    rw [a3]
    obtain ⟨m, m1, m2⟩ := (h.1 j a1).1
    rw [m2] at a4
    have := lt_nI a4 (by omega)
    unfold armP
    rw [m2, nI_add]
    exact (h.other hK (by omega) _).might hK (by omega) (by omega)
  · rw [if_neg c2] at hc ⊢
    obtain ⟨j, a1, rfl, a3, a4⟩ := CS_teach (j := 0) hK hc
    rw [a3]
    obtain ⟨m, m1, m2⟩ := (h.1 j a1).2.1
    rw [m2] at a4
    have := lt_nI a4 (by omega)
    unfold teachP
    rw [m2, nI_add]
    exact (h.other hK (by omega) _).style hK (by omega) (by omega)
theorem st_RR (h : RR N w now) (hN : 110 ≤ N) (hK : K ≤ 4) (hc : CS K now s a) (h0 : s ≠ nI 0) : RR N (stW w s a) (stX now s a) := by
  unfold CS at hc
  rw [if_neg h0] at hc
  unfold stX stW
  by_cases c1 : s = nI 1
  · rw [if_pos c1, if_pos c1, h.2 16 (by omega) (by omega)]; exact h.up (by omega) _
  rw [if_neg c1] at hc ⊢
  rw [if_neg c1]
  have e17 := h.2 17 (by omega) (by omega)
  by_cases c2 : s = nI 2
  · rw [if_pos c2] at hc ⊢
    rw [if_pos c2]
    obtain ⟨j, a1, rfl, a3, a4⟩ := CS_arm (j := 0) hK hc
    rw [a3]
    have e1 := h.1 j 0 (by omega) (by omega)
    have h2 := (h.up (j := 17) (by omega) (now 17 - nI 2)).upk (k := j) (i := 0) (by omega) (by omega) (now j + nI 1)
    unfold spP armP
    rw [e17, e1, if_neg (by omega)]
    simp only [Nat.add_zero, Nat.mul_zero, Nat.zero_add] at h2 ⊢
    exact h2
  · rw [if_neg c2] at hc ⊢
    rw [if_neg c2]
    obtain ⟨j, a1, rfl, a3, a4⟩ := CS_teach (j := 0) hK hc
    rw [a3]
    have e1 := h.1 j 2 (by omega) (by omega)
    unfold spP teachP
    rw [e17, e1, if_neg (by omega)]
    exact (h.up (j := 17) (by omega) (now 17 - nI 3)).upk (k := j) (i := 2) (by omega) (by omega) (now (8 + j) + nI 1)
theorem stX_hi (hK : K ≤ 4) (hc : CS K now s a) (h0 : s ≠ nI 0) {j : Nat} (hj : 18 ≤ j) : stX now s a j = now j := by
  unfold CS at hc
  rw [if_neg h0] at hc
  unfold stX
  by_cases c1 : s = nI 1
  · rw [if_pos c1, pk_un (by omega)]
  rw [if_neg c1] at hc ⊢
  by_cases c2 : s = nI 2
  · rw [if_pos c2] at hc ⊢
    obtain ⟨j, a1, rfl, a3, a4⟩ := CS_arm (j := 0) hK hc
    rw [a3]
    unfold armP
    rw [pk_un (by omega), pk_un (by omega)]
  · rw [if_neg c2] at hc ⊢
    obtain ⟨j, a1, rfl, a3, a4⟩ := CS_teach (j := 0) hK hc
    rw [a3]
    unfold teachP
    rw [pk_un (by omega), pk_un (by omega)]
theorem stW_hi (hK : K ≤ 4) (hc : CS K now s a) (h0 : s ≠ nI 0) {j : Nat} (hj : 18 ≤ j) : stW w s a j = w j := by
  unfold CS at hc
  rw [if_neg h0] at hc
  unfold stW
  by_cases c1 : s = nI 1
  · rw [if_pos c1, pk_un (by omega)]
  rw [if_neg c1] at hc ⊢
  by_cases c2 : s = nI 2
  · rw [if_pos c2] at hc ⊢
    obtain ⟨j, a1, rfl, a3, a4⟩ := CS_arm (j := 0) hK hc
    rw [a3]
    unfold spP
    rw [pk_un (by omega), pk_un (by omega)]
  · rw [if_neg c2] at hc ⊢
    obtain ⟨j, a1, rfl, a3, a4⟩ := CS_teach (j := 0) hK hc
    rw [a3]
    unfold spP
    rw [pk_un (by omega), pk_un (by omega)]
end ST
section DO
variable {d u c K : Nat} {s a : Int32} {X : pmXs} {M : pmMs} {Z : pmZs} {Q : pmO → Prop}
theorem X_do1 {b : Int32} (hc : c + 1 < 160) (hs : xa X 23 c = s) (h0 : s ≠ nI 0) (hK : K ≤ 4) (hcs : CS K (xa X 26) s a) (hQ : Q (.inl (some (.int (nI 0))), hp (xA X 26 (stX (xa X 26) s a)) M Z)) : Wp (d + 2) u 66 17 [some (.ref 14), some (.int (nI c)), some (.int b), some (.int a)] [] (hp X M Z) Q := by
  unfold CS at hcs
  rw [if_neg h0] at hcs
  unfold stX at hQ
  iterate 3 refine Wp.step rfl ?_
  refine Wp.ldX (k := c) rfl rfl (by first | (simp only [nI_add, pk_mul, Nat.zero_add, Nat.add_zero]; done) | (simp only [nI_add, pk_mul, Nat.zero_add, Nat.add_zero]; exact rfl) | exact rfl) (by omega) (by decide) ?_
  rw [hs]
  by_cases c1 : s = nI 1
  · rw [if_pos c1] at hQ
    subst c1
    iterate 5 refine Wp.step rfl ?_
    refine Wp.ldX (k := 16) rfl rfl (by first | (simp only [nI_add, pk_mul, Nat.zero_add, Nat.add_zero]; done) | (simp only [nI_add, pk_mul, Nat.zero_add, Nat.add_zero]; exact rfl) | exact rfl) (by omega) (by decide) ?_
    repeat (refine Wp.step rfl ?_)
    refine Wp.istX (k := 16) rfl rfl rfl (by first | (simp only [nI_add, pk_mul, Nat.zero_add, Nat.add_zero]; done) | (simp only [nI_add, pk_mul, Nat.zero_add, Nat.add_zero]; exact rfl) | exact rfl) (by omega) (by decide) ?_
    repeat (refine Wp.step rfl ?_)
    exact Wp.fin rfl rfl hQ
  rw [if_neg c1] at hcs hQ
  by_cases c2 : s = nI 2
  · rw [if_pos c2] at hcs hQ
    subst c2
    obtain ⟨j, a1, rfl, a3, a4⟩ := CS_arm (j := 0) hK hcs
    rw [a3] at hQ
    iterate 3 refine Wp.step rfl ?_
    refine Wp.call rfl (Nat.zero_le _) (X_armNow (j := j) (by omega) ⟨_, _, rfl, ?_⟩)
    repeat (refine Wp.step rfl ?_)
    exact Wp.fin rfl rfl hQ
  rw [if_neg c2] at hcs hQ
  obtain ⟨j, a1, rfl, a3, a4⟩ := CS_teach (j := 0) hK hcs
  rw [a3] at hQ
  refine Wp.step rfl ?_
  rw [sw3 h0 c1 c2]
  iterate 2 refine Wp.step rfl ?_
  refine Wp.call rfl (Nat.zero_le _) (X_teachNow (j := j) (by omega) ⟨_, _, rfl, ?_⟩)
  repeat (refine Wp.step rfl ?_)
  exact Wp.fin rfl rfl hQ
theorem M_go1 {r : Nat} {now : Nat → Int32} (ha : r = 48 ∨ r = 49) (hc : c + 1 < 160) (hs : ma M 46 c = s) (has : ma M 46 (c + 1) = a) (h0 : s ≠ nI 0) (hK : K ≤ 4) (hcs : CS K now s a) (hQ : Q (.inl (some (.int (nI 0))), hp X (mA M r (stW (ma M r) s a)) Z)) : Wp (d + 2) u 185 0 (pm_entry 185 [.ref 35, .ref r, .int (nI c)]) [] (hp X M Z) Q := by
  unfold CS at hcs
  rw [if_neg h0] at hcs
  unfold stW at hQ
  repeat (refine Wp.step rfl ?_)
  refine Wp.ldM (k := c + 1) rfl rfl (by first | (simp only [nI_add, pk_mul, Nat.zero_add, Nat.add_zero]; done) | (simp only [nI_add, pk_mul, Nat.zero_add, Nat.add_zero]; exact rfl) | exact rfl) (by omega) (by decide) ?_
  rw [has]
  repeat (refine Wp.step rfl ?_)
  refine Wp.ldM (k := c) rfl rfl (by first | (simp only [nI_add, pk_mul, Nat.zero_add, Nat.add_zero]; done) | (simp only [nI_add, pk_mul, Nat.zero_add, Nat.add_zero]; exact rfl) | exact rfl) (by omega) (by decide) ?_
  rw [hs]
  by_cases c1 : s = nI 1
  · rw [if_pos c1] at hQ
    subst c1
    iterate 4 refine Wp.step rfl ?_
    refine Wp.ldW (k := 16) ha rfl (by first | (simp only [nI_add, pk_mul, Nat.zero_add, Nat.add_zero]; done) | (simp only [nI_add, pk_mul, Nat.zero_add, Nat.add_zero]; exact rfl) | exact rfl) (by omega) ?_
    repeat (refine Wp.step rfl ?_)
    refine Wp.istW (k := 16) ha rfl (by first | (simp only [nI_add, pk_mul, Nat.zero_add, Nat.add_zero]; done) | (simp only [nI_add, pk_mul, Nat.zero_add, Nat.add_zero]; exact rfl) | exact rfl) (by omega) ?_
    repeat (refine Wp.step rfl ?_)
    exact Wp.fin rfl rfl hQ
  rw [if_neg c1] at hcs hQ
  by_cases c2 : s = nI 2
  · rw [if_pos c2] at hcs hQ
    subst c2
    obtain ⟨j, a1, rfl, a3, a4⟩ := CS_arm (j := 0) hK hcs
    rw [a3] at hQ
    iterate 5 refine Wp.step rfl ?_
    refine Wp.call rfl (Nat.zero_le _) (M_spends (a := r) (j := j) (i := 0) ha (by omega) (by omega) (nI 2) ⟨_, _, rfl, ?_⟩)
    repeat (refine Wp.step rfl ?_)
    exact Wp.fin rfl rfl hQ
  rw [if_neg c2] at hcs hQ
  obtain ⟨j, a1, rfl, a3, a4⟩ := CS_teach (j := 0) hK hcs
  rw [a3] at hQ
  refine Wp.step rfl ?_
  rw [sw3 h0 c1 c2]
  iterate 4 refine Wp.step rfl ?_
  refine Wp.call rfl (Nat.zero_le _) (M_spends (a := r) (j := j) (i := 2) ha (by omega) (by omega) (nI 3) ⟨_, _, rfl, ?_⟩)
  repeat (refine Wp.step rfl ?_)
  exact Wp.fin rfl rfl hQ
end DO
