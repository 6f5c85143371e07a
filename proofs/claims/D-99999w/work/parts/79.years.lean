/-! years -/
theorem dy_row {K F : Nat} {w now : Nat → Int32} (h : RowC K F w now) (h0 : 0 < K) (hK : K ≤ 4) (it : Int32) (x : Int64) : RowC K F (dy2 (fun k => 4 * k) (dy1 w it K x).1 K (dy1 w it K x).2).1 (dy2 id (dy1 now it K x).1 K (dy1 now it K x).2).1 ∧ (dy2 (fun k => 4 * k) (dy1 w it K x).1 K (dy1 w it K x).2).2 = (dy2 id (dy1 now it K x).1 K (dy1 now it K x).2).2 := by
  have h1 : RowC K F (dy1 w it K x).1 (dy1 now it K x).1 ∧ (dy1 w it K x).2 = (dy1 now it K x).2 := by
    unfold dy1
    split
    · exact ⟨h, rfl⟩
    · rw [h.at (j := 16) (by omega) (by omega)]
      exact ⟨h.coin hK (Or.inl rfl) _, rfl⟩
  obtain ⟨h2, h3⟩ := h1
  rw [h3]
  generalize (dy1 w it K x).1 = w1 at h2 ⊢
  generalize (dy1 now it K x).1 = n1 at h2 ⊢
  generalize (dy1 now it K x).2 = x1
  unfold dy2
  split
  · exact ⟨h2, rfl⟩
  · have hk := drV_lt (x := drS (drS x1)) h0
    obtain ⟨m, m1, m2⟩ := (h2.2.1.1 _ hk).1
    obtain ⟨r, r1, r2⟩ := mn_ok (c := 30) (v := m + 2) (by omega) (by omega)
    refine ⟨?_, rfl⟩
    generalize drV (drS (drS x1)) K = k at hk m2 ⊢
    have := h2.might (k := k) (m := r) hK (by omega) r1
    show RowC K F (upd w1 (4 * k) (mn (nI 30) (w1 (4 * k) + nI 2))) (upd n1 k (mn (nI 30) (n1 k + nI 2)))
    rw [h2.at0 (by omega), m2, nI_add, r2]
    exact this
theorem dy_18 {now : Nat → Int32} {K : Nat} (h0 : 0 < K) (hK : K ≤ 4) (it : Int32) (x : Int64) : (dy2 id (dy1 now it K x).1 K (dy1 now it K x).2).1 18 = now 18 := by
  have h1 : (dy1 now it K x).1 18 = now 18 := by
    unfold dy1
    split
    · rfl
    · show upd now 16 (now 16 ^^^ nI 1 <<< (nI (drV (drS (drS x)) K) &&& 31)) 18 = _
      exact pk_un (by omega)
  rw [← h1]
  generalize (dy1 now it K x).1 = n1
  generalize (dy1 now it K x).2 = x1
  unfold dy2
  split
  · rfl
  · have hk := drV_lt (x := drS (drS x1)) h0
    refine pk_un ?_
    show 18 ≠ drV (drS (drS x1)) K
    omega
theorem Cq.draws {K F rt lm : Nat} {gr : Nat → Int32} {G : Nat → (Nat → Int32) → Int32} {lw : pmLw} {X : pmXs} {M : pmMs} {Z : pmZs} (h : Cq K F gr rt lm G lw X M Z) (x y : Int64) : Cq K F gr rt lm G lw (xL X x) (mL M y) Z := h
theorem xa_xL (X : pmXs) (v : Int64) (a : Nat) : xa (xL X v) a = xa X a := rfl
theorem XV.draws {K F rt : Nat} {gr : Nat → Int32} {lw : pmLw} {X : pmXs} {Z : pmZs} (h : XV K F gr rt lw X Z) (h0 : 0 < K) (it : Int32) (x : Int64) : XV K F gr rt lw (xL (xA X 26 (dy2 id (dy1 (xa X 26) it K x).1 K (dy1 (xa X 26) it K x).2).1) (dy2 id (dy1 (xa X 26) it K x).1 K (dy1 (xa X 26) it K x).2).2) Z := by
  obtain ⟨g0, g1, g2, g3, g4⟩ := h
  have hR : RowC K F (fun j => if j < 16 then xa X 26 (4 * (j % 4) + j / 4) else xa X 26 j) (xa X 26) := by
    refine ⟨⟨fun k i hk hi => ?_, fun j a b => ?_⟩, g2, g3⟩
    · show (if _ then _ else _) = _
      rw [if_pos (by omega)]
      exact congrArg (xa X 26) (by omega)
    · show (if _ then _ else _) = _
      rw [if_neg (by omega)]
  have := (dy_row hR h0 g0.1 it x).1
  exact ⟨g0, g1, by rw [xa_xL, xA_same]; exact this.2.1, by rw [xa_xL, xA_same]; exact this.2.2, g4⟩
/-- M's draw, inside of years -/
theorem M_drawYear {d u K : Nat} {X : pmXs} {M : pmMs} {Z : pmZs} {Q : pmO → Prop} {n i : Int32} {s : Int64} {l5 : Option Value} (hK : M.1 26 = nI K) (h0 : 0 < K) (hK4 : K ≤ 4) (hQ : ∀ l5, Wp (d + 2) u 140 142 [some (.ref 35), some (.int n), some (.long s), none, some (.int i), l5] [] (hp X (mL (mA M 48 (dy2 (fun k => 4 * k) (dy1 (ma M 48) (M.1 35) K M.2.1).1 K (dy1 (ma M 48) (M.1 35) K M.2.1).2).1) (dy2 (fun k => 4 * k) (dy1 (ma M 48) (M.1 35) K M.2.1).1 K (dy1 (ma M 48) (M.1 35) K M.2.1).2).2) Z) Q) : Wp (d + 2) u 140 59 [some (.ref 35), some (.int n), some (.long s), none, some (.int i), l5] [] (hp X M Z) Q := by
  have k9 : ∀ (u1 : Nat) (r : Nat → Int32) (x : Int64), u1 = u → (∀ l5, Wp (d + 2) u 140 142 [some (.ref 35), some (.int n), some (.long s), none, some (.int i), l5] [] (hp X (mL (mA M 48 (dy2 (fun k => 4 * k) r K x).1) (dy2 (fun k => 4 * k) r K x).2) Z) Q) → Wp (d + 2) u1 140 92 [some (.ref 35), some (.int n), some (.long s), none, some (.int i), l5] [] (hp X (mL (mA M 48 r) x) Z) Q := by
    intro u1 r x hu hQ
    subst hu
    unfold dy2 at hQ
    repeat (refine Wp.step rfl ?_)
    refine Wp.call rfl (Nat.zero_le _) (M_draw (m := 10) (by omega) (by decide) ⟨_, _, rfl, ?_⟩)
    repeat (refine Wp.step rfl ?_)
    by_cases c : drV (drS x) 10 < 7
    · rw [if_pos c] at hQ
      refine Wp.brT rfl (nI_lt (by exact c) (by decide)) ?_
      exact hQ _
    rw [if_neg c] at hQ
    refine Wp.brF rfl (Int32.not_lt.mpr (nI_le (by exact Nat.le_of_not_lt c) (Nat.lt_of_lt_of_le (drV_lt (by decide)) (by decide)))) ?_
    iterate 3 refine Wp.step rfl ?_
    have e : (mL (mL (mA M 48 r) x) (drS (mL (mA M 48 r) x).2.1)).1 26 = nI K := hK
    simp only [e]
    refine Wp.call rfl (Nat.zero_le _) (M_draw (m := K) h0 (by omega) ⟨_, _, rfl, ?_⟩)
    have hk := drV_lt (x := drS (drS x)) h0
    generalize hkk : drV (drS (drS x)) K = k at hk hQ
    have hkk' : drV (drS (mL (mL (mA M 48 r) x) (drS (mL (mA M 48 r) x).2.1)).2.1) K = k := hkk
    rw [hkk']
    repeat (refine Wp.step rfl ?_)
    refine Wp.ldM (k := 4 * k) rfl rfl (by first | (simp only [nI_add, pk_mul, Nat.zero_add, Nat.add_zero]; done) | (simp only [nI_add, pk_mul, Nat.zero_add, Nat.add_zero]; exact rfl) | exact rfl) (by omega) (by decide) ?_
    repeat (refine Wp.step rfl ?_)
    refine Wp.istM (k := 4 * k) (v := mn (nI 30) (r (4 * k) + nI 2)) rfl rfl rfl (by first | (simp only [nI_add, pk_mul, Nat.zero_add, Nat.add_zero]; done) | (simp only [nI_add, pk_mul, Nat.zero_add, Nat.add_zero]; exact rfl) | exact rfl) (by omega) (by decide) ?_
    have e2 : ∀ (v : Int64) (f : Nat → Int32), mA (mL (mL (mL (mA M 48 r) x) (drS x)) v) 48 f = mL (mA M 48 f) v := by
      intro v f
      show mL (mA (mA M 48 r) 48 f) v = _
      rw [mA_mA]
    refine Eq.mp ?_ (hQ (some (.int (nI k))))
    exact congrArg (fun z => Wp (d + 2) _ 140 142 [some (.ref 35), some (.int n), some (.long s), none, some (.int i), some (.int (nI k))] [] (hp X z Z) Q) (e2 _ _).symm
  unfold dy1 at hQ
  repeat (refine Wp.step rfl ?_)
  refine Wp.call rfl (Nat.zero_le _) (M_draw (m := 10) (by omega) (by decide) ⟨_, _, rfl, ?_⟩)
  repeat (refine Wp.step rfl ?_)
  by_cases c : M.1 35 ≤ nI (drV (drS M.2.1) 10)
  · rw [if_pos c] at hQ
    refine Wp.brT rfl c ?_
    have := k9 (u - 0) (ma M 48) (drS M.2.1) rfl hQ
    rw [mA_self] at this
    exact this
  rw [if_neg c] at hQ
  refine Wp.brF rfl c ?_
  iterate 4 refine Wp.step rfl ?_
  refine Wp.ldM (k := 16) rfl rfl (by first | (simp only [nI_add, pk_mul, Nat.zero_add, Nat.add_zero]; done) | (simp only [nI_add, pk_mul, Nat.zero_add, Nat.add_zero]; exact rfl) | exact rfl) (by omega) (by decide) ?_
  iterate 4 refine Wp.step rfl ?_
  have e : (mL M (drS M.2.1)).1 26 = nI K := hK
  simp only [e]
  refine Wp.call rfl (Nat.zero_le _) (M_draw (m := K) h0 (by omega) ⟨_, _, rfl, ?_⟩)
  repeat (refine Wp.step rfl ?_)
  refine Wp.istM (k := 16) rfl rfl rfl (by first | (simp only [nI_add, pk_mul, Nat.zero_add, Nat.add_zero]; done) | (simp only [nI_add, pk_mul, Nat.zero_add, Nat.add_zero]; exact rfl) | exact rfl) (by omega) (by decide) ?_
  exact k9 _ _ _ rfl hQ
theorem M_years_l {d u n i : Nat} {s : Int64} {K F rt lm : Nat} {gr : Nat → Int32} {G : Nat → (Nat → Int32) → Int32} {lw : pmLw} {X X' : pmXs} {M : pmMs} {Z : pmZs} {Q : pmO → Prop} {l5 : Option Value} (hC : Cq K F gr rt lm G lw X M Z) (hi : n ≤ i) (hn : i ≤ 1000) (hQ : Q (.inl (some (.int (xa X 26 18))), hp X' M Z)) : Wp d u 140 49 [some (.ref 35), some (.int (nI n)), some (.long s), none, some (.int (nI i)), l5] [] (hp X' M Z) Q := by
  repeat (refine Wp.step rfl ?_)
  refine Wp.brT rfl (nI_le hi (by omega)) ?_
  repeat (refine Wp.step rfl ?_)
  refine Wp.ldM (k := 18) rfl rfl (by first | (simp only [nI_add, pk_mul, Nat.zero_add, Nat.add_zero]; done) | (simp only [nI_add, pk_mul, Nat.zero_add, Nat.add_zero]; exact rfl) | exact rfl) (by omega) (by decide) ?_
  rw [(hC.2.2.2.2.2.2.2.1).at (by omega) (by omega)]
  exact Wp.fin rfl rfl hQ
theorem X_years_l {d n : Nat} {s : Int64} {K F rt : Nat} {gr : Nat → Int32} {lw : pmLw} {Z : pmZs} (hd : 200 ≤ d) (h0 : 0 < K) (hF : 0 < F) (hn : n ≤ 30) : ∀ (m i y : Nat) (X : pmXs) (Mx : pmMs) (u : Nat) (Q : pmO → Prop), i + m = n → XV K F gr rt lw X Z → xa X 26 18 = nI y → y + m ≤ 999 → (∀ Xf, (∀ (lm : Nat) (G : Nat → (Nat → Int32) → Int32) (M' : pmMs), Cq K F gr rt lm G lw X M' Z → M'.2.1 = X.2.1 → ∀ (d u : Nat) (X' : pmXs) (l5 : Option Value) (Q : pmO → Prop), 200 ≤ d → (∀ Mf, Cq K F gr rt lm G lw Xf Mf Z → Q (.inl (some (.int (xa Xf 26 18))), hp X' Mf Z)) → Wp d u 140 49 [some (.ref 35), some (.int (nI n)), some (.long s), none, some (.int (nI i)), l5] [] (hp X' M' Z) Q) → Q (.inl (some (.int (xa Xf 26 18))), hp Xf Mx Z)) → Wp d u 17 28 [some (.ref 14), some (.int (nI n)), some (.long s), none, some (.int (nI i))] [] (hp X Mx Z) Q := by
  obtain ⟨d, rfl⟩ : ∃ d0, d = d0 + 20 := ⟨d - 20, by omega⟩
  intro m
  induction m with
  | zero =>
    intro i y X Mx u Q hi hV h18 hy hQ
    repeat (refine Wp.step rfl ?_)
    refine Wp.brT rfl (nI_le (by omega) (by omega)) ?_
    repeat (refine Wp.step rfl ?_)
    refine Wp.ldX (k := 18) rfl rfl (by first | (simp only [nI_add, pk_mul, Nat.zero_add, Nat.add_zero]; done) | (simp only [nI_add, pk_mul, Nat.zero_add, Nat.add_zero]; exact rfl) | exact rfl) (by omega) (by decide) ?_
    refine Wp.fin rfl rfl (hQ X ?_)
    intro lm G M' hC _ d u X' l5 Q hd hQ
    exact M_years_l hC (by omega) (by omega) (hQ _ hC)
  | succ m ih =>
    intro i y X Mx u Q hi hV h18 hy hQ
    have hK4 := hV.1.1
    obtain ⟨X1, x1, x2, x3, xv, x4, x5⟩ := hV.act
    have hX13 : X1.1 13 = nI K := xv.2.1.1
    have xd := xv.draws h0 (X1.1 21) X1.2.1
    have hd18 : xa (xL (xA X1 26 (dy2 id (dy1 (xa X1 26) (X1.1 21) K X1.2.1).1 K (dy1 (xa X1 26) (X1.1 21) K X1.2.1).2).1) (dy2 id (dy1 (xa X1 26) (X1.1 21) K X1.2.1).1 K (dy1 (xa X1 26) (X1.1 21) K X1.2.1).2).2) 26 18 = nI y := by
      rw [xa_xL, xA_same, dy_18 h0 hK4, x3 26 (by decide)]; exact h18
    repeat (refine Wp.step rfl ?_)
    refine Wp.brF rfl (nI_ge (by omega) (by omega)) ?_
    repeat (refine Wp.step rfl ?_)
    refine Wp.call rfl (Nat.zero_le _) (x4 _ _ _ _ ⟨_, _, rfl, ?_⟩)
    repeat (refine Wp.step rfl ?_)
    refine Wp.call rfl (Nat.zero_le _) (X_drawYear (K := K) hX13 h0 hK4 ⟨_, _, rfl, ?_⟩)
    repeat (refine Wp.step rfl ?_)
    refine Wp.call rfl (Nat.zero_le _) (xd.pass (y := y) hF hd18 (by omega) _ _ _ _ (by omega) (fun X2 a1 a2 a3 a4 a5 => ⟨_, _, rfl, ?_⟩))
    have k9 := ih (i + 1) (y + 1) X2 Mx (u - 0 - 0 - 0) Q (by omega) a4 a3 (by omega) (fun Xf hp => hQ Xf ?_)
    · rw [← nI_add i 1] at k9
      repeat (first | exact k9 | refine Wp.step rfl ?_)
    intro lm G M' hC hM d u X' l5 Q hd hQ
    obtain ⟨d, rfl⟩ : ∃ d0, d = d0 + 20 := ⟨d - 20, by omega⟩
    obtain ⟨M1, m1, m2, m3, m4, m5⟩ := x5 _ _ M' hC
    have e35 : M1.1 35 = X1.1 21 := (m4.2.2.2.2.2.1).2.2.2.1.symm
    have hR1 := m4.2.2.2.2.2.2.2.1
    repeat (refine Wp.step rfl ?_)
    refine Wp.brF rfl (nI_ge (by omega) (by omega)) ?_
    repeat (refine Wp.step rfl ?_)
    refine Wp.call rfl (Nat.zero_le _) (m5 _ _ _ _ ⟨_, _, rfl, ?_⟩)
    refine M_drawYear (K := K) m4.2.2.2.1.1 h0 hK4 (fun l5 => ?_)
    rw [e35, m2, hM, ← x2]
    have dr := dy_row hR1 h0 hK4 (X1.1 21) X1.2.1
    have hC2 := (m4.row dr.1).draws (dy2 id (dy1 (xa X1 26) (X1.1 21) K X1.2.1).1 K (dy1 (xa X1 26) (X1.1 21) K X1.2.1).2).2 (dy2 (fun k => 4 * k) (dy1 (ma M1 48) (X1.1 21) K X1.2.1).1 K (dy1 (ma M1 48) (X1.1 21) K X1.2.1).2).2
    repeat (refine Wp.step rfl ?_)
    refine Wp.call rfl (Nat.zero_le _) (a5 _ _ _ hC2 _ _ _ _ (by omega) (fun M2 b1 b2 => ⟨_, _, rfl, ?_⟩))
    have k9 := hp _ _ M2 b2 (b1.trans (dr.2.trans a2.symm)) (d + 20) (u - 0 - 0) X' (some (.int (btP lw (xa (xL (xA X1 26 (dy2 id (dy1 (xa X1 26) (X1.1 21) K X1.2.1).1 K (dy1 (xa X1 26) (X1.1 21) K X1.2.1).2).1) (dy2 id (dy1 (xa X1 26) (X1.1 21) K X1.2.1).1 K (dy1 (xa X1 26) (X1.1 21) K X1.2.1).2).2) 26) gr F))) Q (by omega) hQ
    rw [← nI_add i 1] at k9
    repeat (first | exact k9 | refine Wp.step rfl ?_)
theorem op_years (n : Int32) (s : Int64) : OpX 17 140 [.int n, .long s] := by
  intro X M Z ⟨K, F, gr, rt, lm, G, lw, hC⟩ d u Q hd hu hQ
  obtain ⟨hG, hKF, hE, hM, hT, hL, hP, hR, hA, hN, hI⟩ := id hC
  obtain ⟨d, rfl⟩ : ∃ d0, d = d0 + 20 := ⟨d - 20, by omega⟩
  obtain ⟨_, ⟨y, hy, h18⟩, _⟩ := hR.2.1
  have e18 : ma M 48 18 = nI y := (hR.at (by omega) (by omega)).trans h18
  have hK := hG.1
  repeat (refine Wp.step rfl ?_)
  refine Wp.call rfl (Nat.zero_le _) (X_inP _ _ _ _ (in_le n (by omega : 1 ≤ 30) (by decide)) (fun hw => ⟨_, _, rfl, ?_⟩) (fun hw => ⟨_, _, rfl, ?_⟩))
  case refine_2 =>
    refine Wp.brT rfl rfl ?_
    repeat (refine Wp.step rfl ?_)
    refine Wp.fin rfl rfl (hQ _ X Z.2.2 ?_)
    intro d u Q hd hQ
    obtain ⟨d, rfl⟩ : ∃ d0, d = d0 + 20 := ⟨d - 20, by omega⟩
    iterate 2 refine Wp.step rfl ?_
    refine Wp.putM rfl rfl rfl ?_
    repeat (refine Wp.step rfl ?_)
    by_cases c : K = 0
    · refine Wp.brT rfl (by show M.1 26 = 0; rw [hM.1, c]; rfl) ?_
      repeat (refine Wp.step rfl ?_)
      exact Wp.fin rfl rfl (hQ _ ⟨K, F, gr, rt, lm, G, lw, hC⟩)
    refine Wp.brF rfl (by show M.1 26 ≠ 0; rw [hM.1]; exact fun q => c ((nI_eq (b := 0) (by omega) (by omega)).mp q)) ?_
    repeat (refine Wp.step rfl ?_)
    refine Wp.call rfl (Nat.zero_le _) (M_isIn n (nI 1) (nI 30) rfl rfl _ (in_le n (by omega : 1 ≤ 30) (by decide)) (fun q => absurd q hw) (fun q => ⟨_, _, rfl, ?_⟩))
    refine Wp.brT rfl rfl ?_
    repeat (refine Wp.step rfl ?_)
    exact Wp.fin rfl rfl (hQ _ ⟨K, F, gr, rt, lm, G, lw, hC⟩)
  obtain ⟨n, hn1, hn, rfl⟩ := id hw
  refine Wp.brF rfl (by decide) ?_
  repeat (refine Wp.step rfl ?_)
  refine Wp.call rfl (Nat.zero_le _) (X_canPass hE.1 hG.1 h18 hy (n := n) (by omega) (fun hc => ⟨_, _, rfl, ?_⟩) (fun hc => ⟨_, _, rfl, ?_⟩))
  case refine_2 =>
    refine Wp.brF rfl (by decide) ?_
    repeat (refine Wp.step rfl ?_)
    refine Wp.fin rfl rfl (hQ _ X Z.2.2 ?_)
    intro d u Q hd hQ
    obtain ⟨d, rfl⟩ : ∃ d0, d = d0 + 20 := ⟨d - 20, by omega⟩
    iterate 2 refine Wp.step rfl ?_
    refine Wp.putM rfl rfl rfl ?_
    repeat (refine Wp.step rfl ?_)
    by_cases c : K = 0
    · refine Wp.brT rfl (by show M.1 26 = 0; rw [hM.1, c]; rfl) ?_
      repeat (refine Wp.step rfl ?_)
      exact Wp.fin rfl rfl (hQ _ ⟨K, F, gr, rt, lm, G, lw, hC⟩)
    refine Wp.brF rfl (by show M.1 26 ≠ 0; rw [hM.1]; exact fun q => c ((nI_eq (b := 0) (by omega) (by omega)).mp q)) ?_
    repeat (refine Wp.step rfl ?_)
    refine Wp.call rfl (Nat.zero_le _) (M_isIn (nI n) (nI 1) (nI 30) rfl rfl _ (in_le (nI n) (by omega : 1 ≤ 30) (by decide)) (fun q => ⟨_, _, rfl, ?_⟩) (fun q => absurd hw q))
    refine Wp.brF rfl (by decide) ?_
    repeat (refine Wp.step rfl ?_)
    refine Wp.ldM (k := 18) rfl rfl (by first | (simp only [nI_add, pk_mul, Nat.zero_add, Nat.add_zero]; done) | (simp only [nI_add, pk_mul, Nat.zero_add, Nat.add_zero]; exact rfl) | exact rfl) (by omega) (by decide) ?_
    repeat (refine Wp.step rfl ?_)
    simp only [ma_mI, e18, nI_add]
    refine Wp.brF rfl (by show ¬ nI (y + n) ≤ nI 999; exact nI_ge (by omega) (by omega)) ?_
    repeat (refine Wp.step rfl ?_)
    exact Wp.fin rfl rfl (hQ _ ⟨K, F, gr, rt, lm, G, lw, hC⟩)
  refine Wp.brT rfl (by decide) ?_
  iterate 2 refine Wp.step rfl ?_
  refine Wp.putXL rfl ?_
  iterate 2 refine Wp.step rfl ?_
  refine X_years_l (K := K) (lw := lw) (s := s) (n := n) (by omega) hc.1 (KF_pos hKF hc.1) (by omega) n 0 y (xL X s) M _ Q (by omega) hC.xv h18 (by omega) (fun Xf hp => hQ _ Xf Z.2.2 ?_)
  intro d u Q hd hQ
  obtain ⟨d, rfl⟩ : ∃ d0, d = d0 + 20 := ⟨d - 20, by omega⟩
  iterate 2 refine Wp.step rfl ?_
  refine Wp.putM rfl rfl rfl ?_
  repeat (refine Wp.step rfl ?_)
  refine Wp.brF rfl (by show M.1 26 ≠ 0; rw [hM.1]; exact fun q => absurd ((nI_eq (b := 0) (by omega) (by omega)).mp q) (by omega)) ?_
  repeat (refine Wp.step rfl ?_)
  refine Wp.call rfl (Nat.zero_le _) (M_isIn (nI n) (nI 1) (nI 30) rfl rfl _ (in_le (nI n) (by omega : 1 ≤ 30) (by decide)) (fun q => ⟨_, _, rfl, ?_⟩) (fun q => absurd hw q))
  refine Wp.brF rfl (by decide) ?_
  repeat (refine Wp.step rfl ?_)
  refine Wp.ldM (k := 18) rfl rfl (by first | (simp only [nI_add, pk_mul, Nat.zero_add, Nat.add_zero]; done) | (simp only [nI_add, pk_mul, Nat.zero_add, Nat.add_zero]; exact rfl) | exact rfl) (by omega) (by decide) ?_
  repeat (refine Wp.step rfl ?_)
  simp only [ma_mI, e18, nI_add]
  refine Wp.brT rfl (nI_le (by omega) (by omega)) ?_
  iterate 2 refine Wp.step rfl ?_
  refine Wp.putML rfl ?_
  iterate 2 refine Wp.step rfl ?_
  exact hp _ _ (mL (mI M 0 (nI 0)) s) (hC.draws s s) rfl (d + 19 + 1) _ _ _ _ (by omega) (fun Mf hf => hQ _ ⟨K, F, gr, rt, lm, G, lw, hf⟩)
