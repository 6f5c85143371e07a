/-! a real step -/
theorem RowC.virt {K F : Nat} {now : Nat → Int32} (h : RI K F 999 now) (hl : LI now) : RowC K F (fun j => if j < 16 then now (4 * (j % 4) + j / 4) else now j) now := by
  refine ⟨⟨fun k i hk hi => ?_, fun j a b => ?_⟩, h, hl⟩
  · show (if _ then _ else _) = _
    rw [if_pos (by omega)]
    exact congrArg now (by omega)
  · show (if _ then _ else _) = _
    rw [if_neg (by omega)]
theorem RowC.st {K F : Nat} {w now : Nat → Int32} {s a : Int32} (h : RowC K F w now) (hK : K ≤ 4) (hc : CS K now s a) (h0 : s ≠ nI 0) : RowC K F (stW w s a) (stX now s a) := by
  refine ⟨st_RR h.1 (by omega) hK hc h0, st_RI h.2.1 hK hc h0, ?_⟩
  obtain ⟨lg, p, q⟩ := h.2.2
  exact ⟨lg, p, (stX_hi hK hc h0 (by omega)).trans q⟩
def btN (b : Int32) : Int32 := if b = -1 then nI 0 else nI 1
section DOR
variable {K F rt : Nat} {gr : Nat → Int32} {lw : pmLw} {X : pmXs} {Z : pmZs}
theorem XV.doR {c : Nat} {s a : Int32} (h : XV K F gr rt lw X Z) (hF : 0 < F) (hc : c + 1 < 160) (hs : xa X 23 c = s) (ha : xa X 23 (c + 1) = a) (hcs : CS K (xa X 26) s a) : ∀ (d u : Nat) (Mx : pmMs) (Q : pmO → Prop), 160 ≤ d → (∀ X2 v, (∀ b, b ≠ 17 → b ≠ 26 → b ≠ 27 → xa X2 b = xa X b) → (∀ k, k ≠ 24 → X2.1 k = X.1 k) → XV K F gr rt lw X2 Z → (∀ lm G M', Cq K F gr rt lm G lw X M' Z → ma M' 46 c = s → ma M' 46 (c + 1) = a → ∃ M1, (∀ (d u : Nat) (X' : pmXs) (Q : pmO → Prop), Q (.inl none, hp X' M1 Z) → Wp d u 175 0 (pm_entry 175 [.ref 35]) [] (hp X' M' Z) Q) ∧ ∀ (d u : Nat) (X' : pmXs) (Q : pmO → Prop), 180 ≤ d → (∀ M2, Cq K F gr rt lm G lw X2 M2 Z → Q (.inl (some (.int v)), hp X' M2 Z)) → Wp d u 185 0 (pm_entry 185 [.ref 35, .ref 48, .int (nI c)]) [] (hp X' M1 Z) Q) → Q (.inl (some (.int v)), hp X2 Mx Z)) → Wp d u 66 0 (pm_entry 66 [.ref 14, .int (nI c), .int (nI 1)]) [] (hp X Mx Z) Q := by
  intro d u Mx Q hd hQ
  obtain ⟨d, rfl⟩ : ∃ d0, d = d0 + 5 := ⟨d - 5, by omega⟩
  have hK := h.1.1
  obtain ⟨X1, x1, x2, x3, xv, x4, x5⟩ := h.act
  have e26 := x3 26 (by decide)
  have e23 := x3 23 (by decide)
  repeat (refine Wp.step rfl ?_)
  refine Wp.ldX (k := c + 1) rfl rfl (by first | (simp only [nI_add, pk_mul, Nat.zero_add, Nat.add_zero]; done) | (simp only [nI_add, pk_mul, Nat.zero_add, Nat.add_zero]; exact rfl) | exact rfl) (by omega) (by decide) ?_
  rw [ha]
  iterate 2 refine Wp.step rfl ?_
  refine Wp.brF rfl (by decide) ?_
  iterate 1 refine Wp.step rfl ?_
  refine Wp.call rfl (Nat.zero_le _) (x4 _ _ _ _ ⟨_, _, rfl, ?_⟩)
  by_cases c0 : s = nI 0
  · have hcs' := hcs
    unfold CS at hcs'
    rw [if_pos c0] at hcs'
    obtain ⟨y, hy, h18⟩ := hcs'
    iterate 3 refine Wp.step rfl ?_
    refine Wp.ldX (k := c) rfl rfl (by first | (simp only [nI_add, pk_mul, Nat.zero_add, Nat.add_zero]; done) | (simp only [nI_add, pk_mul, Nat.zero_add, Nat.add_zero]; exact rfl) | exact rfl) (by omega) (by decide) ?_
    rw [e23, hs, c0]
    iterate 2 refine Wp.step rfl ?_
    refine Wp.brF rfl (by decide) ?_
    iterate 1 refine Wp.step rfl ?_
    refine Wp.call rfl (Nat.zero_le _) (xv.passA (y := y) hF (by rw [e26]; exact h18) hy _ _ _ _ (by omega) (fun X2 a0 a1 a2 a3 a4 a5 => ⟨_, _, rfl, ?_⟩))
    have q := hQ X2 (btN (btP lw (xa X1 26) gr F)) (fun b p1 p2 p3 => (a0 b p1 p2).trans (x3 b p3)) (fun k hk => (congrFun a1 k).trans (x1 k hk)) a4 ?_
    · iterate 2 refine Wp.step rfl ?_
      unfold btN at q
      by_cases hb : btP lw (xa X1 26) gr F = -1
      · rw [if_pos hb] at q
        refine Wp.brF rfl (fun z => z hb) ?_
        repeat (refine Wp.step rfl ?_)
        exact Wp.fin rfl rfl q
      · rw [if_neg hb] at q
        refine Wp.brT rfl hb ?_
        repeat (refine Wp.step rfl ?_)
        exact Wp.fin rfl rfl q
    intro lm G M' hC' m1 m2
    obtain ⟨M1, b1, b2, b3, b4, b5⟩ := x5 _ _ M' hC'
    refine ⟨M1, b5, ?_⟩
    intro d u X' Q hd q
    obtain ⟨d, rfl⟩ : ∃ d0, d = d0 + 5 := ⟨d - 5, by omega⟩
    repeat (refine Wp.step rfl ?_)
    refine Wp.ldM (k := c + 1) rfl rfl (by first | (simp only [nI_add, pk_mul, Nat.zero_add, Nat.add_zero]; done) | (simp only [nI_add, pk_mul, Nat.zero_add, Nat.add_zero]; exact rfl) | exact rfl) (by omega) (by decide) ?_
    rw [b3 46 (by decide), m2]
    iterate 4 refine Wp.step rfl ?_
    refine Wp.ldM (k := c) rfl rfl (by first | (simp only [nI_add, pk_mul, Nat.zero_add, Nat.add_zero]; done) | (simp only [nI_add, pk_mul, Nat.zero_add, Nat.add_zero]; exact rfl) | exact rfl) (by omega) (by decide) ?_
    rw [b3 46 (by decide), m1, c0]
    iterate 3 refine Wp.step rfl ?_
    refine Wp.call rfl (Nat.zero_le _) (a5 _ _ M1 b4 _ _ _ _ (by omega) (fun M2 _ h2 => ⟨_, _, rfl, ?_⟩))
    have q := q M2 h2
    unfold btN at q
    iterate 1 refine Wp.step rfl ?_
    by_cases hb : btP lw (xa X1 26) gr F = -1
    · rw [if_pos hb] at q
      refine Wp.brF rfl (fun z => z hb) ?_
      repeat (refine Wp.step rfl ?_)
      exact Wp.fin rfl rfl q
    · rw [if_neg hb] at q
      refine Wp.brT rfl hb ?_
      repeat (refine Wp.step rfl ?_)
      exact Wp.fin rfl rfl q
  have hcs1 : CS K (xa X1 26) s a := by rw [e26]; exact hcs
  refine X_do1 (by omega) (by rw [e23]; exact hs) c0 hK hcs1 (hQ _ _ (fun b p1 p2 p3 => (xA_ne _ _ p2).trans (x3 b p3)) (fun k hk => x1 k hk) ?_ ?_)
  · obtain ⟨g0, g1, g2, g3, g4⟩ := xv
    have := (RowC.virt (F := F) g2 g3).st hK hcs1 c0
    exact ⟨g0, g1.row _, by rw [xA_same]; exact this.2.1, by rw [xA_same]; exact this.2.2, g4⟩
  · intro lm G M' hC' m1 m2
    obtain ⟨M1, b1, b2, b3, b4, b5⟩ := x5 _ _ M' hC'
    refine ⟨M1, b5, ?_⟩
    intro d u X' Q hd q
    obtain ⟨d, rfl⟩ : ∃ d0, d = d0 + 5 := ⟨d - 5, by omega⟩
    exact M_go1 (K := K) (now := xa X1 26) (Or.inl rfl) hc (by rw [b3 46 (by decide)]; exact m1) (by rw [b3 46 (by decide)]; exact m2) c0 hK hcs1 (q _ (b4.row ((b4.2.2.2.2.2.2.2.1).st hK hcs1 c0)))
/-- a campaign's length and cells, on both -/
theorem Cq.camp {lm : Nat} {G : Nat → (Nat → Int32) → Int32} {Xf : pmXs} {M : pmMs} {n cm L : Nat} (h : Cq K F gr rt lm G lw Xf M Z) (hcm : Xf.1 17 = nI cm) (hcm4 : cm ≤ 4) (hn : n < cm) (hL : xa Xf 24 n = nI L) (hL16 : L ≤ 16) : ma M 47 n = nI L ∧ ∀ j, j < 2 * L → ma M 46 (32 * n + j) = xa Xf 23 (32 * n + j) := by
  obtain ⟨cm', a1, a2, a3, a4⟩ := h.2.2.2.2.2.2.1
  obtain rfl : cm' = cm := (nI_eq (by omega) (by omega)).mp (a1.symm.trans hcm)
  obtain ⟨L', b1, b2, b3, b4, b5⟩ := a4 n hn
  obtain rfl : L' = L := (nI_eq (by omega) (by omega)).mp (b3.symm.trans hL)
  exact ⟨b4, fun j hj => (b5 j hj).symm⟩
/-- a promise of M from a state coupled to X, to one coupled to X' -/
def PrP (K F : Nat) (gr : Nat → Int32) (rt : Nat) (lw : pmLw) (Z : pmZs) (mi pc : Nat) (L : pmL) (X X' : pmXs) (v : Int32) : Prop := ∀ (lm : Nat) (G : Nat → (Nat → Int32) → Int32) (M' : pmMs), Cq K F gr rt lm G lw X M' Z → ∀ (d u : Nat) (Xh : pmXs) (Q : pmO → Prop), 200 ≤ d → (∀ M'', Cq K F gr rt lm G lw X' M'' Z → Q (.inl (some (.int v)), hp Xh M'' Z)) → Wp d u mi pc L [] (hp Xh M' Z) Q
theorem X_perform_l {d n cm L : Nat} (hd : 250 ≤ d) (h0K : 0 < K) (hF : 0 < F) (hcm4 : cm ≤ 4) (hn : n < cm) (hL16 : L ≤ 16) : ∀ (m i : Nat) (X : pmXs) (Mx : pmMs) (u : Nat) (Q : pmO → Prop), i + m = L → XV K F gr rt lw X Z → X.1 17 = nI cm → xa X 24 n = nI L → (∀ X' v, (∀ l3, PrP K F gr rt lw Z 145 24 [some (.ref 35), some (.int (nI n)), some (.int (nI i)), l3] X X' v) → Q (.inl (some (.int v)), hp X' Mx Z)) → Wp d u 22 19 [some (.ref 14), some (.int (nI n)), some (.int (nI i))] [] (hp X Mx Z) Q := by
  obtain ⟨d, rfl⟩ : ∃ d0, d = d0 + 20 := ⟨d - 20, by omega⟩
  intro m
  induction m with
  | zero =>
    intro i X Mx u Q hi hV h17 hLn hQ
    obtain rfl : i = L := by omega
    iterate 4 refine Wp.step rfl ?_
    refine Wp.ldX (k := n) rfl rfl (by first | (simp only [nI_add, pk_mul, Nat.zero_add, Nat.add_zero]; done) | (simp only [nI_add, pk_mul, Nat.zero_add, Nat.add_zero]; exact rfl) | exact rfl) (by omega) (by decide) ?_
    rw [hLn]
    refine Wp.brT rfl (Int32.le_refl _) ?_
    repeat (refine Wp.step rfl ?_)
    refine Wp.fin rfl rfl (hQ X _ ?_)
    intro l3 lm G M' hC d u Xh Q hd q
    have hca := hC.camp h17 hcm4 hn hLn (by omega)
    iterate 4 refine Wp.step rfl ?_
    refine Wp.ldM (k := n) rfl rfl (by first | (simp only [nI_add, pk_mul, Nat.zero_add, Nat.add_zero]; done) | (simp only [nI_add, pk_mul, Nat.zero_add, Nat.add_zero]; exact rfl) | exact rfl) (by omega) (by decide) ?_
    rw [hca.1]
    refine Wp.brT rfl (Int32.le_refl _) ?_
    repeat (refine Wp.step rfl ?_)
    exact Wp.fin rfl rfl (q _ hC)
  | succ m ih =>
    intro i X Mx u Q hi hV h17 hLn hQ
    have hK4 := hV.1.1
    obtain ⟨_, ⟨y, hy, h18⟩, _⟩ := hV.2.2.1
    have ec : nI 2 * (nI 16 * nI n + nI i) = nI (2 * (16 * n + i)) := by rw [pk_mul, nI_add, pk_mul]
    iterate 4 refine Wp.step rfl ?_
    refine Wp.ldX (k := n) rfl rfl (by first | (simp only [nI_add, pk_mul, Nat.zero_add, Nat.add_zero]; done) | (simp only [nI_add, pk_mul, Nat.zero_add, Nat.add_zero]; exact rfl) | exact rfl) (by omega) (by decide) ?_
    rw [hLn]
    refine Wp.brF rfl (nI_ge (by omega) (by omega)) ?_
    iterate 8 refine Wp.step rfl ?_
    simp only [ec]
    have hmm : ∀ lm G M', Cq K F gr rt lm G lw X M' Z → ma M' 47 n = nI L ∧ ma M' 46 (2 * (16 * n + i)) = xa X 23 (2 * (16 * n + i)) ∧ ma M' 46 (2 * (16 * n + i) + 1) = xa X 23 (2 * (16 * n + i) + 1) := by
      intro lm G M' hC
      have hca := hC.camp h17 hcm4 hn hLn (by omega)
      have c1 := hca.2 (2 * i) (by omega)
      have c2 := hca.2 (2 * i + 1) (by omega)
      rw [show 32 * n + 2 * i = 2 * (16 * n + i) by omega] at c1
      rw [show 32 * n + (2 * i + 1) = 2 * (16 * n + i) + 1 by omega] at c2
      exact ⟨hca.1, c1, c2⟩
    generalize hs : xa X 23 (2 * (16 * n + i)) = s at hmm
    generalize hat : xa X 23 (2 * (16 * n + i) + 1) = a at hmm
    refine Wp.call rfl (Nat.zero_le _) (X_canStep (y := y) (s := s) (a := a) hV.2.1.1 h0K hK4 (by omega) hs hat h18 hy (fun hcs => ⟨_, _, rfl, ?_⟩) (fun hcs => ⟨_, _, rfl, ?_⟩))
    case refine_2 =>
      refine Wp.brT rfl rfl ?_
      repeat (refine Wp.step rfl ?_)
      refine Wp.fin rfl rfl (hQ X _ ?_)
      intro l3 lm G M' hC d u Xh Q hd q
      obtain ⟨d, rfl⟩ : ∃ d0, d = d0 + 20 := ⟨d - 20, by omega⟩
      obtain ⟨m1, m2, m3⟩ := hmm _ _ _ hC
      iterate 4 refine Wp.step rfl ?_
      refine Wp.ldM (k := n) rfl rfl (by first | (simp only [nI_add, pk_mul, Nat.zero_add, Nat.add_zero]; done) | (simp only [nI_add, pk_mul, Nat.zero_add, Nat.add_zero]; exact rfl) | exact rfl) (by omega) (by decide) ?_
      rw [m1]
      refine Wp.brF rfl (nI_ge (by omega) (by omega)) ?_
      iterate 10 refine Wp.step rfl ?_
      simp only [ec]
      refine Wp.call rfl (Nat.zero_le _) (M_canStep (r := 48) (N := 291) (y := y) (s := s) (a := a) (now := xa X 26) (Or.inl rfl) (hC.2.2.2.2.2.2.2.1).1 (by omega) hC.2.2.2.1.1 hK4 (by omega) m2 m3 h18 hy (fun z => absurd z hcs) (fun _ => ⟨_, _, rfl, ?_⟩))
      refine Wp.brT rfl rfl ?_
      repeat (refine Wp.step rfl ?_)
      exact Wp.fin rfl rfl (q _ hC)
    refine Wp.brF rfl (by decide) ?_
    iterate 9 refine Wp.step rfl ?_
    simp only [ec]
    refine Wp.call rfl (Nat.zero_le _) (hV.doR (s := s) (a := a) hF (by omega) hs hat hcs _ _ _ _ (by omega) (fun X2 v p1 p2 p3 p4 => ⟨_, _, rfl, ?_⟩))
    have k9 := ih (i + 1) X2 Mx (u - 0 - 0) Q (by omega) p3 ((p2 17 (by decide)).trans h17) (by rw [p1 24 (by decide) (by decide) (by decide)]; exact hLn) (fun X' v' hp => hQ X' v' ?_)
    · rw [← nI_add i 1] at k9
      repeat (first | exact k9 | refine Wp.step rfl ?_)
    intro l3 lm G M' hC d u Xh Q hd q
    obtain ⟨d, rfl⟩ : ∃ d0, d = d0 + 20 := ⟨d - 20, by omega⟩
    obtain ⟨m1, m2, m3⟩ := hmm _ _ _ hC
    obtain ⟨M1, r1, r2⟩ := p4 _ _ M' hC m2 m3
    iterate 4 refine Wp.step rfl ?_
    refine Wp.ldM (k := n) rfl rfl (by first | (simp only [nI_add, pk_mul, Nat.zero_add, Nat.add_zero]; done) | (simp only [nI_add, pk_mul, Nat.zero_add, Nat.add_zero]; exact rfl) | exact rfl) (by omega) (by decide) ?_
    rw [m1]
    refine Wp.brF rfl (nI_ge (by omega) (by omega)) ?_
    iterate 10 refine Wp.step rfl ?_
    simp only [ec]
    refine Wp.call rfl (Nat.zero_le _) (M_canStep (r := 48) (N := 291) (y := y) (s := s) (a := a) (now := xa X 26) (Or.inl rfl) (hC.2.2.2.2.2.2.2.1).1 (by omega) hC.2.2.2.1.1 hK4 (by omega) m2 m3 h18 hy (fun _ => ⟨_, _, rfl, ?_⟩) (fun z => absurd hcs z))
    refine Wp.brF rfl (by decide) ?_
    iterate 1 refine Wp.step rfl ?_
    refine Wp.call rfl (Nat.zero_le _) (r1 _ _ _ _ ⟨_, _, rfl, ?_⟩)
    iterate 10 refine Wp.step rfl ?_
    simp only [ec]
    refine Wp.call rfl (Nat.zero_le _) (r2 _ _ _ _ (by omega) (fun M2 h2 => ⟨_, _, rfl, ?_⟩))
    have k9 := hp (some (.int v)) _ _ M2 h2 (d + 20) (u - 0 - 0 - 0) Xh Q (by omega) q
    rw [← nI_add i 1] at k9
    repeat (first | exact k9 | refine Wp.step rfl ?_)
end DOR
theorem op_perform (n : Int32) : OpX 22 145 [.int n] := by
  intro X M Z ⟨K, F, gr, rt, lm, G, lw, hC⟩ d u Q hd hu hQ
  obtain ⟨hG, hKF, hE, hM, hT, hL, hP, hR, hA, hN, hI⟩ := id hC
  obtain ⟨d, rfl⟩ : ∃ d0, d = d0 + 20 := ⟨d - 20, by omega⟩
  have hK := hG.1
  obtain ⟨cm, cm1, cm2, cm3, cm4⟩ := id hP
  have nM : 0 < K → M.1 26 ≠ 0 := by rw [hM.1]; exact fun z q => absurd ((nI_eq (b := 0) (by omega) (by omega)).mp q) (by omega)
  iterate 1 refine Wp.step rfl ?_
  refine Wp.call rfl (Nat.zero_le _) (X_isRealm hE.1 hG.1 (fun hr => ⟨_, _, rfl, ?_⟩) (fun hr => ⟨_, _, rfl, ?_⟩))
  case refine_2 =>
    refine Wp.brT rfl rfl ?_
    repeat (refine Wp.step rfl ?_)
    refine Wp.fin rfl rfl (hQ _ X Z.2.2 ?_)
    intro d u Q hd hQ
    obtain ⟨d, rfl⟩ : ∃ d0, d = d0 + 20 := ⟨d - 20, by omega⟩
    iterate 2 refine Wp.step rfl ?_
    refine Wp.putM rfl rfl rfl ?_
    repeat (refine Wp.step rfl ?_)
    refine Wp.call rfl (Nat.zero_le _) (M_is (Or.inr (Or.inr ⟨rfl, rfl⟩)) (by exact cm2) (by omega) n (fun hc => ⟨_, _, rfl, ?_⟩) (fun hc => ⟨_, _, rfl, ?_⟩))
    · refine Wp.brF rfl (by decide) ?_
      repeat (refine Wp.step rfl ?_)
      refine Wp.brF rfl (fun q => q (by show M.1 26 = 0; rw [hM.1, hr]; rfl)) ?_
      repeat (refine Wp.step rfl ?_)
      exact Wp.fin rfl rfl (hQ _ ⟨K, F, gr, rt, lm, G, lw, hC⟩)
    · refine Wp.brT rfl rfl ?_
      repeat (refine Wp.step rfl ?_)
      exact Wp.fin rfl rfl (hQ _ ⟨K, F, gr, rt, lm, G, lw, hC⟩)
  refine Wp.brF rfl (by decide) ?_
  iterate 2 refine Wp.step rfl ?_
  refine Wp.call rfl (Nat.zero_le _) (X_isC cm1 cm3 n (fun hc => ⟨_, _, rfl, ?_⟩) (fun hc => ⟨_, _, rfl, ?_⟩))
  case refine_2 =>
    refine Wp.brF rfl (by decide) ?_
    repeat (refine Wp.step rfl ?_)
    refine Wp.fin rfl rfl (hQ _ X Z.2.2 ?_)
    intro d u Q hd hQ
    obtain ⟨d, rfl⟩ : ∃ d0, d = d0 + 20 := ⟨d - 20, by omega⟩
    iterate 2 refine Wp.step rfl ?_
    refine Wp.putM rfl rfl rfl ?_
    repeat (refine Wp.step rfl ?_)
    refine Wp.call rfl (Nat.zero_le _) (M_is (Or.inr (Or.inr ⟨rfl, rfl⟩)) (by exact cm2) (by omega) n (fun q => absurd q hc) (fun q => ⟨_, _, rfl, ?_⟩))
    refine Wp.brT rfl rfl ?_
    repeat (refine Wp.step rfl ?_)
    exact Wp.fin rfl rfl (hQ _ ⟨K, F, gr, rt, lm, G, lw, hC⟩)
  obtain ⟨n, hn, rfl⟩ := id hc
  obtain ⟨L, l1, l2, l3, l4⟩ := cm4 n hn
  refine Wp.brT rfl (by decide) ?_
  iterate 2 refine Wp.step rfl ?_
  refine X_perform_l (d := d + 19 + 1) (n := n) (cm := cm) (L := L) (by omega) hr (KF_pos hKF hr) cm3 hn l2 L 0 X M _ Q (by omega) hC.xv cm1 l3 (fun X' v hp => hQ _ X' Z.2.2 ?_)
  intro d u Q hd hQ
  obtain ⟨d, rfl⟩ : ∃ d0, d = d0 + 20 := ⟨d - 20, by omega⟩
  iterate 2 refine Wp.step rfl ?_
  refine Wp.putM rfl rfl rfl ?_
  repeat (refine Wp.step rfl ?_)
  refine Wp.call rfl (Nat.zero_le _) (M_is (Or.inr (Or.inr ⟨rfl, rfl⟩)) (by exact cm2) (by omega) (nI n) (fun q => ⟨_, _, rfl, ?_⟩) (fun q => absurd hc q))
  refine Wp.brF rfl (by decide) ?_
  repeat (refine Wp.step rfl ?_)
  refine Wp.brT rfl (nM hr) ?_
  have k9 := hp none lm G (mI M 0 (nI 0)) hC (d + 19 + 1) (u - 0) X' Q (by omega) (fun M2 hf => hQ _ ⟨K, F, gr, rt, lm, G, lw, hf⟩)
  repeat (first | exact k9 | refine Wp.step rfl ?_)
