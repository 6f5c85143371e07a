/-! run -/
def stT (lw : pmLw) (gr : Nat → Int32) (F rt : Nat) (r : Nat → Int32) (s a : Int32) : Nat → Int32 := if s = nI 0 then liveP lw r gr F rt else stX r s a
def stN (lw : pmLw) (gr : Nat → Int32) (F : Nat) (r : Nat → Int32) (s : Int32) : Int32 := if s = nI 0 then btN (btP lw r gr F) else nI 0
section RUN
variable {K F rt : Nat} {gr : Nat → Int32} {lw : pmLw} {X0 : pmXs} {Z : pmZs}
theorem stT_RI {r : Nat → Int32} {s a : Int32} (hG : GE K F gr rt) (hF : 0 < F) (h : RI K F 999 r) (hcs : CS K r s a) : RI K F 999 (stT lw gr F rt r s a) ∧ ∀ j, 110 ≤ j → stT lw gr F rt r s a j = r j := by
  unfold stT
  by_cases c0 : s = nI 0
  · rw [if_pos c0]
    unfold CS at hcs
    rw [if_pos c0] at hcs
    obtain ⟨y, hy, h18⟩ := hcs
    have := liveP_facts (lw := lw) hG hF (h.upY h18 hy) h18 hy (by omega)
    exact ⟨this.1, this.2.2⟩
  · rw [if_neg c0]
    exact ⟨st_RI h hG.1 hcs c0, fun j hj => stX_hi hG.1 hcs c0 (by omega)⟩
theorem X_doT {d u c : Nat} {s a : Int32} {l r : Nat → Int32} {Mx : pmMs} {Q : pmO → Prop} (hd : 160 ≤ d) (hE : XE X0 Z K F gr rt lw) (hG : GE K F gr rt) (hF : 0 < F) (hl : LZ l) (hI : RI K F 999 r) (hc : c + 1 < 160) (hs : xa X0 23 c = s) (ha : xa X0 23 (c + 1) = a) (hcs : CS K r s a) (hQ : ∀ l', LZ l' → Q (.inl (some (.int (stN lw gr F r s))), hp (TS X0 l' (stT lw gr F rt r s a)) Mx Z)) : Wp d u 66 0 (pm_entry 66 [.ref 14, .int (nI c), .int (nI 0)]) [] (hp (TS X0 l r) Mx Z) Q := by
  obtain ⟨d, rfl⟩ : ∃ d0, d = d0 + 5 := ⟨d - 5, by omega⟩
  have e23 : xa (TS X0 l r) 23 = xa X0 23 := TS_a (by decide) (by decide) (by decide)
  repeat (refine Wp.step rfl ?_)
  refine Wp.ldX (k := c + 1) rfl rfl (by first | (simp only [nI_add, pk_mul, Nat.zero_add, Nat.add_zero]; done) | (simp only [nI_add, pk_mul, Nat.zero_add, Nat.add_zero]; exact rfl) | exact rfl) (by omega) (by decide) ?_
  rw [e23, ha]
  iterate 2 refine Wp.step rfl ?_
  refine Wp.brT rfl rfl ?_
  by_cases c0 : s = nI 0
  · unfold stN stT at hQ
    rw [if_pos c0, if_pos c0] at hQ
    iterate 3 refine Wp.step rfl ?_
    refine Wp.ldX (k := c) rfl rfl (by first | (simp only [nI_add, pk_mul, Nat.zero_add, Nat.add_zero]; done) | (simp only [nI_add, pk_mul, Nat.zero_add, Nat.add_zero]; exact rfl) | exact rfl) (by omega) (by decide) ?_
    rw [e23, hs, c0]
    iterate 2 refine Wp.step rfl ?_
    refine Wp.brT rfl rfl ?_
    iterate 1 refine Wp.step rfl ?_
    refine Wp.call rfl (Nat.zero_le _) (X_liveT (Y := 999) (y := 0) (by omega) hE hG hF hl hI (by omega) (fun l' hl' => ⟨_, _, rfl, ?_⟩))
    have q := hQ l' hl'
    unfold btN at q
    iterate 1 refine Wp.step rfl ?_
    by_cases hb : btP lw r gr F = -1
    · rw [if_pos hb] at q
      refine Wp.brF rfl (fun z => z hb) ?_
      repeat (refine Wp.step rfl ?_)
      exact Wp.fin rfl rfl q
    · rw [if_neg hb] at q
      refine Wp.brT rfl hb ?_
      repeat (refine Wp.step rfl ?_)
      exact Wp.fin rfl rfl q
  · unfold stN stT at hQ
    rw [if_neg c0, if_neg c0] at hQ
    refine X_do1 (K := K) (s := s) (a := a) hc (by rw [e23]; exact hs) c0 hG.1 (by rw [TS_26]; exact hcs) ?_
    rw [TS_row, TS_26]
    exact hQ l hl
theorem M_goTs {d u c lm : Nat} {G : Nat → (Nat → Int32) → Int32} {s a : Int32} {r : Nat → Int32} {Xf X : pmXs} {M : pmMs} {Q : pmO → Prop} (hd : 180 ≤ d) (hT : TM K F gr rt lm G lw Xf M Z r) (hF : 0 < F) (hI : RI K F 999 r) (hc : c + 1 < 160) (hs : ma M 46 c = s) (ha : ma M 46 (c + 1) = a) (hcs : CS K r s a) (hQ : ∀ M1, TM K F gr rt lm G lw Xf M1 Z (stT lw gr F rt r s a) → Q (.inl (some (.int (stN lw gr F r s))), hp X M1 Z)) : Wp d u 185 0 (pm_entry 185 [.ref 35, .ref 49, .int (nI c)]) [] (hp X M Z) Q := by
  obtain ⟨d, rfl⟩ : ∃ d0, d = d0 + 5 := ⟨d - 5, by omega⟩
  have hK := hT.1.1.1
  by_cases c0 : s = nI 0
  · unfold stN stT at hQ
    rw [if_pos c0, if_pos c0] at hQ
    repeat (refine Wp.step rfl ?_)
    refine Wp.ldM (k := c + 1) rfl rfl (by first | (simp only [nI_add, pk_mul, Nat.zero_add, Nat.add_zero]; done) | (simp only [nI_add, pk_mul, Nat.zero_add, Nat.add_zero]; exact rfl) | exact rfl) (by omega) (by decide) ?_
    iterate 4 refine Wp.step rfl ?_
    refine Wp.ldM (k := c) rfl rfl (by first | (simp only [nI_add, pk_mul, Nat.zero_add, Nat.add_zero]; done) | (simp only [nI_add, pk_mul, Nat.zero_add, Nat.add_zero]; exact rfl) | exact rfl) (by omega) (by decide) ?_
    rw [hs, c0]
    iterate 3 refine Wp.step rfl ?_
    refine Wp.call rfl (Nat.zero_le _) (M_goT (Y := 999) (by omega) hT hF hI (by omega) (fun M1 hT1 => ⟨_, _, rfl, ?_⟩))
    have q := hQ M1 hT1
    unfold btN at q
    iterate 1 refine Wp.step rfl ?_
    by_cases hb : btP lw r gr F = -1
    · rw [if_pos hb] at q
      refine Wp.brF rfl (fun z => z hb) ?_
      repeat (refine Wp.step rfl ?_)
      exact Wp.fin rfl rfl q
    · rw [if_neg hb] at q
      refine Wp.brT rfl hb ?_
      repeat (refine Wp.step rfl ?_)
      exact Wp.fin rfl rfl q
  · unfold stN stT at hQ
    rw [if_neg c0, if_neg c0] at hQ
    refine M_go1 (K := K) (now := r) (Or.inr rfl) hc hs ha c0 hK hcs (hQ _ ⟨hT.1.trial _, ?_, ?_⟩)
    · rw [mA_same]; exact st_RR hT.2.1 (by omega) hK hcs c0
    · rw [mA_same]
      obtain ⟨lg, p, q⟩ := hT.2.2
      exact ⟨lg, p, (stW_hi hK hcs c0 (by omega)).trans q⟩
def runV (w : Int32) (i L : Nat) (sm : Int32) : Int32 := if w = nI 1 then sm else if i = L then -1 else nI i
theorem X_run_end {d u n i L : Nat} {w sm : Int32} {l r : Nat → Int32} {Mx : pmMs} {Q : pmO → Prop} (hn : n < 4) (hi : i ≤ 16) (hL16 : L ≤ 16) (hLn : xa X0 24 n = nI L) (hr : ∀ j, 110 ≤ j → r j = xa X0 26 j) (q : Q (.inl (some (.int (runV w i L sm))), hp (TS X0 l (xa X0 26)) Mx Z)) : Wp (d + 20) u 21 86 [some (.ref 14), some (.int (nI n)), some (.int w), some (.int (nI i)), some (.int sm)] [] (hp (TS X0 l r) Mx Z) Q := by
  have e24 : xa (TS X0 l (xa X0 26)) 24 = xa X0 24 := TS_a (by decide) (by decide) (by decide)
  unfold runV at q
  iterate 1 refine Wp.step rfl ?_
  refine Wp.call rfl (Nat.zero_le _) (X_takeT hr ⟨_, _, rfl, ?_⟩)
  iterate 2 refine Wp.step rfl ?_
  by_cases c1 : w = nI 1
  · rw [if_pos c1] at q
    refine Wp.brF rfl (fun z => z c1) ?_
    repeat (refine Wp.step rfl ?_)
    exact Wp.fin rfl rfl q
  rw [if_neg c1] at q
  refine Wp.brT rfl c1 ?_
  iterate 4 refine Wp.step rfl ?_
  refine Wp.ldX (k := n) rfl rfl (by first | (simp only [nI_add, pk_mul, Nat.zero_add, Nat.add_zero]; done) | (simp only [nI_add, pk_mul, Nat.zero_add, Nat.add_zero]; exact rfl) | exact rfl) (by omega) (by decide) ?_
  rw [e24, hLn]
  by_cases c2 : i = L
  · rw [if_pos c2] at q
    refine Wp.brF rfl (fun z => z (by rw [c2])) ?_
    repeat (refine Wp.step rfl ?_)
    exact Wp.fin rfl rfl q
  · rw [if_neg c2] at q
    refine Wp.brT rfl (fun z => c2 ((nI_eq (by omega) (by omega)).mp z)) ?_
    repeat (refine Wp.step rfl ?_)
    exact Wp.fin rfl rfl q
theorem M_run_end {d u n i L : Nat} {w sm : Int32} {X : pmXs} {M : pmMs} {Q : pmO → Prop} (hn : n < 4) (hi : i ≤ 16) (hL16 : L ≤ 16) (hLn : ma M 47 n = nI L) (q : Q (.inl (some (.int (runV w i L sm))), hp X M Z)) : Wp (d + 20) u 144 106 [some (.ref 35), some (.int (nI n)), some (.int w), some (.int (nI i)), some (.int sm)] [] (hp X M Z) Q := by
  unfold runV at q
  iterate 2 refine Wp.step rfl ?_
  by_cases c1 : w = nI 1
  · rw [if_pos c1] at q
    refine Wp.brF rfl (fun z => z c1) ?_
    repeat (refine Wp.step rfl ?_)
    exact Wp.fin rfl rfl q
  rw [if_neg c1] at q
  refine Wp.brT rfl c1 ?_
  iterate 4 refine Wp.step rfl ?_
  refine Wp.ldM (k := n) rfl rfl (by first | (simp only [nI_add, pk_mul, Nat.zero_add, Nat.add_zero]; done) | (simp only [nI_add, pk_mul, Nat.zero_add, Nat.add_zero]; exact rfl) | exact rfl) (by omega) (by decide) ?_
  rw [hLn]
  by_cases c2 : i = L
  · rw [if_pos c2] at q
    refine Wp.brF rfl (fun z => z (by rw [c2])) ?_
    repeat (refine Wp.step rfl ?_)
    exact Wp.fin rfl rfl q
  · rw [if_neg c2] at q
    refine Wp.brT rfl (fun z => c2 ((nI_eq (by omega) (by omega)).mp z)) ?_
    repeat (refine Wp.step rfl ?_)
    exact Wp.fin rfl rfl q
/-- a promise inside of a trial from X0's row -/
def PrR (K F : Nat) (gr : Nat → Int32) (rt : Nat) (lw : pmLw) (Z : pmZs) (X0 : pmXs) (mi pc : Nat) (L : pmL) (r : Nat → Int32) (v : Int32) : Prop := ∀ (lm : Nat) (G : Nat → (Nat → Int32) → Int32) (Xf : pmXs) (M' : pmMs), Xf.1 = X0.1 → xa Xf 24 = xa X0 24 → xa Xf 23 = xa X0 23 → TM K F gr rt lm G lw Xf M' Z r → ∀ (d u : Nat) (Q : pmO → Prop), 200 ≤ d → (∀ M'', Cq K F gr rt lm G lw Xf M'' Z → Q (.inl (some (.int v)), hp Xf M'' Z)) → Wp d u mi pc L [] (hp Xf M' Z) Q
theorem X_run_l {d n cm L : Nat} {w : Int32} {Mx : pmMs} {Q : pmO → Prop} (hd : 250 ≤ d) (hE : XE X0 Z K F gr rt lw) (hG : GE K F gr rt) (h0K : 0 < K) (hF : 0 < F) (hcm4 : cm ≤ 4) (hn : n < cm) (hL16 : L ≤ 16) (h17 : X0.1 17 = nI cm) (hLn : xa X0 24 n = nI L) (hQ : ∀ l v, LZ l → PrR K F gr rt lw Z X0 144 50 [some (.ref 35), some (.int (nI n)), some (.int w), some (.int (nI 0)), some (.int (nI 0))] (xa X0 26) v → Q (.inl (some (.int v)), hp (TS X0 l (xa X0 26)) Mx Z)) : ∀ (m i : Nat) (sm : Int32) (l r : Nat → Int32) (u : Nat), i + m = L → LZ l → RI K F 999 r → (∀ j, 110 ≤ j → r j = xa X0 26 j) → (∀ v, PrR K F gr rt lw Z X0 144 50 [some (.ref 35), some (.int (nI n)), some (.int w), some (.int (nI i)), some (.int sm)] r v → PrR K F gr rt lw Z X0 144 50 [some (.ref 35), some (.int (nI n)), some (.int w), some (.int (nI 0)), some (.int (nI 0))] (xa X0 26) v) → Wp d u 21 37 [some (.ref 14), some (.int (nI n)), some (.int w), some (.int (nI i)), some (.int sm)] [] (hp (TS X0 l r) Mx Z) Q := by
  obtain ⟨d, rfl⟩ : ∃ d0, d = d0 + 20 := ⟨d - 20, by omega⟩
  have hK4 := hG.1
  intro m
  induction m with
  | zero =>
    intro i sm l r u hi hl hI hr hp
    obtain rfl : i = L := by omega
    have e24 : xa (TS X0 l r) 24 = xa X0 24 := TS_a (by decide) (by decide) (by decide)
    iterate 4 refine Wp.step rfl ?_
    refine Wp.ldX (k := n) rfl rfl (by first | (simp only [nI_add, pk_mul, Nat.zero_add, Nat.add_zero]; done) | (simp only [nI_add, pk_mul, Nat.zero_add, Nat.add_zero]; exact rfl) | exact rfl) (by omega) (by decide) ?_
    rw [e24, hLn]
    refine Wp.brT rfl (Int32.le_refl _) ?_
    refine X_run_end (by omega) (by omega) (by omega) hLn hr (hQ l _ hl (hp _ ?_))
    intro lm G Xf M' f1 f2 f3 hT d u Q hd q
    obtain ⟨d, rfl⟩ : ∃ d0, d = d0 + 20 := ⟨d - 20, by omega⟩
    have hca := hT.1.camp ((congrFun f1 17).trans h17) hcm4 hn ((congrFun f2 n).trans hLn) (by omega)
    iterate 4 refine Wp.step rfl ?_
    refine Wp.ldM (k := n) rfl rfl (by first | (simp only [nI_add, pk_mul, Nat.zero_add, Nat.add_zero]; done) | (simp only [nI_add, pk_mul, Nat.zero_add, Nat.add_zero]; exact rfl) | exact rfl) (by omega) (by decide) ?_
    rw [hca.1]
    refine Wp.brT rfl (Int32.le_refl _) ?_
    exact M_run_end (by omega) (by omega) (by omega) hca.1 (q _ hT.1)
  | succ m ih =>
    intro i sm l r u hi hl hI hr hp
    obtain ⟨_, ⟨y, hy, h18⟩, _⟩ := id hI
    have e24 : xa (TS X0 l r) 24 = xa X0 24 := TS_a (by decide) (by decide) (by decide)
    have e23 : xa (TS X0 l r) 23 = xa X0 23 := TS_a (by decide) (by decide) (by decide)
    have ec : nI 2 * (nI 16 * nI n + nI i) = nI (2 * (16 * n + i)) := by rw [pk_mul, nI_add, pk_mul]
    iterate 4 refine Wp.step rfl ?_
    refine Wp.ldX (k := n) rfl rfl (by first | (simp only [nI_add, pk_mul, Nat.zero_add, Nat.add_zero]; done) | (simp only [nI_add, pk_mul, Nat.zero_add, Nat.add_zero]; exact rfl) | exact rfl) (by omega) (by decide) ?_
    rw [e24, hLn]
    refine Wp.brF rfl (nI_ge (by omega) (by omega)) ?_
    iterate 8 refine Wp.step rfl ?_
    simp only [ec]
    have hmm : ∀ lm G Xf M', Xf.1 = X0.1 → xa Xf 24 = xa X0 24 → xa Xf 23 = xa X0 23 → Cq K F gr rt lm G lw Xf M' Z → ma M' 47 n = nI L ∧ ma M' 46 (2 * (16 * n + i)) = xa X0 23 (2 * (16 * n + i)) ∧ ma M' 46 (2 * (16 * n + i) + 1) = xa X0 23 (2 * (16 * n + i) + 1) := by
      intro lm G Xf M' f1 f2 f3 hC
      have hca := hC.camp ((congrFun f1 17).trans h17) hcm4 hn ((congrFun f2 n).trans hLn) (by omega)
      have c1 := hca.2 (2 * i) (by omega)
      have c2 := hca.2 (2 * i + 1) (by omega)
      rw [show 32 * n + 2 * i = 2 * (16 * n + i) by omega, f3] at c1
      rw [show 32 * n + (2 * i + 1) = 2 * (16 * n + i) + 1 by omega, f3] at c2
      exact ⟨hca.1, c1, c2⟩
    generalize hs : xa X0 23 (2 * (16 * n + i)) = s at hmm
    generalize hat : xa X0 23 (2 * (16 * n + i) + 1) = a at hmm
    refine Wp.call rfl (Nat.zero_le _) (X_canStep (y := y) (s := s) (a := a) (by exact hE.1) h0K hK4 (by omega) (by rw [e23]; exact hs) (by rw [e23]; exact hat) (by rw [TS_26]; exact h18) hy (fun hcs => ⟨_, _, rfl, ?_⟩) (fun hcs => ⟨_, _, rfl, ?_⟩))
    case refine_2 =>
      rw [TS_26] at hcs
      refine Wp.brT rfl rfl ?_
      refine X_run_end (by omega) (by omega) hL16 hLn hr (hQ l _ hl (hp _ ?_))
      intro lm G Xf M' f1 f2 f3 hT d u Q hd q
      obtain ⟨d, rfl⟩ : ∃ d0, d = d0 + 20 := ⟨d - 20, by omega⟩
      obtain ⟨m1, m2, m3⟩ := hmm _ _ _ _ f1 f2 f3 hT.1
      iterate 4 refine Wp.step rfl ?_
      refine Wp.ldM (k := n) rfl rfl (by first | (simp only [nI_add, pk_mul, Nat.zero_add, Nat.add_zero]; done) | (simp only [nI_add, pk_mul, Nat.zero_add, Nat.add_zero]; exact rfl) | exact rfl) (by omega) (by decide) ?_
      rw [m1]
      refine Wp.brF rfl (nI_ge (by omega) (by omega)) ?_
      iterate 10 refine Wp.step rfl ?_
      simp only [ec]
      refine Wp.call rfl (Nat.zero_le _) (M_canStep (r := 49) (N := 110) (y := y) (s := s) (a := a) (now := r) (Or.inr rfl) hT.2.1 (by omega) hT.1.2.2.2.1.1 hK4 (by omega) m2 m3 h18 hy (fun z => absurd z hcs) (fun _ => ⟨_, _, rfl, ?_⟩))
      refine Wp.brT rfl rfl ?_
      exact M_run_end (by omega) (by omega) hL16 m1 (q _ hT.1)
    rw [TS_26] at hcs
    have hf := stT_RI (lw := lw) hG hF hI hcs
    refine Wp.brF rfl (by decide) ?_
    iterate 10 refine Wp.step rfl ?_
    simp only [ec]
    refine Wp.call rfl (Nat.zero_le _) (X_doT (s := s) (a := a) (by omega) hE hG hF hl hI (by omega) hs hat hcs (fun l' hl' => ⟨_, _, rfl, ?_⟩))
    have k9 := ih (i + 1) (sm + stN lw gr F r s) l' (stT lw gr F rt r s a) (u - 0 - 0) (by omega) hl' hf.1 (fun j hj => (hf.2 j hj).trans (hr j hj)) (fun v hv => hp v ?_)
    · rw [← nI_add i 1] at k9
      repeat (first | exact k9 | refine Wp.step rfl ?_)
    intro lm G Xf M' f1 f2 f3 hT d u Q hd q
    obtain ⟨d, rfl⟩ : ∃ d0, d = d0 + 20 := ⟨d - 20, by omega⟩
    obtain ⟨m1, m2, m3⟩ := hmm _ _ _ _ f1 f2 f3 hT.1
    iterate 4 refine Wp.step rfl ?_
    refine Wp.ldM (k := n) rfl rfl (by first | (simp only [nI_add, pk_mul, Nat.zero_add, Nat.add_zero]; done) | (simp only [nI_add, pk_mul, Nat.zero_add, Nat.add_zero]; exact rfl) | exact rfl) (by omega) (by decide) ?_
    rw [m1]
    refine Wp.brF rfl (nI_ge (by omega) (by omega)) ?_
    iterate 10 refine Wp.step rfl ?_
    simp only [ec]
    refine Wp.call rfl (Nat.zero_le _) (M_canStep (r := 49) (N := 110) (y := y) (s := s) (a := a) (now := r) (Or.inr rfl) hT.2.1 (by omega) hT.1.2.2.2.1.1 hK4 (by omega) m2 m3 h18 hy (fun _ => ⟨_, _, rfl, ?_⟩) (fun z => absurd hcs z))
    refine Wp.brF rfl (by decide) ?_
    iterate 11 refine Wp.step rfl ?_
    simp only [ec]
    refine Wp.call rfl (Nat.zero_le _) (M_goTs (s := s) (a := a) (by omega) hT hF hI (by omega) m2 m3 hcs (fun M1 hT1 => ⟨_, _, rfl, ?_⟩))
    have k9 := hv _ _ _ M1 f1 f2 f3 hT1 (d + 20) (u - 0 - 0) Q (by omega) q
    rw [← nI_add i 1] at k9
    repeat (first | exact k9 | refine Wp.step rfl ?_)
end RUN
theorem op_run (n w : Int32) : OpX 21 144 [.int n, .int w] := by
  intro X M Z ⟨K, F, gr, rt, lm, G, lw, hC⟩ d u Q hd hu hQ
  obtain ⟨hG, hKF, hE, hM, hT, hL, hP, hR, hA, hN, hI⟩ := id hC
  obtain ⟨d, rfl⟩ : ∃ d0, d = d0 + 20 := ⟨d - 20, by omega⟩
  have hK := hG.1
  obtain ⟨cm, cm1, cm2, cm3, cm4⟩ := id hP
  have nM : 0 < K → M.1 26 ≠ 0 := by rw [hM.1]; exact fun z q => absurd ((nI_eq (b := 0) (by omega) (by omega)).mp q) (by omega)
  iterate 1 refine Wp.step rfl ?_
  refine Wp.call rfl (Nat.zero_le _) (X_isRealm hE.1 hG.1 (fun hr => ⟨_, _, rfl, ?_⟩) (fun hr => ⟨_, _, rfl, ?_⟩))
  case refine_2 =>
    refine Wp.brT rfl rfl ?_
    repeat (refine Wp.step rfl ?_)
    refine Wp.fin rfl rfl (hQ _ X Z.2.2 ?_)
    intro d u Q hd hQ
    obtain ⟨d, rfl⟩ : ∃ d0, d = d0 + 20 := ⟨d - 20, by omega⟩
    iterate 2 refine Wp.step rfl ?_
    refine Wp.putM rfl rfl rfl ?_
    repeat (refine Wp.step rfl ?_)
    refine Wp.call rfl (Nat.zero_le _) (M_is (Or.inr (Or.inr ⟨rfl, rfl⟩)) (by exact cm2) (by omega) n (fun hc => ⟨_, _, rfl, ?_⟩) (fun hc => ⟨_, _, rfl, ?_⟩))
    · refine Wp.brF rfl (by decide) ?_
      repeat (refine Wp.step rfl ?_)
      refine Wp.brT rfl (by show M.1 26 = 0; rw [hM.1, hr]; rfl) ?_
      repeat (refine Wp.step rfl ?_)
      exact Wp.fin rfl rfl (hQ _ ⟨K, F, gr, rt, lm, G, lw, hC⟩)
    · refine Wp.brT rfl rfl ?_
      repeat (refine Wp.step rfl ?_)
      exact Wp.fin rfl rfl (hQ _ ⟨K, F, gr, rt, lm, G, lw, hC⟩)
  refine Wp.brF rfl (by decide) ?_
  iterate 2 refine Wp.step rfl ?_
  refine Wp.call rfl (Nat.zero_le _) (X_isC cm1 cm3 n (fun hc => ⟨_, _, rfl, ?_⟩) (fun hc => ⟨_, _, rfl, ?_⟩))
  case refine_2 =>
    refine Wp.brT rfl rfl ?_
    repeat (refine Wp.step rfl ?_)
    refine Wp.fin rfl rfl (hQ _ X Z.2.2 ?_)
    intro d u Q hd hQ
    obtain ⟨d, rfl⟩ : ∃ d0, d = d0 + 20 := ⟨d - 20, by omega⟩
    iterate 2 refine Wp.step rfl ?_
    refine Wp.putM rfl rfl rfl ?_
    repeat (refine Wp.step rfl ?_)
    refine Wp.call rfl (Nat.zero_le _) (M_is (Or.inr (Or.inr ⟨rfl, rfl⟩)) (by exact cm2) (by omega) n (fun q => absurd q hc) (fun q => ⟨_, _, rfl, ?_⟩))
    refine Wp.brT rfl rfl ?_
    repeat (refine Wp.step rfl ?_)
    exact Wp.fin rfl rfl (hQ _ ⟨K, F, gr, rt, lm, G, lw, hC⟩)
  refine Wp.brF rfl (by decide) ?_
  iterate 3 refine Wp.step rfl ?_
  refine Wp.call rfl (Nat.zero_le _) (X_inP _ _ _ _ (in_le w (by omega : 0 ≤ 1) (by decide)) (fun hw => ⟨_, _, rfl, ?_⟩) (fun hw => ⟨_, _, rfl, ?_⟩))
  case refine_2 =>
    refine Wp.brF rfl (by decide) ?_
    repeat (refine Wp.step rfl ?_)
    refine Wp.fin rfl rfl (hQ _ X Z.2.2 ?_)
    intro d u Q hd hQ
    obtain ⟨d, rfl⟩ : ∃ d0, d = d0 + 20 := ⟨d - 20, by omega⟩
    iterate 2 refine Wp.step rfl ?_
    refine Wp.putM rfl rfl rfl ?_
    repeat (refine Wp.step rfl ?_)
    refine Wp.call rfl (Nat.zero_le _) (M_is (Or.inr (Or.inr ⟨rfl, rfl⟩)) (by exact cm2) (by omega) n (fun q => ⟨_, _, rfl, ?_⟩) (fun q => absurd hc q))
    refine Wp.brF rfl (by decide) ?_
    repeat (refine Wp.step rfl ?_)
    refine Wp.brF rfl (nM hr) ?_
    repeat (refine Wp.step rfl ?_)
    refine Wp.call rfl (Nat.zero_le _) (M_isIn w (nI 0) (nI 1) rfl rfl _ (in_le w (by omega : 0 ≤ 1) (by decide)) (fun q => absurd q hw) (fun q => ⟨_, _, rfl, ?_⟩))
    refine Wp.brF rfl (by decide) ?_
    repeat (refine Wp.step rfl ?_)
    exact Wp.fin rfl rfl (hQ _ ⟨K, F, gr, rt, lm, G, lw, hC⟩)
  obtain ⟨n, hn, rfl⟩ := id hc
  obtain ⟨L, l1, l2, l3, l4⟩ := cm4 n hn
  refine Wp.brT rfl (by decide) ?_
  iterate 1 refine Wp.step rfl ?_
  refine Wp.call rfl (Nat.zero_le _) (X_asideT ⟨_, _, rfl, ?_⟩)
  iterate 4 refine Wp.step rfl ?_
  refine X_run_l (d := d + 19 + 1) (n := n) (cm := cm) (L := L) (w := w) (by omega) hE hG hr (KF_pos hKF hr) cm3 hn l2 cm1 l3 ?_ L 0 (nI 0) _ _ _ (by omega) hE.2.2.2.2.1 hR.2.1 (fun _ _ => rfl) (fun v hv => hv)
  intro l v hl hv
  refine hQ _ _ Z.2.2 ?_
  intro d u Q hd hQ
  obtain ⟨d, rfl⟩ : ∃ d0, d = d0 + 20 := ⟨d - 20, by omega⟩
  iterate 2 refine Wp.step rfl ?_
  refine Wp.putM rfl rfl rfl ?_
  repeat (refine Wp.step rfl ?_)
  refine Wp.call rfl (Nat.zero_le _) (M_is (Or.inr (Or.inr ⟨rfl, rfl⟩)) (by exact cm2) (by omega) (nI n) (fun q => ⟨_, _, rfl, ?_⟩) (fun q => absurd hc q))
  refine Wp.brF rfl (by decide) ?_
  repeat (refine Wp.step rfl ?_)
  refine Wp.brF rfl (nM hr) ?_
  repeat (refine Wp.step rfl ?_)
  refine Wp.call rfl (Nat.zero_le _) (M_isIn w (nI 0) (nI 1) rfl rfl _ (in_le w (by omega : 0 ≤ 1) (by decide)) (fun q => ⟨_, _, rfl, ?_⟩) (fun q => absurd hw q))
  refine Wp.brT rfl (by decide) ?_
  iterate 4 refine Wp.step rfl ?_
  have hC2 : Cq K F gr rt lm G lw (TS X l (xa X 26)) (mI M 0 (nI 0)) Z := TS_cq hC hl
  refine Wp.call rfl (Nat.zero_le _) (M_copyT hC2 (fun M1 hT => ⟨_, _, rfl, ?_⟩))
  rw [TS_26] at hT
  have k9 := hv _ _ (TS X l (xa X 26)) M1 rfl (TS_a (by decide) (by decide) (by decide)) (TS_a (by decide) (by decide) (by decide)) hT (d + 19 + 1) (u - 0 - 0 - 0) Q (by omega) (fun M2 h2 => hQ _ ⟨K, F, gr, rt, lm, G, lw, h2⟩)
  repeat (first | exact k9 | refine Wp.step rfl ?_)
