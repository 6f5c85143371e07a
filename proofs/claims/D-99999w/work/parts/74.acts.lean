/-! acts on both sides -/
theorem M_remember2 {d u : Nat} (X : pmXs) (M : pmMs) (Z : pmZs) {ac : Nat} (hac : M.1 39 = nI ac) (hle : ac < 40) {Q : pmO → Prop} (hQ : Q (.inl none, hp X (mI (mA M 52 (va_cpy (ma M 48) (ma M 52) 0 (291 * ac) 291)) 39 (nI (ac + 1))) Z)) : ∀ l1, Wp d u 175 50 [some (.ref 35), l1] [] (hp X M Z) Q := by
  intro l1
  iterate 2 refine Wp.step rfl ?_
  have k0 := cpy_L (f := ma M 48) (g := ma M 52) (sp := 0) (dp := 291 * ac) 291 (fun i q => Wp d u 175 52 [some (.ref 35), some (.int (nI i))] [] (hp X (mA M 52 q) Z) Q) ?_ ?_
  · rw [mA_self] at k0
    exact k0
  · repeat (first | refine Wp.putX rfl rfl rfl ?_ | refine Wp.putM rfl rfl rfl ?_ | refine Wp.step rfl ?_)
    try dsimp only
    refine Wp.brT rfl (nI_le (by omega) (by omega)) ?_
    repeat (first | refine Wp.putX rfl rfl rfl ?_ | refine Wp.putM rfl rfl rfl ?_ | refine Wp.step rfl ?_)
    try dsimp only
    rw [mA_1, hac, nI_add]
    exact Wp.fin rfl trivial hQ
  · intro i q hi k9
    rw [← nI_add i 1, Nat.zero_add] at k9
    repeat (first | refine Wp.putX rfl rfl rfl ?_ | refine Wp.putM rfl rfl rfl ?_ | refine Wp.step rfl ?_)
    try dsimp only
    refine Wp.brF rfl (nI_ge hi (by omega)) ?_
    repeat (first | refine Wp.putX rfl rfl rfl ?_ | refine Wp.putM rfl rfl rfl ?_ | refine Wp.step rfl ?_)
    try dsimp only
    refine Wp.ldM rfl rfl (by (try simp only [nI_add, pk_mul]); exact rfl) (by omega) (by decide) ?_
    rw [mA_1, hac]
    refine Wp.istM (k := 291 * ac + i) rfl rfl rfl (by rw [pk_mul, nI_add]) (by omega) (by decide) ?_
    rw [mA_mA, mA_same]
    repeat (first | exact k9 | refine Wp.putX rfl rfl rfl ?_ | refine Wp.putM rfl rfl rfl ?_ | refine Wp.step rfl ?_)
theorem M_remember {d u : Nat} (X : pmXs) (M : pmMs) (Z : pmZs) {ac : Nat} (hac : M.1 39 = nI ac) (hle : ac ≤ 40) {Q : pmO → Prop} (hQ : Q (.inl none, hp X (mI (mA M 52 (keepF (ma M 48) (ma M 52) ac)) 39 (nI (acts1 ac))) Z)) : Wp d u 175 0 (pm_entry 175 [.ref 35]) [] (hp X M Z) Q := by
  unfold keepF acts1 at hQ
  repeat (first | refine Wp.putX rfl rfl rfl ?_ | refine Wp.putM rfl rfl rfl ?_ | refine Wp.step rfl ?_)
  try dsimp only
  by_cases h40 : ac = 40
  · subst h40
    rw [if_pos rfl, if_pos rfl] at hQ
    refine Wp.brF rfl (fun q => q hac) ?_
    iterate 2 refine Wp.step rfl ?_
    have k0 := cpy_S (g := ma M 52) (sp := 291) (dp := 0) (by omega) 11349 (fun i q => Wp d u 175 11 [some (.ref 35), some (.int (nI i))] [] (hp X (mA M 52 q) Z) Q) ?_ ?_
    · rw [mA_self] at k0
      exact k0
    · repeat (first | refine Wp.putX rfl rfl rfl ?_ | refine Wp.putM rfl rfl rfl ?_ | refine Wp.step rfl ?_)
      try dsimp only
      refine Wp.brT rfl (nI_le (by omega) (by omega)) ?_
      iterate 5 (first | refine Wp.putM rfl rfl rfl ?_ | refine Wp.step rfl ?_)
      repeat (first | refine M_remember2 (ac := 39) X _ Z ?_ (by omega) ?_ _ | refine Wp.putM rfl rfl rfl ?_ | refine Wp.step rfl ?_)
      · rw [mI_same, mA_1, hac]; exact pk_sub (by decide)
      simp only [mI_mA, mI_mI, mA_mA]
      exact hQ
    · intro i q hi hq k9
      rw [← nI_add i 1, Nat.zero_add] at k9
      repeat (first | refine Wp.putX rfl rfl rfl ?_ | refine Wp.putM rfl rfl rfl ?_ | refine Wp.step rfl ?_)
      try dsimp only
      refine Wp.brF rfl (nI_ge (by omega) (by omega)) ?_
      repeat (first | refine Wp.putX rfl rfl rfl ?_ | refine Wp.putM rfl rfl rfl ?_ | refine Wp.step rfl ?_)
      try dsimp only
      refine Wp.ldM (k := 291 + i) rfl rfl (by rw [nI_add, Nat.add_comm]) (by omega) (by decide) ?_
      rw [mA_same, hq]
      refine Wp.istM (k := i) rfl rfl rfl rfl (by omega) (by decide) ?_
      rw [mA_mA, mA_same]
      repeat (first | exact k9 | refine Wp.putX rfl rfl rfl ?_ | refine Wp.putM rfl rfl rfl ?_ | refine Wp.step rfl ?_)
  · rw [if_neg h40, if_neg h40] at hQ
    refine Wp.brT rfl (fun q => h40 ((nI_eq (by omega) (by omega)).mp (hac.symm.trans q))) ?_
    exact M_remember2 X M Z hac (by omega) hQ _
section CQ
variable {K F rt lm : Nat} {gr : Nat → Int32} {G : Nat → (Nat → Int32) → Int32} {lw : pmLw} {X : pmXs} {M : pmMs} {Z : pmZs}
theorem Cq.let (h : Cq K F gr rt lm G lw X M Z) {l : Nat → Int32} (hl : LZ l) : Cq K F gr rt lm G lw (xA X 17 l) M Z := by
  obtain ⟨hG, hKF, hE, hr⟩ := h
  exact ⟨hG, hKF, hE.let hl, hr⟩
theorem Cq.jf (h : Cq K F gr rt lm G lw X M Z) {M' : pmMs} (hJ : Jf M M') (hE' : ME M' K F gr rt lm G lw) : Cq K F gr rt lm G lw X M' Z := by
  obtain ⟨hG, hKF, hE, hM, hT, hL, hP, hR, hA, hN, hI⟩ := h
  obtain ⟨j1, j2, j3⟩ := hJ
  refine ⟨hG, hKF, hE, hE', ?_, ?_, ?_, ?_, ?_, ?_, ?_⟩
  · obtain ⟨n, a, b, c, e⟩ := hT
    exact ⟨n, a, (j1 6 rfl).trans b, c, fun j hj => by rw [j3 36 (by decide) (by decide)]; exact e j hj⟩
  · obtain ⟨a, b, c, e, f⟩ := hL
    exact ⟨a, (j1 7 rfl).trans b, c.trans (j1 34 rfl).symm, e.trans (j1 35 rfl).symm, f⟩
  · obtain ⟨cm, a, b, c, e⟩ := hP
    refine ⟨cm, a, (j1 30 rfl).trans b, c, fun n hn => ?_⟩
    rw [j3 47 (by decide) (by decide), j3 46 (by decide) (by decide)]
    exact e n hn
  · rw [j3 48 (by decide) (by decide)]; exact hR
  · obtain ⟨ac, a, b, c, e⟩ := hA
    refine ⟨ac, a, b, (j1 39 rfl).trans c, fun i hi => ?_⟩
    rw [j3 52 (by decide) (by decide)]
    exact e i hi
  · obtain ⟨nt, a, b, c, e⟩ := hN
    refine ⟨nt, a, b, (j1 44 rfl).trans c, fun i hi => ?_⟩
    rw [j3 53 (by decide) (by decide)]
    exact e i hi
  · rw [CImg, j1 47 rfl, j3 57 (by decide) (by decide)]; exact hI
theorem Cq.row (h : Cq K F gr rt lm G lw X M Z) {now w : Nat → Int32} (hr : RowC K F w now) : Cq K F gr rt lm G lw (xA X 26 now) (mA M 48 w) Z := by
  obtain ⟨hG, hKF, hE, hM, hT, hL, hP, hR, hA, hN, hI⟩ := h
  exact ⟨hG, hKF, hE, ME_mA hM (Or.inl rfl) w, hT, hL, hP, hr, hA, hN, hI⟩
theorem Cq.trial (h : Cq K F gr rt lm G lw X M Z) (w : Nat → Int32) : Cq K F gr rt lm G lw X (mA M 49 w) Z := by
  obtain ⟨hG, hKF, hE, hM, hT, hL, hP, hR, hA, hN, hI⟩ := h
  exact ⟨hG, hKF, hE, ME_mA hM (Or.inr rfl) w, hT, hL, hP, hR, hA, hN, hI⟩
theorem Cq.aside (h : Cq K F gr rt lm G lw X M Z) (w : Nat → Int32) : Cq K F gr rt lm G lw (xA X 28 w) M Z := h
/-- an act on X, and the promise of it on M -/
theorem Cq.act (h : Cq K F gr rt lm G lw X M Z) : ∃ X1, (∀ k, k ≠ 24 → X1.1 k = X.1 k) ∧ X1.2.1 = X.2.1 ∧ (∀ a, a ≠ 27 → xa X1 a = xa X a) ∧ (∀ (d u : Nat) (Mx : pmMs) (Q : pmO → Prop), Q (.inl none, hp X1 Mx Z) → Wp d u 53 0 (pm_entry 53 [.ref 14]) [] (hp X Mx Z) Q) ∧ ∀ M', Cq K F gr rt lm G lw X M' Z → ∃ M1, (∀ k, k ≠ 39 → M1.1 k = M'.1 k) ∧ M1.2.1 = M'.2.1 ∧ (∀ a, a ≠ 52 → ma M1 a = ma M' a) ∧ Cq K F gr rt lm G lw X1 M1 Z ∧ ∀ (d u : Nat) (X' : pmXs) (Q : pmO → Prop), Q (.inl none, hp X' M1 Z) → Wp d u 175 0 (pm_entry 175 [.ref 35]) [] (hp X' M' Z) Q := by
  obtain ⟨ac, a1, a2, a3, a4⟩ := h.2.2.2.2.2.2.2.2.1
  refine ⟨xI (xA X 27 (keepX X ac)) 24 (nI (acts1 ac)), fun k hk => xI_ne _ _ hk, rfl, fun a ha => xA_ne X _ ha, fun d u Mx Q q => X_act X Mx Z a2 a1 q, ?_⟩
  intro M' h'
  obtain ⟨hG, hKF, hE, hM, hT, hL, hP, hR, ⟨ac', b1, b2, b3, b4⟩, hN, hI⟩ := h'
  obtain rfl : ac' = ac := (nI_eq (by omega) (by omega)).mp (b2.symm.trans a2)
  refine ⟨mI (mA M' 52 (keepF (ma M' 48) (ma M' 52) ac')) 39 (nI (acts1 ac')), fun k hk => mI_ne _ _ hk, rfl, fun a ha => mA_ne M' _ ha, ⟨hG, hKF, hE, hM, hT, hL, hP, hR, ⟨acts1 ac', acts1_le a1, rfl, rfl, acts_keep hG.1 a1 b4 hR⟩, hN, hI⟩, fun d u X' Q q => M_remember X' M' Z b3 b1 q⟩
theorem RowC.coin {K F j : Nat} {w now : Nat → Int32} (h : RowC K F w now) (hK : K ≤ 4) (hj : j = 16 ∨ j = 17) (v : Int32) : RowC K F (upd w j v) (upd now j v) := by
  refine ⟨h.1.up (by omega) v, h.2.1.other hK (by omega) v, ?_⟩
  obtain ⟨lg, a, b⟩ := h.2.2
  exact ⟨lg, a, by rw [pk_un (by omega)]; exact b⟩
theorem RowC.li {K F j : Nat} {w now : Nat → Int32} (h : RowC K F w now) (hj : j ≠ 110) (v : Int32) : LI (upd now j v) := by
  obtain ⟨lg, a, b⟩ := h.2.2
  exact ⟨lg, a, by rw [pk_un (by omega)]; exact b⟩
theorem RowC.might {K F k m : Nat} {w now : Nat → Int32} (h : RowC K F w now) (hK : K ≤ 4) (hk : k < 4) (hm : m ≤ 30) : RowC K F (upd w (4 * k) (nI m)) (upd now k (nI m)) := by
  refine ⟨?_, h.2.1.might hK hk hm, h.li (by omega) _⟩
  have := h.1.upk (k := k) (i := 0) hk (by omega) (nI m)
  rw [Nat.add_zero, Nat.mul_zero, Nat.zero_add] at this
  exact this
theorem RowC.style {K F k m : Nat} {w now : Nat → Int32} (h : RowC K F w now) (hK : K ≤ 4) (hk : k < 4) (hm : m ≤ 9) : RowC K F (upd w (4 * k + 2) (nI m)) (upd now (8 + k) (nI m)) := ⟨h.1.upk (k := k) (i := 2) hk (by omega) (nI m), h.2.1.style hK hk hm, h.li (by omega) _⟩
theorem RowC.bias {K F k : Nat} {w now : Nat → Int32} (h : RowC K F w now) (hK : K ≤ 4) (hk : k < 4) (v : Int32) : RowC K F (upd w (4 * k + 1) v) (upd now (4 + k) v) := ⟨h.1.upk (k := k) (i := 1) hk (by omega) v, h.2.1.other hK (by omega) v, h.li (by omega) _⟩
end CQ
theorem op_hold (k : Int32) : OpX 11 134 [.int k] := by
  intro X M Z ⟨K, F, gr, rt, lm, G, lw, hC⟩ d u Q hd hu hQ
  obtain ⟨hG, hKF, hE, hM, hT, hL, hP, hR, hA, hN, hI⟩ := id hC
  obtain ⟨d, rfl⟩ : ∃ d0, d = d0 + 20 := ⟨d - 20, by omega⟩
  iterate 2 refine Wp.step rfl ?_
  refine Wp.call rfl (Nat.zero_le _) (X_isK hE.1 hG.1 k (fun hc => ⟨_, _, rfl, ?_⟩) (fun hc => ⟨_, _, rfl, ?_⟩))
  case refine_2 =>
    refine Wp.brF rfl (by decide) ?_
    iterate 1 refine Wp.step rfl ?_
    refine Wp.fin rfl rfl (hQ _ X Z.2.2 ?_)
    intro d u Q hd hQ
    obtain ⟨d, rfl⟩ : ∃ d0, d = d0 + 20 := ⟨d - 20, by omega⟩
    iterate 2 refine Wp.step rfl ?_
    refine Wp.putM rfl rfl rfl ?_
    iterate 2 refine Wp.step rfl ?_
    refine Wp.call rfl (Nat.zero_le _) (M_is (Or.inl ⟨rfl, rfl⟩) (by exact hM.1) (by have := hG.1; omega) k (fun q => absurd q hc) (fun q => ⟨_, _, rfl, ?_⟩))
    refine Wp.brF rfl (by decide) ?_
    refine Wp.step rfl ?_
    exact Wp.fin rfl rfl (hQ _ ⟨K, F, gr, rt, lm, G, lw, hC⟩)
  have hK := hG.1
  obtain ⟨X1, x1, x2, x3, x4, x5⟩ := hC.act
  refine Wp.brT rfl (by decide) ?_
  iterate 1 refine Wp.step rfl ?_
  refine Wp.call rfl (Nat.zero_le _) (x4 _ _ _ _ ⟨_, _, rfl, ?_⟩)
  iterate 4 refine Wp.step rfl ?_
  refine Wp.ldX (k := 16) rfl rfl (by first | (simp only [nI_add, pk_mul, Nat.zero_add, Nat.add_zero]; done) | (simp only [nI_add, pk_mul, Nat.zero_add, Nat.add_zero]; exact rfl) | exact rfl) (by omega) (by decide) ?_
  iterate 4 refine Wp.step rfl ?_
  refine Wp.istX (k := 16) rfl rfl rfl (by first | (simp only [nI_add, pk_mul, Nat.zero_add, Nat.add_zero]; done) | (simp only [nI_add, pk_mul, Nat.zero_add, Nat.add_zero]; exact rfl) | exact rfl) (by omega) (by decide) ?_
  iterate 3 refine Wp.step rfl ?_
  refine Wp.ldX (k := 16) rfl rfl (by first | (simp only [nI_add, pk_mul, Nat.zero_add, Nat.add_zero]; done) | (simp only [nI_add, pk_mul, Nat.zero_add, Nat.add_zero]; exact rfl) | exact rfl) (by omega) (by decide) ?_
  iterate 4 refine Wp.step rfl ?_
  refine Wp.fin rfl rfl (hQ _ _ Z.2.2 ?_)
  intro d u Q hd hQ
  obtain ⟨d, rfl⟩ : ∃ d0, d = d0 + 20 := ⟨d - 20, by omega⟩
  iterate 2 refine Wp.step rfl ?_
  refine Wp.putM rfl rfl rfl ?_
  iterate 2 refine Wp.step rfl ?_
  obtain ⟨M1, m1, m2, m3, m4, m5⟩ := x5 (mI M 0 (nI 0)) hC
  refine Wp.call rfl (Nat.zero_le _) (M_is (Or.inl ⟨rfl, rfl⟩) (by exact hM.1) (by omega) k (fun q => ⟨_, _, rfl, ?_⟩) (fun q => absurd hc q))
  refine Wp.brT rfl (by decide) ?_
  iterate 1 refine Wp.step rfl ?_
  refine Wp.call rfl (Nat.zero_le _) (m5 _ _ _ _ ⟨_, _, rfl, ?_⟩)
  iterate 4 refine Wp.step rfl ?_
  refine Wp.ldM (k := 16) rfl rfl (by first | (simp only [nI_add, pk_mul, Nat.zero_add, Nat.add_zero]; done) | (simp only [nI_add, pk_mul, Nat.zero_add, Nat.add_zero]; exact rfl) | exact rfl) (by omega) (by decide) ?_
  iterate 4 refine Wp.step rfl ?_
  refine Wp.istM (k := 16) rfl rfl rfl (by first | (simp only [nI_add, pk_mul, Nat.zero_add, Nat.add_zero]; done) | (simp only [nI_add, pk_mul, Nat.zero_add, Nat.add_zero]; exact rfl) | exact rfl) (by omega) (by decide) ?_
  iterate 3 refine Wp.step rfl ?_
  refine Wp.ldM (k := 16) rfl rfl (by first | (simp only [nI_add, pk_mul, Nat.zero_add, Nat.add_zero]; done) | (simp only [nI_add, pk_mul, Nat.zero_add, Nat.add_zero]; exact rfl) | exact rfl) (by omega) (by decide) ?_
  iterate 4 refine Wp.step rfl ?_
  have hR1 := m4.2.2.2.2.2.2.2.1
  have e : ma M1 48 16 = xa X1 26 16 := hR1.at (by omega) (by omega)
  simp only [mA_same, xA_same, pk_us, e] at hQ ⊢
  exact Wp.fin rfl rfl (hQ _ ⟨K, F, gr, rt, lm, G, lw, m4.row (hR1.coin hK (Or.inl rfl) _)⟩)
