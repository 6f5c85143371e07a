/-! M.forceBy; who wins -/
theorem cntP_le (w : Nat → Int32) (k : Int32) : ∀ i, cntP w k i ≤ i := by
  intro i
  induction i with
  | zero => exact Nat.le_refl _
  | succ i ih =>
    unfold cntP
    split <;> omega
theorem M_forceBy {d u K F N Y rt lm a f s kk g : Nat} {X : pmXs} {M : pmMs} {Z : pmZs} {Q : pmO → Prop} {gr now : Nat → Int32} {G : Nat → (Nat → Int32) → Int32} {lw : pmLw} {h : Bool} (hd : 166 ≤ d) (hE : ME M K F gr rt lm G lw) (hG : GE K F gr rt) (ha : a = 48 ∨ a = 49) (hR : RR N (ma M a) now) (hN : 110 ≤ N) (hI : RI K F Y now) (hY : Y < 2000) (hf : f < F) (hs : s = 0 ∧ gr (4 * f + 2) = nI g ∨ s = 1 ∧ g = 0) (hg : g ≤ 9) (hkk : kk < K) (hk : gr (4 * f + s) = nI kk) (hQ : ∀ M', Jf M M' → ME M' K F gr rt lm G lw → Q (.inl (some (.int (frc lw now kk (nI g) h))), hp X M' Z)) : Wp d u 187 0 (pm_entry 187 [.ref 35, .ref a, .int (nI f), .int (nI s), .int (bB h)]) [] (hp X M Z) Q := by
  obtain ⟨d, rfl⟩ : ∃ d0, d = d0 + 4 := ⟨d - 4, by omega⟩
  obtain ⟨g1, g2, g3, g4⟩ := hG
  have hE' := hE
  obtain ⟨e1, e2, e3, e4, e5, e6, e7, e8, e9⟩ := hE'
  obtain ⟨hi1, ⟨y, hy, hy2⟩, pg, hpg, hpg2, _⟩ := hI
  obtain ⟨⟨m, hm, hm2⟩, ⟨st, hst, hst2⟩, ⟨v, hv, hv2⟩⟩ := hi1 kk hkk
  have r0 : ma M a (4 * kk) = now kk := by have := hR.1 kk 0 (by omega) (by omega); simpa using this
  have r2 : ma M a (4 * kk + 2) = now (8 + kk) := hR.1 kk 2 (by omega) (by omega)
  have r3 : ma M a (4 * kk + 3) = now (12 + kk) := hR.1 kk 3 (by omega) (by omega)
  have r18 : ma M a 18 = now 18 := hR.2 18 (by omega) (by omega)
  have h106 : ∀ (M' : pmMs) (u' : Nat), Jf M M' → ME M' K F gr rt lm G lw → Wp (d + 4) u' 187 106 [some (.ref 35), some (.ref a), some (.int (nI f)), some (.int (nI s)), some (.int (bB h)), some (.int (nI kk)), some (.int (nI g)), some (.int (frv lw now kk (nI g)))] [] (hp X M' Z) Q := by
    intro M' u' j1 j2
    have q1 := hQ M' j1 j2
    unfold frc at q1
    have k9 : Wp (d + 4) u' 187 119 [some (.ref 35), some (.ref a), some (.int (nI f)), some (.int (nI s)), some (.int (bB h)), some (.int (nI kk)), some (.int (nI g)), some (.int (clF (frv lw now kk (nI g))))] [] (hp X M' Z) Q := by
      refine Wp.step rfl ?_
      cases h
      · refine Wp.brT rfl rfl ?_
        refine Wp.step rfl ?_
        exact Wp.fin rfl rfl q1
      · refine Wp.brF rfl (by decide) ?_
        iterate 2 refine Wp.step rfl ?_
        refine Wp.stepP rfl (by decide) ?_
        refine Wp.step rfl ?_
        exact Wp.fin rfl rfl q1
    iterate 6 refine Wp.step rfl ?_
    exact k9
  have h32 : ∀ (u' : Nat) (l7 : Option Value), Wp (d + 4) u' 187 32 [some (.ref 35), some (.ref a), some (.int (nI f)), some (.int (nI s)), some (.int (bB h)), some (.int (nI kk)), some (.int (nI g)), l7] [] (hp X M Z) Q := by
    intro u' l7
    iterate 6 refine Wp.step rfl ?_
    refine Wp.ldW (k := 4 * kk) ha rfl (by first | (simp only [nI_add, pk_mul, Nat.zero_add, Nat.add_zero]; done) | (simp only [nI_add, pk_mul, Nat.zero_add, Nat.add_zero]; exact rfl) | exact rfl) (by omega) ?_
    rw [r0]
    iterate 8 refine Wp.step rfl ?_
    refine Wp.ldW (k := 4 * kk + 3) ha rfl (by first | (simp only [nI_add, pk_mul, Nat.zero_add, Nat.add_zero]; done) | (simp only [nI_add, pk_mul, Nat.zero_add, Nat.add_zero]; exact rfl) | exact rfl) (by omega) ?_
    rw [r3]
    refine Wp.step rfl ?_
    refine Wp.stepP rfl (by decide) ?_
    iterate 5 refine Wp.step rfl ?_
    rcases e7 with ⟨rfl, h6⟩ | ⟨i, hi, rfl, h6⟩
    · refine Wp.brT rfl h6 ?_
      exact h106 M u' (Jf.refl M) hE
    · refine Wp.brF rfl (by rw [h6]; exact nI_m1 (by omega)) ?_
      iterate 7 refine Wp.step rfl ?_
      refine Wp.ldW (k := 4 * kk) ha rfl (by first | (simp only [nI_add, pk_mul, Nat.zero_add, Nat.add_zero]; done) | (simp only [nI_add, pk_mul, Nat.zero_add, Nat.add_zero]; exact rfl) | exact rfl) (by omega) ?_
      rw [r0]
      iterate 7 refine Wp.step rfl ?_
      refine Wp.ldW (k := 4 * kk + 2) ha rfl (by first | (simp only [nI_add, pk_mul, Nat.zero_add, Nat.add_zero]; done) | (simp only [nI_add, pk_mul, Nat.zero_add, Nat.add_zero]; exact rfl) | exact rfl) (by omega) ?_
      rw [r2]
      iterate 2 refine Wp.step rfl ?_
      refine Wp.call (u1 := 0) rfl (Nat.zero_le _) (M_pagesOf ha hR hN hpg2 hpg (nI kk) ⟨_, _, rfl, ?_⟩)
      iterate 6 refine Wp.step rfl ?_
      refine Wp.ldW (k := 4 * kk + 3) ha rfl (by first | (simp only [nI_add, pk_mul, Nat.zero_add, Nat.add_zero]; done) | (simp only [nI_add, pk_mul, Nat.zero_add, Nat.add_zero]; exact rfl) | exact rfl) (by omega) ?_
      rw [r3]
      iterate 2 refine Wp.step rfl ?_
      refine Wp.ldW (k := 18) ha rfl rfl (by omega) ?_
      rw [r18, hm2, hst2, hv2, hy2]
      have hcl : cntP now (nI kk) pg ≤ 30 := Nat.le_trans (cntP_le _ _ _) hpg
      refine Wp.call (u1 := 0) rfl (Nat.zero_le _) (M_worthOf (by omega) hE hi h6 hm hg hst hcl hv (by omega) (fun M' j1 j2 => ⟨_, _, rfl, ?_⟩))
      have hfv : frv (some (G i)) now kk (nI g) = G i (lets (nI m) (nI g) (nI st) (nI (cntP now (nI kk) pg)) (nI v) (nI y)) := by
        show G i (lets (now kk) (nI g) (now (8 + kk)) (nI (pgs now kk)) (now (12 + kk)) (now 18)) = _
        unfold pgs
        rw [pgN_of hpg2 hpg, hm2, hst2, hv2, hy2]
      rw [← hfv]
      refine Wp.step rfl ?_
      exact h106 M' _ j1 j2
  rcases hs with ⟨rfl, hs⟩ | ⟨rfl, rfl⟩
  · iterate 7 refine Wp.step rfl ?_
    refine Wp.ldM (k := 4 * f) rfl rfl (by first | (simp only [nI_add, pk_mul, Nat.zero_add, Nat.add_zero]; done) | (simp only [nI_add, pk_mul, Nat.zero_add, Nat.add_zero]; exact rfl) | exact rfl) (by omega) (by decide) ?_
    rw [e3 (4 * f) (by omega), show gr (4 * f) = nI kk from hk]
    iterate 2 refine Wp.step rfl ?_
    refine Wp.brF rfl (fun q => q rfl) ?_
    iterate 7 refine Wp.step rfl ?_
    refine Wp.ldM (k := 4 * f + 2) rfl rfl (by first | (simp only [nI_add, pk_mul, Nat.zero_add, Nat.add_zero]; done) | (simp only [nI_add, pk_mul, Nat.zero_add, Nat.add_zero]; exact rfl) | exact rfl) (by omega) (by decide) ?_
    rw [e3 (4 * f + 2) (by omega), hs]
    iterate 2 refine Wp.step rfl ?_
    exact h32 _ _
  · iterate 7 refine Wp.step rfl ?_
    refine Wp.ldM (k := 4 * f + 1) rfl rfl (by first | (simp only [nI_add, pk_mul, Nat.zero_add, Nat.add_zero]; done) | (simp only [nI_add, pk_mul, Nat.zero_add, Nat.add_zero]; exact rfl) | exact rfl) (by omega) (by decide) ?_
    rw [e3 (4 * f + 1) (by omega), hk]
    iterate 2 refine Wp.step rfl ?_
    refine Wp.brT rfl (by decide) ?_
    iterate 2 refine Wp.step rfl ?_
    exact h32 _ _
def sdN (x y : Int32) : Nat := if y < x then 0 else if x < y then 1 else 2
def sV (n : Nat) : Int32 := match n with
  | 0 => nI 0
  | 1 => nI 1
  | _ => -1
/-- who wins in a field: 0 the first, 1 the second, 2 nobody -/
def sdH (lw : pmLw) (now gr : Nat → Int32) (f a b : Nat) (h1 h2 : Bool) : Nat := sdN (frc lw now a (gr (4 * f + 2)) h1) (frc lw now b (nI 0) h2)
theorem sdN_V {x y : Int32} : sV (sdN x y) = if x = y then -1 else if y < x then nI 0 else nI 1 := by
  unfold sdN
  by_cases h1 : y < x
  · rw [if_pos h1, if_pos h1, if_neg (fun q => by rw [q] at h1; exact Int32.lt_irrefl h1)]
    rfl
  · rw [if_neg h1, if_neg h1]
    by_cases h2 : x < y
    · rw [if_pos h2, if_neg (fun q => by rw [q] at h2; exact Int32.lt_irrefl h2)]
      rfl
    · rw [if_neg h2, if_pos (Int32.le_antisymm (Int32.not_lt.mp h1) (Int32.not_lt.mp h2))]
      rfl
theorem M_sideBy {d u K F N Y rt lm a f ka kb : Nat} {X : pmXs} {M : pmMs} {Z : pmZs} {Q : pmO → Prop} {gr now : Nat → Int32} {G : Nat → (Nat → Int32) → Int32} {lw : pmLw} {h1 h2 : Bool} (hd : 167 ≤ d) (hE : ME M K F gr rt lm G lw) (hG : GE K F gr rt) (ha : a = 48 ∨ a = 49) (hR : RR N (ma M a) now) (hN : 110 ≤ N) (hI : RI K F Y now) (hY : Y < 2000) (hf : f < F) (hka : gr (4 * f) = nI ka) (hka2 : ka < K) (hkb : gr (4 * f + 1) = nI kb) (hkb2 : kb < K) (hQ : ∀ M', Jf M M' → ME M' K F gr rt lm G lw → Q (.inl (some (.int (sV (sdH lw now gr f ka kb h1 h2)))), hp X M' Z)) : Wp d u 209 0 (pm_entry 209 [.ref 35, .ref a, .int (nI f), .int (bB h1), .int (bB h2)]) [] (hp X M Z) Q := by
  obtain ⟨d, rfl⟩ : ∃ d0, d = d0 + 1 := ⟨d - 1, by omega⟩
  obtain ⟨_, _, g, _, _, _, _, hg, _, _, _, hg2, _⟩ := hG.2.2.2 f hf
  iterate 5 refine Wp.step rfl ?_
  refine Wp.call (u1 := 0) rfl (Nat.zero_le _) (M_forceBy (s := 0) (g := g) (by omega) hE hG ha hR hN hI hY hf (Or.inl ⟨rfl, hg2⟩) hg hka2 hka (fun M1 j1 E1 => ⟨_, _, rfl, ?_⟩))
  rw [← hg2]
  iterate 6 refine Wp.step rfl ?_
  refine Wp.call (u1 := 0) rfl (Nat.zero_le _) (M_forceBy (s := 1) (g := 0) (by omega) E1 hG ha (by rw [j1.2.2 a (by omega) (by omega)]; exact hR) hN hI hY hf (Or.inr ⟨rfl, rfl⟩) (by omega) hkb2 hkb (fun M2 j2 E2 => ⟨_, _, rfl, ?_⟩))
  have q1 := hQ M2 (j1.trans j2) E2
  unfold sdH at q1
  rw [sdN_V] at q1
  iterate 3 refine Wp.step rfl ?_
  by_cases c1 : frc lw now ka (gr (4 * f + 2)) h1 = frc lw now kb (nI 0) h2
  · rw [if_pos c1] at q1
    refine Wp.brF rfl (fun q => q c1) ?_
    iterate 2 refine Wp.step rfl ?_
    exact Wp.fin rfl rfl q1
  · rw [if_neg c1] at q1
    refine Wp.brT rfl c1 ?_
    iterate 2 refine Wp.step rfl ?_
    by_cases c2 : frc lw now kb (nI 0) h2 < frc lw now ka (gr (4 * f + 2)) h1
    · rw [if_pos c2] at q1
      refine Wp.brF rfl (Int32.not_le.mpr c2) ?_
      iterate 2 refine Wp.step rfl ?_
      exact Wp.fin rfl rfl q1
    · rw [if_neg c2] at q1
      refine Wp.brT rfl (Int32.not_lt.mp c2) ?_
      refine Wp.step rfl ?_
      exact Wp.fin rfl rfl q1
/-- by the row's own word on who holds back -/
def sdP (lw : pmLw) (now gr : Nat → Int32) (f a b : Nat) : Nat := sdH lw now gr f a b (hb (now 16) (nI a)) (hb (now 16) (nI b))
theorem M_hasB {d u : Nat} {h : pmH} {Q : pmO → Prop} (G k : Int32) (hQ : Q (.inl (some (.int (bB (hb G k)))), h)) : Wp d u 186 0 (pm_entry 186 [.int G, .int k]) [] h Q :=
  M_has G k (fun q => by rw [hb_t q] at hQ; exact hQ) (fun q => by rw [hb_f q] at hQ; exact hQ)
theorem X_hasB {d u : Nat} {h : pmH} {Q : pmO → Prop} (G k : Int32) (hQ : Q (.inl (some (.int (bB (hb G k)))), h)) : Wp d u 97 0 (pm_entry 97 [.int G, .int k]) [] h Q :=
  X_has G k (fun q => by rw [hb_t q] at hQ; exact hQ) (fun q => by rw [hb_f q] at hQ; exact hQ)
theorem M_sideNow {d u K F N Y rt lm a f ka kb : Nat} {X : pmXs} {M : pmMs} {Z : pmZs} {Q : pmO → Prop} {gr now : Nat → Int32} {G : Nat → (Nat → Int32) → Int32} {lw : pmLw} (hd : 168 ≤ d) (hE : ME M K F gr rt lm G lw) (hG : GE K F gr rt) (ha : a = 48 ∨ a = 49) (hR : RR N (ma M a) now) (hN : 110 ≤ N) (hI : RI K F Y now) (hY : Y < 2000) (hf : f < F) (hka : gr (4 * f) = nI ka) (hka2 : ka < K) (hkb : gr (4 * f + 1) = nI kb) (hkb2 : kb < K) (hQ : ∀ M', Jf M M' → ME M' K F gr rt lm G lw → Q (.inl (some (.int (sV (sdP lw now gr f ka kb)))), hp X M' Z)) : Wp d u 188 0 (pm_entry 188 [.ref 35, .ref a, .int (nI f)]) [] (hp X M Z) Q := by
  obtain ⟨d, rfl⟩ : ∃ d0, d = d0 + 1 := ⟨d - 1, by omega⟩
  have e3 := hE.2.2.1
  have r16 : ma M a 16 = now 16 := hR.2 16 (by omega) (by omega)
  have hF := hG.2.1
  iterate 5 refine Wp.step rfl ?_
  refine Wp.ldW (k := 16) ha rfl rfl (by omega) ?_
  rw [r16]
  iterate 5 refine Wp.step rfl ?_
  refine Wp.ldM (k := 4 * f) rfl rfl (by first | (simp only [nI_add, pk_mul, Nat.zero_add, Nat.add_zero]; done) | (simp only [nI_add, pk_mul, Nat.zero_add, Nat.add_zero]; exact rfl) | exact rfl) (by omega) (by decide) ?_
  rw [e3 (4 * f) (by omega), hka]
  refine Wp.call rfl (Nat.zero_le _) (M_hasB _ _ ⟨_, _, rfl, ?_⟩)
  iterate 2 refine Wp.step rfl ?_
  refine Wp.ldW (k := 16) ha rfl rfl (by omega) ?_
  rw [r16]
  iterate 7 refine Wp.step rfl ?_
  refine Wp.ldM (k := 4 * f + 1) rfl rfl (by first | (simp only [nI_add, pk_mul, Nat.zero_add, Nat.add_zero]; done) | (simp only [nI_add, pk_mul, Nat.zero_add, Nat.add_zero]; exact rfl) | exact rfl) (by omega) (by decide) ?_
  rw [e3 (4 * f + 1) (by omega), hkb]
  refine Wp.call rfl (Nat.zero_le _) (M_hasB _ _ ⟨_, _, rfl, ?_⟩)
  refine Wp.call (u1 := 0) rfl (Nat.zero_le _) (M_sideBy (by omega) hE hG ha hR hN hI hY hf hka hka2 hkb hkb2 (fun M1 j1 E1 => ⟨_, _, rfl, ?_⟩))
  exact Wp.fin rfl rfl (hQ M1 j1 E1)
/-- X.winnerOf -/
def wV (n a b : Nat) : Int32 := match n with
  | 0 => nI a
  | 1 => nI b
  | _ => -1
theorem X_winnerOf {d u K F Y rt f ka kb : Nat} {X : pmXs} {M : pmMs} {Z : pmZs} {Q : pmO → Prop} {gr : Nat → Int32} {lw : pmLw} (hd : 151 ≤ d) (hE : XE X Z K F gr rt lw) (hG : GE K F gr rt) (hI : RI K F Y (xa X 26)) (hf : f < F) (hka : gr (4 * f) = nI ka) (hka2 : ka < K) (hkb : gr (4 * f + 1) = nI kb) (hkb2 : kb < K) (hab : ka ≠ kb) (hQ : ∀ l, LZ l → Q (.inl (some (.int (wV (sdP lw (xa X 26) gr f ka kb) ka kb))), hp (xA X 17 l) M Z)) : Wp d u 70 0 (pm_entry 70 [.ref 14, .int (nI f)]) [] (hp X M Z) Q := by
  obtain ⟨d, rfl⟩ : ∃ d0, d = d0 + 1 := ⟨d - 1, by omega⟩
  have hF := hG.2.1
  have hK := hG.1
  have e3 := hE.2.2.1
  iterate 4 refine Wp.step rfl ?_
  refine Wp.call (u1 := 0) rfl (Nat.zero_le _) (X_of X M Z (F := f) (K := 0) (by omega) ⟨_, _, rfl, ?_⟩)
  rw [show xa X 22 (4 * f + 0) = nI ka from (e3 (4 * f) (by omega)).trans hka]
  refine Wp.step rfl ?_
  refine Wp.call (u1 := 0) rfl (Nat.zero_le _) (X_forceOf (by omega) hE hG hI hka2 hf (fun l1 z1 => ⟨_, _, rfl, ?_⟩))
  rw [if_pos hka]
  have E1 := hE.let z1
  iterate 5 refine Wp.step rfl ?_
  refine Wp.call (u1 := 0) rfl (Nat.zero_le _) (X_of (xA X 17 l1) M Z (F := f) (K := 1) (by omega) ⟨_, _, rfl, ?_⟩)
  rw [show xa (xA X 17 l1) 22 (4 * f + 1) = nI kb from (e3 (4 * f + 1) (by omega)).trans hkb]
  refine Wp.step rfl ?_
  refine Wp.call (u1 := 0) rfl (Nat.zero_le _) (X_forceOf (by omega) E1 hG hI hkb2 hf (fun l2 z2 => ⟨_, _, rfl, ?_⟩))
  rw [if_neg (fun q => hab ((nI_eq (by omega) (by omega)).mp (hka.symm.trans q))), xA_xA]
  have q1 := hQ l2 z2
  unfold sdP sdH sdN at q1
  iterate 3 refine Wp.step rfl ?_
  by_cases c1 : frc lw (xa X 26) kb (nI 0) (hb (xa X 26 16) (nI kb)) < frc lw (xa X 26) ka (gr (4 * f + 2)) (hb (xa X 26 16) (nI ka))
  · rw [if_pos c1] at q1
    refine Wp.brF rfl (Int32.not_le.mpr c1) ?_
    iterate 3 refine Wp.step rfl ?_
    refine Wp.call (u1 := 0) rfl (Nat.zero_le _) (X_of (xA X 17 l2) M Z (F := f) (K := 0) (by omega) ⟨_, _, rfl, ?_⟩)
    rw [show xa (xA X 17 l2) 22 (4 * f + 0) = nI ka from (e3 (4 * f) (by omega)).trans hka]
    refine Wp.step rfl ?_
    exact Wp.fin rfl rfl q1
  · rw [if_neg c1] at q1
    refine Wp.brT rfl (Int32.not_lt.mp c1) ?_
    iterate 2 refine Wp.step rfl ?_
    by_cases c2 : frc lw (xa X 26) ka (gr (4 * f + 2)) (hb (xa X 26 16) (nI ka)) < frc lw (xa X 26) kb (nI 0) (hb (xa X 26 16) (nI kb))
    · rw [if_pos c2] at q1
      refine Wp.brF rfl (Int32.not_le.mpr c2) ?_
      iterate 3 refine Wp.step rfl ?_
      refine Wp.call (u1 := 0) rfl (Nat.zero_le _) (X_of (xA X 17 l2) M Z (F := f) (K := 1) (by omega) ⟨_, _, rfl, ?_⟩)
      rw [show xa (xA X 17 l2) 22 (4 * f + 1) = nI kb from (e3 (4 * f + 1) (by omega)).trans hkb]
      refine Wp.step rfl ?_
      exact Wp.fin rfl rfl q1
    · rw [if_neg c2] at q1
      refine Wp.brT rfl (Int32.not_lt.mp c2) ?_
      refine Wp.step rfl ?_
      exact Wp.fin rfl rfl q1
/-- X.beatenOf -/
theorem X_beatenOf {d u K F Y rt f ka kb : Nat} {X : pmXs} {M : pmMs} {Z : pmZs} {Q : pmO → Prop} {gr : Nat → Int32} {lw : pmLw} (hd : 152 ≤ d) (hE : XE X Z K F gr rt lw) (hG : GE K F gr rt) (hI : RI K F Y (xa X 26)) (hf : f < F) (hka : gr (4 * f) = nI ka) (hka2 : ka < K) (hkb : gr (4 * f + 1) = nI kb) (hkb2 : kb < K) (hab : ka ≠ kb) (hQ : ∀ l, LZ l → Q (.inl (some (.int (wV (sdP lw (xa X 26) gr f ka kb) kb ka))), hp (xA X 17 l) M Z)) : Wp d u 98 0 (pm_entry 98 [.ref 14, .int (nI f)]) [] (hp X M Z) Q := by
  obtain ⟨d, rfl⟩ : ∃ d0, d = d0 + 1 := ⟨d - 1, by omega⟩
  have hF := hG.2.1
  have hK := hG.1
  have e3 := hE.2.2.1
  iterate 2 refine Wp.step rfl ?_
  refine Wp.call (u1 := 0) rfl (Nat.zero_le _) (X_winnerOf (by omega) hE hG hI hf hka hka2 hkb hkb2 hab (fun l z => ⟨_, _, rfl, ?_⟩))
  have q1 := hQ l z
  have k15 : ∀ (c w : Nat) (u' : Nat), c < K → w < K → nI ka + nI kb - nI c = nI w → Q (.inl (some (.int (nI w))), hp (xA X 17 l) M Z) → Wp (d + 1) u' 98 15 [some (.ref 14), some (.int (nI f)), some (.int (nI c))] [] (hp (xA X 17 l) M Z) Q := by
    intro c w u' hc hw he q
    iterate 3 refine Wp.step rfl ?_
    refine Wp.call (u1 := 0) rfl (Nat.zero_le _) (X_of (xA X 17 l) M Z (F := f) (K := 0) (by omega) ⟨_, _, rfl, ?_⟩)
    rw [show xa (xA X 17 l) 22 (4 * f + 0) = nI ka from (e3 (4 * f) (by omega)).trans hka]
    iterate 3 refine Wp.step rfl ?_
    refine Wp.call (u1 := 0) rfl (Nat.zero_le _) (X_of (xA X 17 l) M Z (F := f) (K := 1) (by omega) ⟨_, _, rfl, ?_⟩)
    rw [show xa (xA X 17 l) 22 (4 * f + 1) = nI kb from (e3 (4 * f + 1) (by omega)).trans hkb]
    iterate 3 refine Wp.step rfl ?_
    rw [← he] at q
    exact Wp.fin rfl rfl q
  generalize sdP lw (xa X 26) gr f ka kb = n at q1 ⊢
  match n with
  | 0 =>
    iterate 3 refine Wp.step rfl ?_
    refine Wp.brT rfl (nI_m1 (by omega)) ?_
    exact k15 ka kb _ hka2 hkb2 (by rw [nI_add, pk_sub (by omega)]; congr 1; omega) q1
  | 1 =>
    iterate 3 refine Wp.step rfl ?_
    refine Wp.brT rfl (nI_m1 (by omega)) ?_
    exact k15 kb ka _ hkb2 hka2 (by rw [nI_add, pk_sub (by omega)]; congr 1; omega) q1
  | _ + 2 =>
    iterate 3 refine Wp.step rfl ?_
    refine Wp.brF rfl (fun q => q rfl) ?_
    iterate 2 refine Wp.step rfl ?_
    exact Wp.fin rfl rfl q1
