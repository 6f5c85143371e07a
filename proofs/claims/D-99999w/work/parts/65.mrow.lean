/-! M's rows: 48 or 49 -/
theorem Wp.ldW {d u mi pc ln nx n0 a k : Nat} {cv : Value} {tb : List (Nat × Nat)} {L : pmL} {r : List Value} {X : pmXs} {M : pmMs} {Z : pmZs} {Q : pmO → Prop} {i : Int32} (ha : a = 48 ∨ a = 49) (e : pm_code mi pc = some (.iaload, ln, nx, cv, n0, tb)) (hi : i = nI k) (hk : k < 291) (kk : Wp d u mi nx L (.int (ma M a k) :: r) (hp X M Z) Q) : Wp d u mi pc L (.int i :: .ref a :: r) (hp X M Z) Q := by
  rcases ha with rfl | rfl
  · exact Wp.ldM e rfl hi hk (by decide) kk
  · exact Wp.ldM e rfl hi hk (by decide) kk
theorem Wp.istW {d u mi pc ln nx n0 a k : Nat} {cv : Value} {tb : List (Nat × Nat)} {L : pmL} {r : List Value} {X : pmXs} {M : pmMs} {Z : pmZs} {Q : pmO → Prop} {i v : Int32} (ha : a = 48 ∨ a = 49) (e : pm_code mi pc = some (.iastore, ln, nx, cv, n0, tb)) (hi : i = nI k) (hk : k < 291) (kk : Wp d u mi nx L r (hp X (mA M a (upd (ma M a) k v)) Z) Q) : Wp d u mi pc L (.int v :: .int i :: .ref a :: r) (hp X M Z) Q := by
  rcases ha with rfl | rfl
  · exact Wp.istM e rfl rfl hi hk (by decide) kk
  · exact Wp.istM e rfl rfl hi hk (by decide) kk
theorem Wp.lldM {d u mi pc ln nx n0 k : Nat} {cv : Value} {tb : List (Nat × Nat)} {L : pmL} {r : List Value} {X : pmXs} {M : pmMs} {Z : pmZs} {Q : pmO → Prop} {i : Int32} (e : pm_code mi pc = some (.laload, ln, nx, cv, n0, tb)) (hi : i = nI k) (hk : k < 8191) (kk : Wp d u mi nx L (.long (M.2.2.2.2 k) :: r) (hp X M Z) Q) : Wp d u mi pc L (.int i :: .ref 50 :: r) (hp X M Z) Q := by
  subst hi
  refine Wp.stepP (P := vp_in (nI k) 8191) (pc' := nx) (L' := L) (st' := .long (M.2.2.2.2 (nI k).toNatClampNeg) :: r) (h' := hp X M Z) ?_ (vp_in_nI hk (by decide)) (by rw [nI_clamp (by omega)]; exact kk)
  unfold pm_step
  rw [e]
  rfl
theorem Wp.lstM {d u mi pc ln nx n0 k : Nat} {cv : Value} {tb : List (Nat × Nat)} {L : pmL} {r : List Value} {X : pmXs} {M : pmMs} {Z : pmZs} {Q : pmO → Prop} {i : Int32} {v : Int64} (e : pm_code mi pc = some (.lastore, ln, nx, cv, n0, tb)) (hi : i = nI k) (hk : k < 8191) (kk : Wp d u mi nx L r (hp X (mK M (vp_updL M.2.2.2.2 k v)) Z) Q) : Wp d u mi pc L (.long v :: .int i :: .ref 50 :: r) (hp X M Z) Q := by
  subst hi
  refine Wp.stepP (P := vp_in (nI k) 8191) (pc' := nx) (L' := L) (st' := r) (h' := hp X (mK M (vp_updL M.2.2.2.2 (nI k).toNatClampNeg v)) Z) ?_ (vp_in_nI hk (by decide)) (by rw [nI_clamp (by omega)]; exact kk)
  unfold pm_step
  rw [e]
  rfl
theorem M_pagesOf_l {d u a N pg : Nat} {X : pmXs} {M : pmMs} {Z : pmZs} {Q : pmO → Prop} {now : Nat → Int32} (ha : a = 48 ∨ a = 49) (hR : RR N (ma M a) now) (hN : 110 ≤ N) (h19 : now 19 = nI pg) (hpg : pg ≤ 30) (k : Int32) (hQ : Q (.inl (some (.int (nI (cntP now k pg)))), hp X M Z)) : ∀ m i : Nat, i + m = pg → Wp d u 173 4 [some (.ref a), some (.int k), some (.int (nI (cntP now k i))), some (.int (nI i))] [] (hp X M Z) Q := by
  intro m
  induction m with
  | zero =>
    intro i hi
    obtain rfl : i = pg := by omega
    iterate 3 refine Wp.step rfl ?_
    refine Wp.ldW (k := 19) ha rfl rfl (by omega) ?_
    rw [hR.2 19 (by omega) (by omega), h19]
    refine Wp.brT rfl (nI_le (Nat.le_refl _) (by omega)) ?_
    refine Wp.step rfl ?_
    exact Wp.fin rfl rfl hQ
  | succ m ih =>
    intro i hi
    iterate 3 refine Wp.step rfl ?_
    refine Wp.ldW (k := 19) ha rfl rfl (by omega) ?_
    rw [hR.2 19 (by omega) (by omega), h19]
    refine Wp.brF rfl (nI_ge (by omega) (by omega)) ?_
    iterate 7 refine Wp.step rfl ?_
    refine Wp.ldW (k := 21 + 3 * i) ha rfl (by first | (simp only [nI_add, pk_mul, Nat.zero_add, Nat.add_zero]; done) | (simp only [nI_add, pk_mul, Nat.zero_add, Nat.add_zero]; exact rfl) | exact rfl) (by omega) ?_
    rw [hR.2 (21 + 3 * i) (by omega) (by omega)]
    refine Wp.step rfl ?_
    have k9 := ih (i + 1) (by omega)
    rw [← nI_add i 1] at k9
    by_cases h : now (21 + 3 * i) = k
    · refine Wp.brF rfl (fun q => q h) ?_
      rw [show cntP now k (i + 1) = cntP now k i + 1 from by rw [cntP, if_pos (by rw [show 20 + 3 * i + 1 = 21 + 3 * i by omega]; exact h)], ← nI_add _ 1] at k9
      iterate 6 refine Wp.step rfl ?_
      exact k9
    · refine Wp.brT rfl h ?_
      rw [show cntP now k (i + 1) = cntP now k i + 0 from by rw [cntP, if_neg (by rw [show 20 + 3 * i + 1 = 21 + 3 * i by omega]; exact h)], ← nI_add _ 0] at k9
      iterate 5 refine Wp.step rfl ?_
      exact k9
theorem M_pagesOf {d u a N pg : Nat} {X : pmXs} {M : pmMs} {Z : pmZs} {Q : pmO → Prop} {now : Nat → Int32} (ha : a = 48 ∨ a = 49) (hR : RR N (ma M a) now) (hN : 110 ≤ N) (h19 : now 19 = nI pg) (hpg : pg ≤ 30) (k : Int32) (hQ : Q (.inl (some (.int (nI (cntP now k pg)))), hp X M Z)) : Wp d u 173 0 (pm_entry 173 [.ref a, .int k]) [] (hp X M Z) Q := by
  iterate 4 refine Wp.step rfl ?_
  exact M_pagesOf_l ha hR hN h19 hpg k hQ pg 0 (by omega)
/-! M's memory of what laws are worth -/
def keyN (i m g s p w y : Nat) : Nat := 2000 * (1000 * (31 * (10 * (10 * (31 * (1 + i) + m) + g) + s) + p) + w) + y
theorem keyN_inj {i m g s p w y i' m' g' s' p' w' y' : Nat} (h : keyN i m g s p w y = keyN i' m' g' s' p' w' y') (a1 : m ≤ 30) (a2 : g ≤ 9) (a3 : s ≤ 9) (a4 : p ≤ 30) (a5 : w ≤ 999) (a6 : y < 2000) (b1 : m' ≤ 30) (b2 : g' ≤ 9) (b3 : s' ≤ 9) (b4 : p' ≤ 30) (b5 : w' ≤ 999) (b6 : y' < 2000) : i = i' ∧ m = m' ∧ g = g' ∧ s = s' ∧ p = p' ∧ w = w' ∧ y = y' := by
  unfold keyN at h
  have c6 : y = y' := by omega
  subst c6
  have h5 : 1000 * (31 * (10 * (10 * (31 * (1 + i) + m) + g) + s) + p) + w = 1000 * (31 * (10 * (10 * (31 * (1 + i') + m') + g') + s') + p') + w' := by omega
  have c5 : w = w' := by omega
  subst c5
  have h4 : 31 * (10 * (10 * (31 * (1 + i) + m) + g) + s) + p = 31 * (10 * (10 * (31 * (1 + i') + m') + g') + s') + p' := by omega
  have c4 : p = p' := by omega
  subst c4
  have h3 : 10 * (10 * (31 * (1 + i) + m) + g) + s = 10 * (10 * (31 * (1 + i') + m') + g') + s' := by omega
  have c3 : s = s' := by omega
  subst c3
  have h2 : 10 * (31 * (1 + i) + m) + g = 10 * (31 * (1 + i') + m') + g' := by omega
  have c2 : g = g' := by omega
  subst c2
  have h1 : 31 * (1 + i) + m = 31 * (1 + i') + m' := by omega
  have c1 : m = m' := by omega
  subst c1
  exact ⟨by omega, rfl, rfl, rfl, rfl, rfl, rfl⟩
def Memo (M : pmMs) (lm : Nat) (G : Nat → (Nat → Int32) → Int32) : Prop := ∀ sp, sp < 8191 → M.2.2.2.2 sp = 0 ∨ ∃ i m g s p w y, i < lm ∧ m ≤ 30 ∧ g ≤ 9 ∧ s ≤ 9 ∧ p ≤ 30 ∧ w ≤ 999 ∧ y < 2000 ∧ M.2.2.2.2 sp = lN (keyN i m g s p w y) ∧ ma M 51 sp = G i (lets (nI m) (nI g) (nI s) (nI p) (nI w) (nI y))
def MLaws (M : pmMs) (lm : Nat) (G : Nat → (Nat → Int32) → Int32) : Prop := ∀ i, i < lm → ∃ len t, ma M 38 i = nI len ∧ len ≤ 240 ∧ (∀ j, j < len → ma M 37 (240 * i + j) = t j) ∧ MlawOk t len (G i)
def MLw (M : pmMs) (lm : Nat) (G : Nat → (Nat → Int32) → Int32) (lw : pmLw) : Prop := (lw = none ∧ M.1 34 = -1) ∨ ∃ i, i < lm ∧ lw = some (G i) ∧ M.1 34 = nI i
def ME (M : pmMs) (K F : Nat) (gr : Nat → Int32) (rt lm : Nat) (G : Nat → (Nat → Int32) → Int32) (lw : pmLw) : Prop := M.1 26 = nI K ∧ M.1 27 = nI F ∧ (∀ j, j < 32 → ma M 44 j = gr j) ∧ ma M 40 0 = nI rt ∧ LZ (ma M 39) ∧ lm ≤ 4 ∧ MLw M lm G lw ∧ MLaws M lm G ∧ Memo M lm G
/-- M but for what a law's reading leaves behind -/
def Jf (M M' : pmMs) : Prop := (∀ k, jB k = false → M'.1 k = M.1 k) ∧ M'.2.1 = M.2.1 ∧ ∀ a, a ≠ 39 → a ≠ 51 → ma M' a = ma M a
theorem Jf.refl (M : pmMs) : Jf M M := ⟨fun _ _ => rfl, rfl, fun _ _ _ => rfl⟩
theorem Jf.trans {A B C : pmMs} (h1 : Jf A B) (h2 : Jf B C) : Jf A C := ⟨fun k hk => (h2.1 k hk).trans (h1.1 k hk), h2.2.1.trans h1.2.1, fun a h h' => (h2.2.2 a h h').trans (h1.2.2 a h h')⟩
theorem Jf.mA {M M' : pmMs} (h : Jf M M') (a : Nat) (f : Nat → Int32) : Jf (mA M a f) (mA M' a f) := by
  refine ⟨h.1, h.2.1, fun b h1 h2 => ?_⟩
  by_cases q : b = a
  · subst q; rw [mA_same, mA_same]
  · rw [mA_ne _ _ q, mA_ne _ _ q]; exact h.2.2 b h1 h2
theorem ME_mA {M : pmMs} {K F rt lm : Nat} {gr : Nat → Int32} {G : Nat → (Nat → Int32) → Int32} {lw : pmLw} (h : ME M K F gr rt lm G lw) {a : Nat} (ha : a = 48 ∨ a = 49) (f : Nat → Int32) : ME (mA M a f) K F gr rt lm G lw := by
  rcases ha with rfl | rfl
  · exact h
  · exact h
theorem keyN_lt {i m g s p w y : Nat} (h0 : i < 4) (a1 : m ≤ 30) (a2 : g ≤ 9) (a3 : s ≤ 9) (a4 : p ≤ 30) (a5 : w ≤ 999) (a6 : y < 2000) : keyN i m g s p w y < 2 ^ 63 ∧ 0 < keyN i m g s p w y := by
  unfold keyN
  omega
theorem lkey {a b : Nat} (c : Nat) (cl : Int64) (hc : cl = lN c) (hb : b < 2 ^ 31) : cl * lN a + (nI b).toInt64 = lN (c * a + b) := by rw [hc, nI_l hb, lN_mul, lN_add]
theorem lkey1 {i : Nat} {x : Int32} (hx : x = nI i) (hi : i < 2 ^ 31) : (1 : Int64) + x.toInt64 = lN (1 + i) := by
  rw [hx, nI_l hi, show (1 : Int64) = lN 1 by decide, lN_add]
theorem rem_val {n : Nat} (h : n < 2 ^ 63) : (lN n - lN n / 8191 * 8191).toInt32 = nI (n % 8191) := by
  have c : (8191 : Int64) = lN 8191 := by decide
  rw [c, pk_lRem h (by decide) (by decide), lN_i]
theorem M_worthOf {d u K F rt lm i m g s p w y : Nat} {X : pmXs} {M : pmMs} {Z : pmZs} {Q : pmO → Prop} {gr : Nat → Int32} {G : Nat → (Nat → Int32) → Int32} {lw : pmLw} (hd : 162 ≤ d) (hE : ME M K F gr rt lm G lw) (hi : i < lm) (h34 : M.1 34 = nI i) (a1 : m ≤ 30) (a2 : g ≤ 9) (a3 : s ≤ 9) (a4 : p ≤ 30) (a5 : w ≤ 999) (a6 : y < 2000) (hQ : ∀ M', Jf M M' → ME M' K F gr rt lm G lw → Q (.inl (some (.int (G i (lets (nI m) (nI g) (nI s) (nI p) (nI w) (nI y))))), hp X M' Z)) : Wp d u 208 0 (pm_entry 208 [.ref 35, .int (nI m), .int (nI g), .int (nI s), .int (nI p), .int (nI w), .int (nI y)]) [] (hp X M Z) Q := by
  obtain ⟨d, rfl⟩ : ∃ d0, d = d0 + 2 := ⟨d - 2, by omega⟩
  have hE' := hE
  obtain ⟨e1, e2, e3, e4, e5, e6, e7, e8, e9⟩ := hE'
  obtain ⟨hk1, hk2⟩ := keyN_lt (by omega : i < 4) a1 a2 a3 a4 a5 a6
  have hs : keyN i m g s p w y % 8191 < 8191 := Nat.mod_lt _ (by decide)
  iterate 6 refine Wp.step rfl ?_
  show Wp (d + 2) u 208 9 [some (.ref 35), some (.int (nI m)), some (.int (nI g)), some (.int (nI s)), some (.int (nI p)), some (.int (nI w)), some (.int (nI y)), some (.long ((1 : Int64) + (M.1 34).toInt64)), none, none] [] (hp X M Z) Q
  rw [lkey1 h34 (by omega)]
  iterate 7 refine Wp.step rfl ?_
  show Wp (d + 2) u 208 20 [some (.ref 35), some (.int (nI m)), some (.int (nI g)), some (.int (nI s)), some (.int (nI p)), some (.int (nI w)), some (.int (nI y)), some (.long ((31 : Int64) * lN (1 + i) + (nI m).toInt64)), none, none] [] (hp X M Z) Q
  rw [lkey 31 _ (by decide) (by omega)]
  iterate 7 refine Wp.step rfl ?_
  show Wp (d + 2) u 208 31 [some (.ref 35), some (.int (nI m)), some (.int (nI g)), some (.int (nI s)), some (.int (nI p)), some (.int (nI w)), some (.int (nI y)), some (.long ((10 : Int64) * lN (31 * (1 + i) + m) + (nI g).toInt64)), none, none] [] (hp X M Z) Q
  rw [lkey 10 _ (by decide) (by omega)]
  iterate 7 refine Wp.step rfl ?_
  show Wp (d + 2) u 208 42 [some (.ref 35), some (.int (nI m)), some (.int (nI g)), some (.int (nI s)), some (.int (nI p)), some (.int (nI w)), some (.int (nI y)), some (.long ((10 : Int64) * lN (10 * (31 * (1 + i) + m) + g) + (nI s).toInt64)), none, none] [] (hp X M Z) Q
  rw [lkey 10 _ (by decide) (by omega)]
  iterate 7 refine Wp.step rfl ?_
  show Wp (d + 2) u 208 54 [some (.ref 35), some (.int (nI m)), some (.int (nI g)), some (.int (nI s)), some (.int (nI p)), some (.int (nI w)), some (.int (nI y)), some (.long ((31 : Int64) * lN (10 * (10 * (31 * (1 + i) + m) + g) + s) + (nI p).toInt64)), none, none] [] (hp X M Z) Q
  rw [lkey 31 _ (by decide) (by omega)]
  iterate 7 refine Wp.step rfl ?_
  show Wp (d + 2) u 208 66 [some (.ref 35), some (.int (nI m)), some (.int (nI g)), some (.int (nI s)), some (.int (nI p)), some (.int (nI w)), some (.int (nI y)), some (.long ((1000 : Int64) * lN (31 * (10 * (10 * (31 * (1 + i) + m) + g) + s) + p) + (nI w).toInt64)), none, none] [] (hp X M Z) Q
  rw [lkey 1000 _ (by decide) (by omega)]
  iterate 7 refine Wp.step rfl ?_
  show Wp (d + 2) u 208 78 [some (.ref 35), some (.int (nI m)), some (.int (nI g)), some (.int (nI s)), some (.int (nI p)), some (.int (nI w)), some (.int (nI y)), some (.long ((2000 : Int64) * lN (1000 * (31 * (10 * (10 * (31 * (1 + i) + m) + g) + s) + p) + w) + (nI y).toInt64)), none, none] [] (hp X M Z) Q
  rw [lkey 2000 _ (by decide) (by omega)]
  show Wp (d + 2) u 208 78 [some (.ref 35), some (.int (nI m)), some (.int (nI g)), some (.int (nI s)), some (.int (nI p)), some (.int (nI w)), some (.int (nI y)), some (.long (lN (keyN i m g s p w y))), none, none] [] (hp X M Z) Q
  have hkd : ∀ i' m' g' s' p' w' y', i' < lm → m' ≤ 30 → g' ≤ 9 → s' ≤ 9 → p' ≤ 30 → w' ≤ 999 → y' < 2000 → lN (keyN i' m' g' s' p' w' y') = lN (keyN i m g s p w y) → i' = i ∧ m' = m ∧ g' = g ∧ s' = s ∧ p' = p ∧ w' = w ∧ y' = y := by
    intro i' m' g' s' p' w' y' b0 b1 b2 b3 b4 b5 b6 h
    have h2 := keyN_lt (by omega : i' < 4) b1 b2 b3 b4 b5 b6
    exact keyN_inj ((pk_lEQ h2.1 hk1).mp h) b1 b2 b3 b4 b5 b6 a1 a2 a3 a4 a5 a6
  have hk0 : lN (keyN i m g s p w y) ≠ 0 := by
    intro h
    have := (pk_lEQ (b := 0) hk1 (by decide)).mp h
    omega
  have hmm : ∀ {V : Int32}, V = G i (lets (nI m) (nI g) (nI s) (nI p) (nI w) (nI y)) → ∀ (M' : pmMs), Jf M M' → ME M' K F gr rt lm G lw → Q (.inl (some (.int V)), hp X M' Z) := by
    intro V hV M' h1 h2
    rw [hV]
    exact hQ M' h1 h2
  have hmem := e9
  generalize hkg : keyN i m g s p w y = key at hk1 hk2 hs hkd hk0 ⊢
  iterate 2 refine Wp.step rfl ?_
  refine Wp.stepP rfl (by decide) ?_
  iterate 2 refine Wp.step rfl ?_
  show Wp (d + 2) u 208 87 [some (.ref 35), some (.int (nI m)), some (.int (nI g)), some (.int (nI s)), some (.int (nI p)), some (.int (nI w)), some (.int (nI y)), some (.long (lN key)), none, some (.int ((lN key - lN key / 8191 * 8191).toInt32))] [] (hp X M Z) Q
  rw [rem_val hk1]
  generalize key % 8191 = sp at hs ⊢
  iterate 3 refine Wp.step rfl ?_
  refine Wp.lldM rfl rfl hs ?_
  iterate 2 refine Wp.step rfl ?_
  by_cases hc : M.2.2.2.2 sp = lN key
  · refine Wp.brF rfl (fun q => q ((lg_cmp_eq _ _).mpr hc)) ?_
    iterate 3 refine Wp.step rfl ?_
    refine Wp.ldM (k := sp) rfl rfl rfl hs (by decide) ?_
    refine Wp.fin rfl rfl (hmm ?_ M (Jf.refl M) hE)
    rcases hmem sp hs with h | ⟨i', m', g', s', p', w', y', b0, b1, b2, b3, b4, b5, b6, h1, h2⟩
    · exact absurd (hc.symm.trans h) hk0
    · obtain ⟨rfl, rfl, rfl, rfl, rfl, rfl, rfl⟩ := hkd i' m' g' s' p' w' y' b0 b1 b2 b3 b4 b5 b6 (h1.symm.trans hc)
      exact h2
  · refine Wp.brT rfl (fun q => hc ((lg_cmp_eq _ _).mp q)) ?_
    iterate 4 refine Wp.step rfl ?_
    refine Wp.istM (k := 109) rfl rfl rfl (by first | (simp only [nI_add, pk_mul, Nat.zero_add, Nat.add_zero]; done) | (simp only [nI_add, pk_mul, Nat.zero_add, Nat.add_zero]; exact rfl) | exact rfl) (by omega) (by decide) ?_
    iterate 4 refine Wp.step rfl ?_
    refine Wp.istM (k := 103) rfl rfl rfl (by first | (simp only [nI_add, pk_mul, Nat.zero_add, Nat.add_zero]; done) | (simp only [nI_add, pk_mul, Nat.zero_add, Nat.add_zero]; exact rfl) | exact rfl) (by omega) (by decide) ?_
    simp only [mA_same, mA_ne, ne_eq, Nat.reduceEqDiff, not_false_eq_true, mA_mA, ma_mI, mA_1]
    iterate 4 refine Wp.step rfl ?_
    refine Wp.istM (k := 115) rfl rfl rfl (by first | (simp only [nI_add, pk_mul, Nat.zero_add, Nat.add_zero]; done) | (simp only [nI_add, pk_mul, Nat.zero_add, Nat.add_zero]; exact rfl) | exact rfl) (by omega) (by decide) ?_
    simp only [mA_same, mA_ne, ne_eq, Nat.reduceEqDiff, not_false_eq_true, mA_mA, ma_mI, mA_1]
    iterate 4 refine Wp.step rfl ?_
    refine Wp.istM (k := 112) rfl rfl rfl (by first | (simp only [nI_add, pk_mul, Nat.zero_add, Nat.add_zero]; done) | (simp only [nI_add, pk_mul, Nat.zero_add, Nat.add_zero]; exact rfl) | exact rfl) (by omega) (by decide) ?_
    simp only [mA_same, mA_ne, ne_eq, Nat.reduceEqDiff, not_false_eq_true, mA_mA, ma_mI, mA_1]
    iterate 4 refine Wp.step rfl ?_
    refine Wp.istM (k := 119) rfl rfl rfl (by first | (simp only [nI_add, pk_mul, Nat.zero_add, Nat.add_zero]; done) | (simp only [nI_add, pk_mul, Nat.zero_add, Nat.add_zero]; exact rfl) | exact rfl) (by omega) (by decide) ?_
    simp only [mA_same, mA_ne, ne_eq, Nat.reduceEqDiff, not_false_eq_true, mA_mA, ma_mI, mA_1]
    iterate 4 refine Wp.step rfl ?_
    refine Wp.istM (k := 100) rfl rfl rfl (by first | (simp only [nI_add, pk_mul, Nat.zero_add, Nat.add_zero]; done) | (simp only [nI_add, pk_mul, Nat.zero_add, Nat.add_zero]; exact rfl) | exact rfl) (by omega) (by decide) ?_
    simp only [mA_same, mA_ne, ne_eq, Nat.reduceEqDiff, not_false_eq_true, mA_mA, ma_mI, mA_1]
    rw [lets_of e5]
    generalize hLL : lets (nI m) (nI g) (nI s) (nI p) (nI w) (nI y) = LL at hmm hmem ⊢
    have hLZ : LZ LL := by rw [← hLL]; exact LZ_lets _ _ _ _ _ _
    obtain ⟨len, t, t1, t2, t3, t4⟩ := e8 i hi
    iterate 11 refine Wp.step rfl ?_
    refine Wp.ldM (k := i) rfl rfl h34 (by omega) (by decide) ?_
    have x1 : nI 240 * (mA M 39 LL).1 34 = nI (240 * i) := by rw [show (mA M 39 LL).1 34 = nI i from h34, pk_mul]
    have x2 : ma (mA M 39 LL) 38 i = nI len := t1
    simp only [x1, x2]
    refine Wp.call (u1 := 0) rfl (Nat.zero_le _) (t4 _ _ X (mA M 39 LL) Z _ 37 (240 * i) (by omega) (Or.inr ⟨rfl, by omega⟩) t2 t3 (fun M' j1 j2 j3 => ⟨_, _, rfl, ?_⟩))
    iterate 4 refine Wp.step rfl ?_
    refine Wp.lstM rfl rfl hs ?_
    iterate 5 refine Wp.step rfl ?_
    refine Wp.istM (k := sp) rfl rfl rfl rfl hs (by decide) ?_
    iterate 2 refine Wp.step rfl ?_
    have y1 : ∀ a, ma M' a = ma (mA M 39 LL) a := fun a => congrFun (congrArg Prod.fst j1.2.2) a
    have y2 : M'.2.2.2.2 = (mA M 39 LL).2.2.2.2 := congrArg Prod.snd j1.2.2
    have y3 : ma M' 39 = LL := y1 39
    have y4 : ∀ a, a ≠ 39 → ma M' a = ma M a := fun a h => (y1 a).trans (mA_ne _ _ h)
    have y5 : M'.1 14 = G i LL := j2
    refine Wp.fin rfl rfl (hmm y5 _ ⟨fun k hk => j1.1 k hk, j1.2.1, fun a h1 h2 => ?_⟩ ⟨(j1.1 26 rfl).trans e1, (j1.1 27 rfl).trans e2, ?_, ?_, ?_, e6, ?_, ?_, ?_⟩)
    · rw [mA_ne _ _ h2]; exact y4 a h1
    · intro j hj
      show ma M' 44 j = _
      rw [y4 44 (by decide)]; exact e3 j hj
    · show ma M' 40 0 = _
      rw [y4 40 (by decide)]; exact e4
    · show LZ (ma M' 39)
      rw [y3]; exact hLZ
    · rcases e7 with ⟨h1, h2⟩ | ⟨i', h1, h2, h3⟩
      · exact Or.inl ⟨h1, (j1.1 34 rfl).trans h2⟩
      · exact Or.inr ⟨i', h1, h2, (j1.1 34 rfl).trans h3⟩
    · intro i' hi'
      obtain ⟨len, t, t1, t2, t3, t4⟩ := e8 i' hi'
      refine ⟨len, t, ?_, t2, fun j hj => ?_, t4⟩
      · show ma M' 38 i' = _
        rw [y4 38 (by decide)]; exact t1
      · show ma M' 37 _ = _
        rw [y4 37 (by decide)]; exact t3 j hj
    · intro sp' hsp'
      by_cases q : sp' = sp
      · subst q
        refine Or.inr ⟨i, m, g, s, p, w, y, hi, a1, a2, a3, a4, a5, a6, ?_, ?_⟩
        · rw [hkg]
          exact if_pos rfl
        · show upd (ma M' 51) sp' (M'.1 14) sp' = _
          rw [pk_us, y5, hLL]
      · have z1 : (mA (mK M' (vp_updL M'.2.2.2.2 sp (lN key))) 51 (upd (ma (mK M' (vp_updL M'.2.2.2.2 sp (lN key))) 51) sp ((mK M' (vp_updL M'.2.2.2.2 sp (lN key))).1 14))).2.2.2.2 sp' = M.2.2.2.2 sp' := by
          show vp_updL M'.2.2.2.2 sp (lN key) sp' = _
          unfold vp_updL
          rw [if_neg q, y2]
          rfl
        have z2 : ma (mA (mK M' (vp_updL M'.2.2.2.2 sp (lN key))) 51 (upd (ma (mK M' (vp_updL M'.2.2.2.2 sp (lN key))) 51) sp ((mK M' (vp_updL M'.2.2.2.2 sp (lN key))).1 14))) 51 sp' = ma M 51 sp' := by
          show upd (ma M' 51) sp (M'.1 14) sp' = _
          rw [pk_un q, y4 51 (by decide)]
        rw [z1, z2]
        exact e9 sp' hsp'
