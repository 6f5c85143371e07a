/-! PAGES -/
def dropP (now : Nat → Int32) (i pg : Nat) : Nat → Int32 := upd (upd (upd (upd (va_cpy now now (23 + 3 * i) (20 + 3 * i) (87 - 3 * i)) 109 (nI 0)) 108 (nI 0)) 107 (nI 0)) 19 (nI (pg - 1))
theorem dropP_19 {now : Nat → Int32} {i pg : Nat} : dropP now i pg 19 = nI (pg - 1) := by unfold dropP; rw [pk_us]
theorem dropP_lo {now : Nat → Int32} {i pg j : Nat} (h : j < 20 + 3 * i) (h2 : j ≠ 19) (h3 : j < 107) : dropP now i pg j = now j := by
  unfold dropP
  rw [pk_un h2, pk_un (by omega), pk_un (by omega), pk_un (by omega)]
  unfold va_cpy
  rw [if_neg (by omega)]
theorem dropP_mid {now : Nat → Int32} {i pg j : Nat} (h : 20 + 3 * i ≤ j) (h3 : j < 107) : dropP now i pg j = now (j + 3) := by
  unfold dropP
  rw [pk_un (by omega), pk_un (by omega), pk_un (by omega), pk_un (by omega)]
  unfold va_cpy
  rw [if_pos (by omega)]
  congr 1
  omega
theorem dropP_0 {now : Nat → Int32} {i pg j : Nat} (h : 107 ≤ j) (h3 : j < 110) : dropP now i pg j = nI 0 := by
  unfold dropP
  rw [pk_un (by omega)]
  by_cases a : j = 107
  · subst a; rw [pk_us]
  rw [pk_un a]
  by_cases b : j = 108
  · subst b; rw [pk_us]
  rw [pk_un b]
  obtain rfl : j = 109 := by omega
  rw [pk_us]
theorem dropP_hi {now : Nat → Int32} {i pg j : Nat} (h : 110 ≤ j) (hi : i < 30) : dropP now i pg j = now j := by
  unfold dropP
  rw [pk_un (by omega), pk_un (by omega), pk_un (by omega), pk_un (by omega)]
  unfold va_cpy
  rw [if_neg (by omega)]
theorem X_dropPage {d u i pg : Nat} {X : pmXs} {M : pmMs} {Z : pmZs} {Q : pmO → Prop} (h19 : xa X 26 19 = nI pg) (hpg : pg ≤ 30) (hi : i < pg) (hQ : Q (.inl none, hp (xA X 26 (dropP (xa X 26) i pg)) M Z)) : Wp d u 60 0 (pm_entry 60 [.ref 14, .int (nI i)]) [] (hp X M Z) Q := by
  have k0 := cpy_S (g := xa X 26) (sp := 23 + 3 * i) (dp := 20 + 3 * i) (by omega) (87 - 3 * i) (fun j q => Wp d u 60 6 [some (.ref 14), some (.int (nI i)), some (.int (nI (3 * i + 3 + j)))] [] (hp (xA X 26 q) M Z) Q) ?_ ?_
  · rw [xA_self] at k0
    iterate 6 refine Wp.step rfl ?_
    simp only [pk_mul, nI_add]
    exact k0
  · iterate 2 refine Wp.step rfl ?_
    refine Wp.brT rfl (nI_le (by omega) (by omega)) ?_
    iterate 4 refine Wp.step rfl ?_
    refine Wp.brF rfl (by decide) ?_
    iterate 6 refine Wp.step rfl ?_
    refine Wp.istX (k := 109) rfl rfl rfl rfl (by decide) (by decide) ?_
    rw [xA_xA, xA_same]
    iterate 4 refine Wp.step rfl ?_
    refine Wp.brF rfl (by decide) ?_
    iterate 6 refine Wp.step rfl ?_
    refine Wp.istX (k := 108) rfl rfl rfl rfl (by decide) (by decide) ?_
    rw [xA_xA, xA_same]
    iterate 4 refine Wp.step rfl ?_
    refine Wp.brF rfl (by decide) ?_
    iterate 6 refine Wp.step rfl ?_
    refine Wp.istX (k := 107) rfl rfl rfl rfl (by decide) (by decide) ?_
    rw [xA_xA, xA_same]
    iterate 4 refine Wp.step rfl ?_
    refine Wp.brT rfl (by decide) ?_
    iterate 4 refine Wp.step rfl ?_
    refine Wp.ldX (k := 19) rfl rfl rfl (by decide) (by decide) ?_
    rw [xA_same, pk_un (by decide), pk_un (by decide), pk_un (by decide), show va_cpy (xa X 26) (xa X 26) (23 + 3 * i) (20 + 3 * i) (87 - 3 * i) 19 = nI pg by unfold va_cpy; rw [if_neg (by omega)]; exact h19]
    iterate 2 refine Wp.step rfl ?_
    refine Wp.istX (k := 19) (v := nI pg - nI 1) rfl rfl rfl rfl (by decide) (by decide) ?_
    rw [xA_xA, xA_same, pk_sub (by omega)]
    exact Wp.fin rfl trivial hQ
  · intro j q hj hq k9
    rw [show 3 * i + 3 + (j + 1) = 3 * i + 3 + j + 1 by omega, ← nI_add (3 * i + 3 + j) 1] at k9
    iterate 2 refine Wp.step rfl ?_
    refine Wp.brF rfl (nI_ge (by omega) (by omega)) ?_
    iterate 12 refine Wp.step rfl ?_
    refine Wp.ldX (k := 23 + 3 * i + j) rfl rfl (by simp only [nI_add]; congr 1; omega) (by omega) (by decide) ?_
    rw [xA_same, hq]
    refine Wp.istX (k := 20 + 3 * i + j) rfl rfl rfl (by simp only [nI_add]; rw [pk_sub (by omega)]; congr 1; omega) (by omega) (by decide) ?_
    rw [xA_xA, xA_same]
    iterate 2 refine Wp.step rfl ?_
    exact k9
def wrP (now : Nat → Int32) (pg f k : Nat) (tl : Int32) : Nat → Int32 := if pg = 30 then upd (upd (upd (upd (dropP now 0 30) 107 (nI f)) 108 (nI k)) 109 tl) 19 (nI 30) else upd (upd (upd (upd now (20 + 3 * pg) (nI f)) (20 + 3 * pg + 1) (nI k)) (20 + 3 * pg + 2) tl) 19 (nI (pg + 1))
theorem X_writePage {d u pg f k : Nat} {X : pmXs} {M : pmMs} {Z : pmZs} {Q : pmO → Prop} (h19 : xa X 26 19 = nI pg) (hpg : pg ≤ 30) (hk : k < 4) (hf : f < 8) (hQ : Q (.inl none, hp (xA X 26 (wrP (xa X 26) pg f k (xa X 22 (4 * f + 3) + xa X 26 (4 + k)))) M Z)) : Wp (d + 1) u 99 0 (pm_entry 99 [.ref 14, .int (nI f), .int (nI k)]) [] (hp X M Z) Q := by
  iterate 3 refine Wp.step rfl ?_
  refine Wp.ldX (k := 19) rfl rfl rfl (by decide) (by decide) ?_
  refine Wp.step rfl ?_
  unfold wrP at hQ
  have tail : ∀ (g : Nat → Int32) (p u' : Nat), g 19 = nI p → p < 30 → g (4 + k) = xa X 26 (4 + k) → Q (.inl none, hp (xA X 26 (upd (upd (upd (upd g (20 + 3 * p) (nI f)) (20 + 3 * p + 1) (nI k)) (20 + 3 * p + 2) (xa X 22 (4 * f + 3) + xa X 26 (4 + k))) 19 (nI (p + 1)))) M Z) → Wp (d + 1) u' 99 17 [some (.ref 14), some (.int (nI f)), some (.int (nI k)), none] [] (hp (xA X 26 g) M Z) Q := by
    intro g p u' hg hp' hb q
    iterate 5 refine Wp.step rfl ?_
    refine Wp.ldX (k := 19) rfl rfl rfl (by decide) (by decide) ?_
    rw [xA_same, hg]
    iterate 3 refine Wp.step rfl ?_
    have e1 : nI 20 + nI 3 * nI p = nI (20 + 3 * p) := by rw [pk_mul, nI_add]
    simp only [e1]
    iterate 4 refine Wp.step rfl ?_
    refine Wp.istX (k := 20 + 3 * p) rfl rfl rfl rfl (by omega) (by decide) ?_
    rw [xA_xA, xA_same]
    iterate 6 refine Wp.step rfl ?_
    refine Wp.istX (k := 20 + 3 * p + 1) rfl rfl rfl (nI_add _ 1) (by omega) (by decide) ?_
    rw [xA_xA, xA_same]
    iterate 8 refine Wp.step rfl ?_
    refine Wp.call (u1 := 0) rfl (Nat.zero_le _) (X_of _ M Z (F := f) (K := 3) (by omega) ⟨_, _, rfl, ?_⟩)
    iterate 5 refine Wp.step rfl ?_
    refine Wp.ldX (k := 4 + k) rfl rfl (nI_add 4 k) (by omega) (by decide) ?_
    rw [xA_same, pk_un (by omega), pk_un (by omega), hb]
    refine Wp.step rfl ?_
    refine Wp.istX (k := 20 + 3 * p + 2) rfl rfl rfl (nI_add _ 2) (by omega) (by decide) ?_
    rw [xA_xA, xA_same]
    iterate 4 refine Wp.step rfl ?_
    refine Wp.ldX (k := 19) rfl rfl rfl (by decide) (by decide) ?_
    rw [xA_same, pk_un (by omega), pk_un (by omega), pk_un (by omega), hg]
    iterate 2 refine Wp.step rfl ?_
    refine Wp.istX (k := 19) (v := nI p + nI 1) rfl rfl rfl rfl (by decide) (by decide) ?_
    rw [xA_xA, xA_same, nI_add]
    exact Wp.fin rfl trivial q
  rw [h19]
  by_cases h : pg = 30
  · subst h
    rw [if_pos rfl] at hQ
    refine Wp.brF rfl (fun q => q rfl) ?_
    iterate 2 refine Wp.step rfl ?_
    refine Wp.call (u1 := 0) rfl (Nat.zero_le _) (X_dropPage h19 (by omega) (by omega) ⟨_, _, rfl, ?_⟩)
    exact tail (dropP (xa X 26) 0 30) 29 _ dropP_19 (by omega) (dropP_lo (by omega) (by omega) (by omega)) hQ
  · rw [if_neg h] at hQ
    refine Wp.brT rfl (fun q => h ((nI_eq (by omega) (by decide)).mp q)) ?_
    have := tail (xa X 26) pg u h19 (by omega) rfl hQ
    rw [xA_self] at this
    exact this
/-! M's pages -/
theorem cpy_S2 {g : Nat → Int32} {sp dp : Nat} (N : Nat) (W : Nat → (Nat → Int32) → Prop) (hx : W N (va_cpy g g sp dp N)) (hs : ∀ i, i < N → W (i + 1) (upd (va_cpy g g sp dp i) (dp + i) (g (sp + i))) → W i (va_cpy g g sp dp i)) : W 0 g := by
  have key : ∀ m i, i + m = N → W i (va_cpy g g sp dp i) := by
    intro m
    induction m with
    | zero => intro i hi; obtain rfl : i = N := by omega
              exact hx
    | succ m ih =>
      intro i hi
      refine hs i (by omega) ?_
      rw [cpy_step]
      exact ih (i + 1) (by omega)
  have := key N 0 (by omega)
  rwa [cpy_0] at this
theorem cpy_lo {f g : Nat → Int32} {sp dp n j : Nat} (h : j < dp) : va_cpy f g sp dp n j = g j := by unfold va_cpy; rw [if_neg (by omega)]
theorem cpy_up {f g : Nat → Int32} {sp dp n j : Nat} (h : dp + n ≤ j) : va_cpy f g sp dp n j = g j := by unfold va_cpy; rw [if_neg (by omega)]
theorem M_burns {d u a N i pg F : Nat} {X : pmXs} {M : pmMs} {Z : pmZs} {Q : pmO → Prop} {now : Nat → Int32} (ha : a = 48 ∨ a = 49) (hR : RR N (ma M a) now) (hN : 110 ≤ N) (h19 : now 19 = nI pg) (hpg : pg ≤ 30) (hz : ∀ j, 20 + 3 * pg ≤ j → j < 110 → now j = nI 0) (hi : i < pg) (hQ : ∀ w, RR N w (dropP now i pg) → (∀ j, 110 ≤ j → w j = ma M a j) → Q (.inl none, hp X (mA M a w) Z)) : Wp d u 180 0 (pm_entry 180 [.ref a, .int (nI i)]) [] (hp X M Z) Q := by
  have r19 : ma M a 19 = nI pg := (hR.2 19 (by omega) (by omega)).trans h19
  iterate 3 refine Wp.step rfl ?_
  refine Wp.ldW (k := 19) ha rfl rfl (by omega) ?_
  rw [r19]
  iterate 2 refine Wp.step rfl ?_
  refine Wp.istW (k := 19) (v := nI pg - nI 1) ha rfl rfl (by omega) ?_
  rw [pk_sub (by omega)]
  iterate 6 refine Wp.step rfl ?_
  have e1 : nI 20 + nI 3 * nI i = nI (20 + 3 * i) := by rw [pk_mul, nI_add]
  simp only [e1]
  have k0 := cpy_S2 (g := upd (ma M a) 19 (nI (pg - 1))) (sp := 23 + 3 * i) (dp := 20 + 3 * i) (3 * (pg - 1) - 3 * i) (fun j q => Wp d u 180 15 [some (.ref a), some (.int (nI i)), some (.int (nI (20 + 3 * i + j)))] [] (hp X (mA M a q) Z) Q) ?_ ?_
  · exact k0
  · iterate 5 refine Wp.step rfl ?_
    refine Wp.ldW (k := 19) ha rfl rfl (by omega) ?_
    rw [mA_same, show va_cpy (upd (ma M a) 19 (nI (pg - 1))) (upd (ma M a) 19 (nI (pg - 1))) (23 + 3 * i) (20 + 3 * i) (3 * (pg - 1) - 3 * i) 19 = nI (pg - 1) by unfold va_cpy; rw [if_neg (by omega), pk_us]]
    iterate 2 refine Wp.step rfl ?_
    refine Wp.brT rfl (by simp only [pk_mul, nI_add]; exact nI_le (by omega) (by omega)) ?_
    generalize hW : va_cpy (upd (ma M a) 19 (nI (pg - 1))) (upd (ma M a) 19 (nI (pg - 1))) (23 + 3 * i) (20 + 3 * i) (3 * (pg - 1) - 3 * i) = W
    have w19 : W 19 = nI (pg - 1) := by rw [← hW]; unfold va_cpy; rw [if_neg (by omega), pk_us]
    iterate 4 refine Wp.step rfl ?_
    refine Wp.brF rfl (by decide) ?_
    iterate 5 refine Wp.step rfl ?_
    refine Wp.ldW (k := 19) ha rfl rfl (by omega) ?_
    rw [mA_same, w19]
    iterate 5 refine Wp.step rfl ?_
    refine Wp.istW (k := 20 + 3 * (pg - 1)) ha rfl (by simp only [pk_mul, nI_add]; congr 1; omega) (by omega) ?_
    rw [mA_mA, mA_same]
    iterate 4 refine Wp.step rfl ?_
    refine Wp.brF rfl (by decide) ?_
    iterate 5 refine Wp.step rfl ?_
    refine Wp.ldW (k := 19) ha rfl rfl (by omega) ?_
    rw [mA_same, pk_un (by omega), w19]
    iterate 5 refine Wp.step rfl ?_
    refine Wp.istW (k := 21 + 3 * (pg - 1)) ha rfl (by simp only [pk_mul, nI_add]; congr 1; omega) (by omega) ?_
    rw [mA_mA, mA_same]
    iterate 4 refine Wp.step rfl ?_
    refine Wp.brF rfl (by decide) ?_
    iterate 5 refine Wp.step rfl ?_
    refine Wp.ldW (k := 19) ha rfl rfl (by omega) ?_
    rw [mA_same, pk_un (by omega), pk_un (by omega), w19]
    iterate 5 refine Wp.step rfl ?_
    refine Wp.istW (k := 22 + 3 * (pg - 1)) ha rfl (by simp only [pk_mul, nI_add]; congr 1; omega) (by omega) ?_
    rw [mA_mA, mA_same]
    iterate 4 refine Wp.step rfl ?_
    refine Wp.brT rfl (by decide) ?_
    have wlo : ∀ j, j < 20 + 3 * i → j ≠ 19 → W j = ma M a j := fun j h1 h2 => by rw [← hW]; unfold va_cpy; rw [if_neg (by omega), pk_un h2]
    have wmid : ∀ j, 20 + 3 * i ≤ j → j < 20 + 3 * (pg - 1) → W j = ma M a (j + 3) := fun j h1 h2 => by
      rw [← hW]; unfold va_cpy; rw [if_pos (by omega), pk_un (by omega)]; congr 1; omega
    have whi : ∀ j, 20 + 3 * (pg - 1) ≤ j → W j = ma M a j := fun j h1 => by rw [← hW]; unfold va_cpy; rw [if_neg (by omega), pk_un (by omega)]
    refine Wp.fin rfl trivial (hQ _ ⟨fun k' i' hk' hi' => ?_, fun j h1 h2 => ?_⟩ (fun j h1 => ?_))
    · rw [pk_un (by omega), pk_un (by omega), pk_un (by omega), wlo _ (by omega) (by omega), dropP_lo (by omega) (by omega) (by omega)]
      exact hR.1 k' i' hk' hi'
    · by_cases c1 : 20 + 3 * (pg - 1) ≤ j ∧ j < 20 + 3 * (pg - 1) + 3
      · have hv : dropP now i pg j = nI 0 := by
          by_cases c2 : j < 107
          · rw [dropP_mid (by omega) c2, hz _ (by omega) (by omega)]
          · exact dropP_0 (by omega) (by omega)
        rw [hv]
        by_cases c3 : j = 22 + 3 * (pg - 1)
        · rw [c3, pk_us]
        rw [pk_un c3]
        by_cases c4 : j = 21 + 3 * (pg - 1)
        · rw [c4, pk_us]
        rw [pk_un c4]
        obtain rfl : j = 20 + 3 * (pg - 1) := by omega
        rw [pk_us]
      rw [pk_un (by omega), pk_un (by omega), pk_un (by omega)]
      by_cases c2 : j = 19
      · subst c2; rw [w19, dropP_19]
      by_cases c3 : j < 20 + 3 * i
      · rw [wlo j c3 c2, dropP_lo c3 c2 (by omega)]; exact hR.2 j h1 h2
      by_cases c4 : j < 20 + 3 * (pg - 1)
      · rw [wmid j (by omega) c4, dropP_mid (by omega) (by omega)]; exact hR.2 (j + 3) (by omega) (by omega)
      rw [whi j (by omega)]
      by_cases c5 : j < 110
      · rw [hR.2 j h1 h2, hz j (by omega) c5]
        by_cases c6 : j < 107
        · rw [dropP_mid (by omega) c6, hz _ (by omega) (by omega)]
        · rw [dropP_0 (by omega) c5]
      · rw [dropP_hi (by omega) (by omega)]; exact hR.2 j h1 h2
    · rw [pk_un (by omega), pk_un (by omega), pk_un (by omega), whi j (by omega)]
  · intro j hj k9
    rw [show 20 + 3 * i + (j + 1) = 20 + 3 * i + j + 1 by omega, ← nI_add (20 + 3 * i + j) 1] at k9
    have q19 : va_cpy (upd (ma M a) 19 (nI (pg - 1))) (upd (ma M a) 19 (nI (pg - 1))) (23 + 3 * i) (20 + 3 * i) j 19 = nI (pg - 1) := by rw [cpy_lo (by omega), pk_us]
    iterate 5 refine Wp.step rfl ?_
    refine Wp.ldW (k := 19) ha rfl rfl (by omega) ?_
    rw [mA_same, q19]
    iterate 2 refine Wp.step rfl ?_
    refine Wp.brF rfl (by simp only [pk_mul, nI_add]; exact nI_ge (by omega) (by omega)) ?_
    iterate 6 refine Wp.step rfl ?_
    refine Wp.ldW (k := 23 + 3 * i + j) ha rfl (by simp only [nI_add]; congr 1; omega) (by omega) ?_
    rw [mA_same, cpy_up (by omega)]
    refine Wp.istW (k := 20 + 3 * i + j) ha rfl rfl (by omega) ?_
    rw [mA_mA, mA_same]
    iterate 2 refine Wp.step rfl ?_
    exact k9
