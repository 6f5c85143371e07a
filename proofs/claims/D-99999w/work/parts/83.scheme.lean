/-! scheme -/
theorem bitC : ∃ f : Int32 → Int32, ∀ (x : Int32) (d u : Nat) (h : pmH) (Q : pmO → Prop), Q (.inl (some (.int (f x))), h) → Wp d u 229 0 (pm_entry 229 [.int x]) [] h Q := by
  apply Exists.intro
  intro x d u h Q hQ
  repeat (refine Wp.step rfl ?_)
  exact Wp.fin rfl rfl hQ
def itP (lw : pmLw) (gr : Nat → Int32) (F rt : Nat) : Nat → (Nat → Int32) → Nat → Int32
  | 0, r => r
  | n + 1, r => itP lw gr F rt n (liveP lw r gr F rt)
theorem shl_pow {K : Nat} (h : K ≤ 4) : nI 1 <<< (nI K &&& 31) = nI (2 ^ K) := by
  have : K = 0 ∨ K = 1 ∨ K = 2 ∨ K = 3 ∨ K = 4 := by omega
  rcases this with rfl | rfl | rfl | rfl | rfl <;> decide
theorem RI.set {K F Y : Nat} {now : Nat → Int32} (h : RI K F Y now) (hK : K ≤ 4) (v : Int32) : RI K F Y (upd now 16 v) := h.other hK (Or.inr (Or.inl rfl)) v
section SCH
variable {K F rt : Nat} {gr : Nat → Int32} {lw : pmLw} {X0 : pmXs} {Z : pmZs}
theorem X_pagesBy {d u k n : Nat} {s : Int32} {Mx : pmMs} {Q : pmO → Prop} (hd : 200 ≤ d) (hE : XE X0 Z K F gr rt lw) (hG : GE K F gr rt) (hF : 0 < F) (hI : RI K F 999 (xa X0 26)) (hn : n ≤ 20) (hQ : ∀ l, LZ l → Q (.inl (some (.int (nI (pgs (itP lw gr F rt n (upd (xa X0 26) 16 s)) k)))), hp (TS X0 l (xa X0 26)) Mx Z)) : Wp d u 73 0 (pm_entry 73 [.ref 14, .int (nI k), .int (nI n), .int s]) [] (hp X0 Mx Z) Q := by
  obtain ⟨d, rfl⟩ : ∃ d0, d = d0 + 20 := ⟨d - 20, by omega⟩
  have hl : ∀ (m i : Nat) (l r : Nat → Int32) (u : Nat), i + m = n → LZ l → RI K F (999 + i) r → (∀ j, 110 ≤ j → r j = xa X0 26 j) → itP lw gr F rt m r = itP lw gr F rt n (upd (xa X0 26) 16 s) → Wp (d + 20) u 73 15 [some (.ref 14), some (.int (nI k)), some (.int (nI n)), some (.int s), some (.int (nI i))] [] (hp (TS X0 l r) Mx Z) Q := by
    intro m
    induction m with
    | zero =>
      intro i l r u hi hl hI hr he
      obtain ⟨pg, hpg, h19, _⟩ := hI.2.2
      have q := hQ l hl
      rw [← he] at q
      unfold itP pgs at q
      rw [pgN_of h19 hpg] at q
      iterate 2 refine Wp.step rfl ?_
      refine Wp.brT rfl (nI_le (by omega) (by omega)) ?_
      iterate 2 refine Wp.step rfl ?_
      refine Wp.call rfl (Nat.zero_le _) (X_pagesOf (TS X0 l r) Mx Z (nI k) (pg := pg) (by rw [TS_26]; exact h19) hpg ⟨_, _, rfl, ?_⟩)
      rw [TS_26]
      repeat (refine Wp.step rfl ?_)
      refine Wp.call rfl (Nat.zero_le _) (X_takeT hr ⟨_, _, rfl, ?_⟩)
      repeat (refine Wp.step rfl ?_)
      exact Wp.fin rfl rfl q
    | succ m ih =>
      intro i l r u hi hl hI hr he
      have hf := liveP_RI (lw := lw) hG hF hI (by omega)
      iterate 2 refine Wp.step rfl ?_
      refine Wp.brF rfl (nI_ge (by omega) (by omega)) ?_
      iterate 1 refine Wp.step rfl ?_
      refine Wp.call rfl (Nat.zero_le _) (X_liveT (Y := 999 + i) (y := 0) (by omega) hE hG hF hl hI (by omega) (fun l' hl' => ⟨_, _, rfl, ?_⟩))
      have k9 := ih (i + 1) l' (liveP lw r gr F rt) (u - 0) (by omega) hl' hf.1 (fun j hj => (hf.2 j hj).trans (hr j hj)) he
      rw [← nI_add i 1] at k9
      repeat (first | exact k9 | refine Wp.step rfl ?_)
  iterate 1 refine Wp.step rfl ?_
  refine Wp.call rfl (Nat.zero_le _) (X_asideT ⟨_, _, rfl, ?_⟩)
  iterate 4 refine Wp.step rfl ?_
  refine Wp.istX (k := 16) rfl rfl rfl (by first | (simp only [nI_add, pk_mul, Nat.zero_add, Nat.add_zero]; done) | (simp only [nI_add, pk_mul, Nat.zero_add, Nat.add_zero]; exact rfl) | exact rfl) (by omega) (by decide) ?_
  rw [TS_row, TS_26]
  iterate 2 refine Wp.step rfl ?_
  exact hl n 0 _ _ _ (by omega) hE.2.2.2.2.1 (hI.set hG.1 s) (fun j hj => pk_un (by omega)) rfl
/-- a promise of M -/
def PrS (K F : Nat) (gr : Nat → Int32) (rt : Nat) (lw : pmLw) (Z : pmZs) (mi pc : Nat) (L : pmL) (now : Nat → Int32) (v : Int32) : Prop := ∀ (lm : Nat) (G : Nat → (Nat → Int32) → Int32) (Xf : pmXs) (M' : pmMs), Cq K F gr rt lm G lw Xf M' Z → xa Xf 26 = now → ∀ (d u : Nat) (Q : pmO → Prop), 200 ≤ d → (∀ M'', Cq K F gr rt lm G lw Xf M'' Z → Q (.inl (some (.int v)), hp Xf M'' Z)) → Wp d u mi pc L [] (hp Xf M' Z) Q
theorem M_scheme_years {d n lm : Nat} {G : Nat → (Nat → Int32) → Int32} {Xf : pmXs} {a1 a3 a4 a5 a6 : Int32} {Q : pmO → Prop} (hd : 200 ≤ d) (hF : 0 < F) (hG : GE K F gr rt) (hn : n ≤ 20) (r0 : Nat → Int32) (hQ : ∀ M1 u l8, TM K F gr rt lm G lw Xf M1 Z r0 → RI K F (999 + n) r0 → Wp d u 149 102 [some (.ref 35), some (.int a1), some (.int (nI n)), some (.int a3), some (.int a4), some (.int a5), some (.int a6), some (.int (nI n)), l8] [] (hp Xf M1 Z) Q) : ∀ (m i : Nat) (r : Nat → Int32) (M1 : pmMs) (u : Nat) (l8 : Option Value), i + m = n → TM K F gr rt lm G lw Xf M1 Z r → RI K F (999 + i) r → itP lw gr F rt m r = r0 → Wp d u 149 80 [some (.ref 35), some (.int a1), some (.int (nI n)), some (.int a3), some (.int a4), some (.int a5), some (.int a6), some (.int (nI i)), l8] [] (hp Xf M1 Z) Q := by
  obtain ⟨d, rfl⟩ : ∃ d0, d = d0 + 20 := ⟨d - 20, by omega⟩
  intro m
  induction m with
  | zero =>
    intro i r M1 u l8 hi hT hI he
    obtain rfl : i = n := by omega
    subst he
    iterate 2 refine Wp.step rfl ?_
    refine Wp.brT rfl (nI_le (by omega) (by omega)) ?_
    exact hQ M1 _ _ hT hI
  | succ m ih =>
    intro i r M1 u l8 hi hT hI he
    have hf := liveP_RI (lw := lw) hG hF hI (by omega)
    iterate 2 refine Wp.step rfl ?_
    refine Wp.brF rfl (nI_ge (by omega) (by omega)) ?_
    iterate 3 refine Wp.step rfl ?_
    refine Wp.call rfl (Nat.zero_le _) (M_goT (Y := 999 + i) (by omega) hT hF hI (by omega) (fun M2 hT2 => ⟨_, _, rfl, ?_⟩))
    have k9 := ih (i + 1) (liveP lw r gr F rt) M2 (u - 0) (some (.int (btP lw r gr F))) (by omega) hT2 hf.1 he
    rw [← nI_add i 1] at k9
    repeat (first | exact k9 | refine Wp.step rfl ?_)
def bestP (bc : Int32 → Int32) (best most set pages : Int32) : Int32 × Int32 := if best ≠ -1 ∧ (pages < most ∨ pages = most ∧ ¬ bc set < bc best) then (best, most) else (set, pages)
theorem X_scheme_l {d k n : Nat} {w : Int32} {bc : Int32 → Int32} (hbc : ∀ (x : Int32) (d u : Nat) (h : pmH) (Q : pmO → Prop), Q (.inl (some (.int (bc x))), h) → Wp d u 229 0 (pm_entry 229 [.int x]) [] h Q) (hd : 250 ≤ d) (hG : GE K F gr rt) (hF : 0 < F) (hn : n ≤ 20) (now : Nat → Int32) (hI : RI K F 999 now) : ∀ (m i : Nat) (best most : Int32) (X : pmXs) (Mx : pmMs) (u : Nat) (l7 : Option Value) (Q : pmO → Prop), i + m = 2 ^ K → XE X Z K F gr rt lw → xa X 26 = now → (∀ X' v, xa X' 26 = now → (∀ lm G M', Cq K F gr rt lm G lw X M' Z → Cq K F gr rt lm G lw X' M' Z) → (∀ l7' l8', PrS K F gr rt lw Z 149 46 [some (.ref 35), some (.int (nI k)), some (.int (nI n)), some (.int w), some (.int best), some (.int most), some (.int (nI i)), l7', l8'] now v) → Q (.inl (some (.int v)), hp X' Mx Z)) → Wp d u 26 38 [some (.ref 14), some (.int (nI k)), some (.int (nI n)), some (.int w), some (.int best), some (.int most), some (.int (nI i)), l7] [] (hp X Mx Z) Q := by
  obtain ⟨d, rfl⟩ : ∃ d0, d = d0 + 20 := ⟨d - 20, by omega⟩
  have hK := hG.1
  have h16 : 2 ^ K ≤ 2 ^ 4 := Nat.pow_le_pow_right (by omega) hK
  intro m
  induction m with
  | zero =>
    intro i best most X Mx u l7 Q hi hE hX hQ
    obtain rfl : i = 2 ^ K := by omega
    iterate 4 refine Wp.step rfl ?_
    rw [hE.1]
    refine Wp.step rfl ?_
    simp only [shl_pow hK]
    refine Wp.brT rfl (Int32.le_refl _) ?_
    have hv : ∀ l7' l8', PrS K F gr rt lw Z 149 46 [some (.ref 35), some (.int (nI k)), some (.int (nI n)), some (.int w), some (.int best), some (.int most), some (.int (nI (2 ^ K))), l7', l8'] now (if w = 0 then best else most) := by
      intro l7' l8' lm G Xf M' hC hX d u Q hd q
      iterate 4 refine Wp.step rfl ?_
      rw [hC.2.2.2.1.1]
      refine Wp.step rfl ?_
      simp only [shl_pow hK]
      refine Wp.brT rfl (Int32.le_refl _) ?_
      iterate 1 refine Wp.step rfl ?_
      by_cases c : w = 0
      · rw [if_pos c] at q
        refine Wp.brF rfl (fun z => z c) ?_
        repeat (refine Wp.step rfl ?_)
        exact Wp.fin rfl rfl (q _ hC)
      · rw [if_neg c] at q
        refine Wp.brT rfl c ?_
        repeat (refine Wp.step rfl ?_)
        exact Wp.fin rfl rfl (q _ hC)
    have q := hQ X _ hX (fun _ _ _ h => h) hv
    iterate 1 refine Wp.step rfl ?_
    by_cases c : w = 0
    · rw [if_pos c] at q
      refine Wp.brF rfl (fun z => z c) ?_
      repeat (refine Wp.step rfl ?_)
      exact Wp.fin rfl rfl q
    · rw [if_neg c] at q
      refine Wp.brT rfl c ?_
      repeat (refine Wp.step rfl ?_)
      exact Wp.fin rfl rfl q
  | succ m ih =>
    intro i best most X Mx u l7 Q hi hE hX hQ
    iterate 4 refine Wp.step rfl ?_
    rw [hE.1]
    refine Wp.step rfl ?_
    simp only [shl_pow hK]
    refine Wp.brF rfl (nI_ge (by omega) (by omega)) ?_
    iterate 4 refine Wp.step rfl ?_
    refine Wp.call rfl (Nat.zero_le _) (X_pagesBy (k := k) (n := n) (by omega) hE hG hF (by rw [hX]; exact hI) hn (fun l hl => ⟨_, _, rfl, ?_⟩))
    rw [hX]
    have hE' : XE (TS X l now) Z K F gr rt lw := TS_xe hE hl now
    generalize hpp : nI (pgs (itP lw gr F rt n (upd now 16 (nI i))) k) = pages
    have hmain : ∀ u, Wp (d + 20) u 26 103 [some (.ref 14), some (.int (nI k)), some (.int (nI n)), some (.int w), some (.int (bestP bc best most (nI i) pages).1), some (.int (bestP bc best most (nI i) pages).2), some (.int (nI i)), some (.int pages)] [] (hp (TS X l now) Mx Z) Q := by
      intro u
      have k9 := ih (i + 1) (bestP bc best most (nI i) pages).1 (bestP bc best most (nI i) pages).2 (TS X l now) Mx u (some (.int pages)) Q (by omega) hE' (TS_26 _ _ _) (fun X' v h1 h2 h3 => hQ X' v h1 (fun lm G M' h => h2 _ _ _ (by have := TS_cq h hl; rw [hX] at this; exact this)) ?_)
      · rw [← nI_add i 1] at k9
        repeat (first | exact k9 | refine Wp.step rfl ?_)
      intro l7' l8' lm G Xf M' hC hXf d u Q hd q
      obtain ⟨d, rfl⟩ : ∃ d0, d = d0 + 20 := ⟨d - 20, by omega⟩
      iterate 4 refine Wp.step rfl ?_
      rw [hC.2.2.2.1.1]
      refine Wp.step rfl ?_
      simp only [shl_pow hK]
      refine Wp.brF rfl (nI_ge (by omega) (by omega)) ?_
      iterate 4 refine Wp.step rfl ?_
      refine Wp.call rfl (Nat.zero_le _) (M_copyT hC (fun M1 hT => ⟨_, _, rfl, ?_⟩))
      rw [hXf] at hT
      iterate 4 refine Wp.step rfl ?_
      refine Wp.istM (k := 16) rfl rfl rfl (by first | (simp only [nI_add, pk_mul, Nat.zero_add, Nat.add_zero]; done) | (simp only [nI_add, pk_mul, Nat.zero_add, Nat.add_zero]; exact rfl) | exact rfl) (by omega) (by decide) ?_
      iterate 2 refine Wp.step rfl ?_
      have hT2 : TM K F gr rt lm G lw Xf (mA M1 49 (upd (ma M1 49) 16 (nI i))) Z (upd now 16 (nI i)) := by
        refine ⟨hT.1.trial _, ?_, ?_⟩
        · rw [mA_same]; exact hT.2.1.up (by omega) _
        · rw [mA_same]
          obtain ⟨lg, a, b⟩ := hT.2.2
          exact ⟨lg, a, by rw [pk_un (by omega)]; exact b⟩
      refine M_scheme_years (n := n) (by omega) hF hG hn (itP lw gr F rt n (upd now 16 (nI i))) ?_ n 0 _ _ _ _ (by omega) hT2 (hI.set hK _) rfl
      intro M3 u l8 hT3 hI3
      obtain ⟨pg, hpg, h19, _⟩ := hI3.2.2
      iterate 3 refine Wp.step rfl ?_
      refine Wp.call rfl (Nat.zero_le _) (M_pagesOf (a := 49) (N := 110) (Or.inr rfl) hT3.2.1 (by omega) h19 hpg (nI k) ⟨_, _, rfl, ?_⟩)
      have hpp' : nI (cntP (itP lw gr F rt n (upd now 16 (nI i))) (nI k) pg) = pages := by
        rw [← hpp]
        unfold pgs
        rw [pgN_of h19 hpg]
      rw [hpp']
      have h156 : ∀ u, Wp (d + 20) u 149 156 [some (.ref 35), some (.int (nI k)), some (.int (nI n)), some (.int w), some (.int (bestP bc best most (nI i) pages).1), some (.int (bestP bc best most (nI i) pages).2), some (.int (nI i)), some (.int pages), l8] [] (hp Xf M3 Z) Q := by
        intro u
        have k9 := h3 (some (.int pages)) l8 _ _ Xf M3 hT3.1 hXf (d + 20) u Q (by omega) q
        rw [← nI_add i 1] at k9
        repeat (first | exact k9 | refine Wp.step rfl ?_)
      unfold bestP at h156
      iterate 3 refine Wp.step rfl ?_
      by_cases c1 : best = -1
      · rw [if_neg (fun z => z.1 c1)] at h156
        refine Wp.brT rfl c1 ?_
        have k9 := h156 (u - 0)
        repeat (first | exact k9 | refine Wp.step rfl ?_)
      refine Wp.brF rfl c1 ?_
      iterate 2 refine Wp.step rfl ?_
      by_cases c2 : pages < most
      · rw [if_pos ⟨c1, Or.inl c2⟩] at h156
        refine Wp.brT rfl c2 ?_
        exact h156 _
      refine Wp.brF rfl c2 ?_
      iterate 2 refine Wp.step rfl ?_
      by_cases c3 : pages = most
      case neg =>
        rw [if_neg (fun z => z.2.elim c2 (fun y => c3 y.1))] at h156
        refine Wp.brT rfl c3 ?_
        have k9 := h156 (u - 0)
        repeat (first | exact k9 | refine Wp.step rfl ?_)
      refine Wp.brF rfl (fun z => z c3) ?_
      iterate 1 refine Wp.step rfl ?_
      refine Wp.call rfl (Nat.zero_le _) (hbc (nI i) _ _ _ _ ⟨_, _, rfl, ?_⟩)
      iterate 1 refine Wp.step rfl ?_
      refine Wp.call rfl (Nat.zero_le _) (hbc best _ _ _ _ ⟨_, _, rfl, ?_⟩)
      by_cases c4 : bc (nI i) < bc best
      · rw [if_neg (fun z => z.2.elim c2 (fun y => y.2 c4))] at h156
        refine Wp.brT rfl c4 ?_
        have k9 := h156 (u - 0 - 0 - 0)
        repeat (first | exact k9 | refine Wp.step rfl ?_)
      · rw [if_pos ⟨c1, Or.inr ⟨c3, c4⟩⟩] at h156
        refine Wp.brF rfl c4 ?_
        have k9 := h156 (u - 0 - 0 - 0)
        repeat (first | exact k9 | refine Wp.step rfl ?_)
    unfold bestP at hmain
    iterate 3 refine Wp.step rfl ?_
    by_cases c1 : best = -1
    · rw [if_neg (fun z => z.1 c1)] at hmain
      refine Wp.brT rfl c1 ?_
      have k9 := hmain (u - 0)
      repeat (first | exact k9 | refine Wp.step rfl ?_)
    refine Wp.brF rfl c1 ?_
    iterate 2 refine Wp.step rfl ?_
    by_cases c2 : pages < most
    · rw [if_pos ⟨c1, Or.inl c2⟩] at hmain
      refine Wp.brT rfl c2 ?_
      exact hmain _
    refine Wp.brF rfl c2 ?_
    iterate 2 refine Wp.step rfl ?_
    by_cases c3 : pages = most
    case neg =>
      rw [if_neg (fun z => z.2.elim c2 (fun y => c3 y.1))] at hmain
      refine Wp.brT rfl c3 ?_
      have k9 := hmain (u - 0)
      repeat (first | exact k9 | refine Wp.step rfl ?_)
    refine Wp.brF rfl (fun z => z c3) ?_
    iterate 1 refine Wp.step rfl ?_
    refine Wp.call rfl (Nat.zero_le _) (hbc (nI i) _ _ _ _ ⟨_, _, rfl, ?_⟩)
    iterate 1 refine Wp.step rfl ?_
    refine Wp.call rfl (Nat.zero_le _) (hbc best _ _ _ _ ⟨_, _, rfl, ?_⟩)
    by_cases c4 : bc (nI i) < bc best
    · rw [if_neg (fun z => z.2.elim c2 (fun y => y.2 c4))] at hmain
      refine Wp.brT rfl c4 ?_
      have k9 := hmain (u - 0 - 0 - 0)
      repeat (first | exact k9 | refine Wp.step rfl ?_)
    · rw [if_pos ⟨c1, Or.inr ⟨c3, c4⟩⟩] at hmain
      refine Wp.brF rfl c4 ?_
      have k9 := hmain (u - 0 - 0 - 0)
      repeat (first | exact k9 | refine Wp.step rfl ?_)
end SCH
theorem op_scheme (k n w : Int32) : OpX 26 149 [.int k, .int n, .int w] := by
  obtain ⟨bc, hbc⟩ := bitC
  intro X M Z ⟨K, F, gr, rt, lm, G, lw, hC⟩ d u Q hd hu hQ
  obtain ⟨hG, hKF, hE, hM, hT, hL, hP, hR, hA, hN, hI⟩ := id hC
  obtain ⟨d, rfl⟩ : ∃ d0, d = d0 + 20 := ⟨d - 20, by omega⟩
  have hK := hG.1
  iterate 2 refine Wp.step rfl ?_
  refine Wp.call rfl (Nat.zero_le _) (X_isK hE.1 hG.1 k (fun hc => ⟨_, _, rfl, ?_⟩) (fun hc => ⟨_, _, rfl, ?_⟩))
  case refine_2 =>
    refine Wp.brT rfl rfl ?_
    repeat (refine Wp.step rfl ?_)
    refine Wp.fin rfl rfl (hQ _ X Z.2.2 ?_)
    intro d u Q hd hQ
    obtain ⟨d, rfl⟩ : ∃ d0, d = d0 + 20 := ⟨d - 20, by omega⟩
    iterate 2 refine Wp.step rfl ?_
    refine Wp.putM rfl rfl rfl ?_
    repeat (refine Wp.step rfl ?_)
    refine Wp.call rfl (Nat.zero_le _) (M_is (Or.inl ⟨rfl, rfl⟩) (by exact hM.1) (by omega) k (fun q => absurd q hc) (fun q => ⟨_, _, rfl, ?_⟩))
    refine Wp.brT rfl rfl ?_
    repeat (refine Wp.step rfl ?_)
    exact Wp.fin rfl rfl (hQ _ ⟨K, F, gr, rt, lm, G, lw, hC⟩)
  refine Wp.brF rfl (by decide) ?_
  iterate 3 refine Wp.step rfl ?_
  refine Wp.call rfl (Nat.zero_le _) (X_inP _ _ _ _ (in_le n (by omega : 1 ≤ 20) (by decide)) (fun hn => ⟨_, _, rfl, ?_⟩) (fun hn => ⟨_, _, rfl, ?_⟩))
  case refine_2 =>
    refine Wp.brT rfl rfl ?_
    repeat (refine Wp.step rfl ?_)
    refine Wp.fin rfl rfl (hQ _ X Z.2.2 ?_)
    intro d u Q hd hQ
    obtain ⟨d, rfl⟩ : ∃ d0, d = d0 + 20 := ⟨d - 20, by omega⟩
    iterate 2 refine Wp.step rfl ?_
    refine Wp.putM rfl rfl rfl ?_
    repeat (refine Wp.step rfl ?_)
    refine Wp.call rfl (Nat.zero_le _) (M_is (Or.inl ⟨rfl, rfl⟩) (by exact hM.1) (by omega) k (fun q => ⟨_, _, rfl, ?_⟩) (fun q => absurd hc q))
    refine Wp.brF rfl (by decide) ?_
    repeat (refine Wp.step rfl ?_)
    refine Wp.call rfl (Nat.zero_le _) (M_isIn n (nI 1) (nI 20) rfl rfl _ (in_le n (by omega : 1 ≤ 20) (by decide)) (fun q => absurd q hn) (fun q => ⟨_, _, rfl, ?_⟩))
    refine Wp.brT rfl rfl ?_
    repeat (refine Wp.step rfl ?_)
    exact Wp.fin rfl rfl (hQ _ ⟨K, F, gr, rt, lm, G, lw, hC⟩)
  refine Wp.brF rfl (by decide) ?_
  iterate 3 refine Wp.step rfl ?_
  refine Wp.call rfl (Nat.zero_le _) (X_inP _ _ _ _ (in_le w (by omega : 0 ≤ 1) (by decide)) (fun hw => ⟨_, _, rfl, ?_⟩) (fun hw => ⟨_, _, rfl, ?_⟩))
  case refine_2 =>
    refine Wp.brF rfl (by decide) ?_
    repeat (refine Wp.step rfl ?_)
    refine Wp.fin rfl rfl (hQ _ X Z.2.2 ?_)
    intro d u Q hd hQ
    obtain ⟨d, rfl⟩ : ∃ d0, d = d0 + 20 := ⟨d - 20, by omega⟩
    iterate 2 refine Wp.step rfl ?_
    refine Wp.putM rfl rfl rfl ?_
    repeat (refine Wp.step rfl ?_)
    refine Wp.call rfl (Nat.zero_le _) (M_is (Or.inl ⟨rfl, rfl⟩) (by exact hM.1) (by omega) k (fun q => ⟨_, _, rfl, ?_⟩) (fun q => absurd hc q))
    refine Wp.brF rfl (by decide) ?_
    repeat (refine Wp.step rfl ?_)
    refine Wp.call rfl (Nat.zero_le _) (M_isIn n (nI 1) (nI 20) rfl rfl _ (in_le n (by omega : 1 ≤ 20) (by decide)) (fun q => ⟨_, _, rfl, ?_⟩) (fun q => absurd hn q))
    refine Wp.brF rfl (by decide) ?_
    repeat (refine Wp.step rfl ?_)
    refine Wp.call rfl (Nat.zero_le _) (M_isIn w (nI 0) (nI 1) rfl rfl _ (in_le w (by omega : 0 ≤ 1) (by decide)) (fun q => absurd q hw) (fun q => ⟨_, _, rfl, ?_⟩))
    refine Wp.brF rfl (by decide) ?_
    repeat (refine Wp.step rfl ?_)
    exact Wp.fin rfl rfl (hQ _ ⟨K, F, gr, rt, lm, G, lw, hC⟩)
  obtain ⟨k, hk, rfl⟩ := id hc
  obtain ⟨n, hn1, hn20, rfl⟩ := id hn
  refine Wp.brT rfl (by decide) ?_
  iterate 6 refine Wp.step rfl ?_
  refine X_scheme_l (d := d + 19 + 1) (k := k) (n := n) (w := w) hbc (by omega) hG (KF_pos hKF (by omega)) hn20 (xa X 26) hR.2.1 (2 ^ K) 0 _ _ _ _ _ _ _ (by omega) hE rfl ?_
  intro X' v h1 h2 h3
  refine hQ _ _ Z.2.2 ?_
  intro d u Q hd hQ
  obtain ⟨d, rfl⟩ : ∃ d0, d = d0 + 20 := ⟨d - 20, by omega⟩
  iterate 2 refine Wp.step rfl ?_
  refine Wp.putM rfl rfl rfl ?_
  repeat (refine Wp.step rfl ?_)
  refine Wp.call rfl (Nat.zero_le _) (M_is (Or.inl ⟨rfl, rfl⟩) (by exact hM.1) (by omega) (nI k) (fun q => ⟨_, _, rfl, ?_⟩) (fun q => absurd hc q))
  refine Wp.brF rfl (by decide) ?_
  repeat (refine Wp.step rfl ?_)
  refine Wp.call rfl (Nat.zero_le _) (M_isIn (nI n) (nI 1) (nI 20) rfl rfl _ (in_le (nI n) (by omega : 1 ≤ 20) (by decide)) (fun q => ⟨_, _, rfl, ?_⟩) (fun q => absurd hn q))
  refine Wp.brF rfl (by decide) ?_
  repeat (refine Wp.step rfl ?_)
  refine Wp.call rfl (Nat.zero_le _) (M_isIn w (nI 0) (nI 1) rfl rfl _ (in_le w (by omega : 0 ≤ 1) (by decide)) (fun q => ⟨_, _, rfl, ?_⟩) (fun q => absurd hw q))
  refine Wp.brT rfl (by decide) ?_
  have k9 := h3 none none lm G X' (mI M 0 (nI 0)) (h2 _ _ _ hC) h1 (d + 19 + 1) (u - 0 - 0 - 0) Q (by omega) (fun M2 hf => hQ _ ⟨K, F, gr, rt, lm, G, lw, hf⟩)
  repeat (first | exact k9 | refine Wp.step rfl ?_)
