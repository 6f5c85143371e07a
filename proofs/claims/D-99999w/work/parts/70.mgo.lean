/-! M's year -/
theorem M_writes {d u a N pg f k : Nat} {X : pmXs} {M : pmMs} {Z : pmZs} {Q : pmO → Prop} {now : Nat → Int32} {tl : Int32} (ha : a = 48 ∨ a = 49) (hR : RR N (ma M a) now) (hN : 110 ≤ N) (h19 : now 19 = nI pg) (hpg : pg ≤ 30) (hz : ∀ j, 20 + 3 * pg ≤ j → j < 110 → now j = nI 0) (hQ : ∀ w, RR N w (wrP now pg f k tl) → (∀ j, 110 ≤ j → w j = ma M a j) → Q (.inl none, hp X (mA M a w) Z)) : Wp (d + 1) u 207 0 (pm_entry 207 [.ref 35, .ref a, .int (nI f), .int (nI k), .int tl]) [] (hp X M Z) Q := by
  have r19 : ma M a 19 = nI pg := (hR.2 19 (by omega) (by omega)).trans h19
  have tail : ∀ (w c : Nat → Int32) (p u' : Nat), RR N w c → c 19 = nI p → p < 30 → (∀ j, 110 ≤ j → w j = ma M a j) → (∀ w', RR N w' (upd (upd (upd (upd c (20 + 3 * p) (nI f)) (20 + 3 * p + 1) (nI k)) (20 + 3 * p + 2) tl) 19 (nI (p + 1))) → (∀ j, 110 ≤ j → w' j = ma M a j) → Q (.inl none, hp X (mA M a w') Z)) → Wp (d + 1) u' 207 14 [some (.ref 35), some (.ref a), some (.int (nI f)), some (.int (nI k)), some (.int tl), none] [] (hp X (mA M a w) Z) Q := by
    intro w c p u' hr hc hp' hl q
    have w19 : w 19 = nI p := (hr.2 19 (by omega) (by omega)).trans hc
    iterate 4 refine Wp.step rfl ?_
    refine Wp.ldW (k := 19) ha rfl rfl (by omega) ?_
    rw [mA_same, w19]
    iterate 2 refine Wp.step rfl ?_
    have e1 : nI 20 + nI 3 * nI p = nI (20 + 3 * p) := by rw [pk_mul, nI_add]
    simp only [e1]
    iterate 4 refine Wp.step rfl ?_
    refine Wp.istW (k := 20 + 3 * p) ha rfl rfl (by omega) ?_
    rw [mA_mA, mA_same]
    iterate 5 refine Wp.step rfl ?_
    refine Wp.istW (k := 20 + 3 * p + 1) ha rfl (nI_add _ 1) (by omega) ?_
    rw [mA_mA, mA_same]
    iterate 5 refine Wp.step rfl ?_
    refine Wp.istW (k := 20 + 3 * p + 2) ha rfl (nI_add _ 2) (by omega) ?_
    rw [mA_mA, mA_same]
    iterate 3 refine Wp.step rfl ?_
    refine Wp.ldW (k := 19) ha rfl rfl (by omega) ?_
    rw [mA_same, pk_un (by omega), pk_un (by omega), pk_un (by omega), w19]
    iterate 2 refine Wp.step rfl ?_
    refine Wp.istW (k := 19) (v := nI p + nI 1) ha rfl rfl (by omega) ?_
    rw [mA_mA, mA_same, nI_add]
    refine Wp.fin rfl trivial (q _ ((((hr.up (by omega) _).up (by omega) _).up (by omega) _).up (by omega) _) (fun j hj => ?_))
    rw [pk_un (by omega), pk_un (by omega), pk_un (by omega), pk_un (by omega)]
    exact hl j hj
  unfold wrP at hQ
  iterate 2 refine Wp.step rfl ?_
  refine Wp.ldW (k := 19) ha rfl rfl (by omega) ?_
  rw [r19]
  refine Wp.step rfl ?_
  by_cases h : pg = 30
  · subst h
    rw [if_pos rfl] at hQ
    refine Wp.brF rfl (fun q => q rfl) ?_
    iterate 2 refine Wp.step rfl ?_
    refine Wp.call (u1 := 0) rfl (Nat.zero_le _) (M_burns (F := 0) ha hR hN h19 hpg hz (by omega) (fun w y1 y2 => ⟨_, _, rfl, ?_⟩))
    exact tail w (dropP now 0 30) 29 _ y1 dropP_19 (by omega) y2 hQ
  · rw [if_neg h] at hQ
    refine Wp.brT rfl (fun q => h ((nI_eq (by omega) (by decide)).mp q)) ?_
    have := tail (ma M a) now pg u hR h19 (by omega) (fun _ _ => rfl) hQ
    rw [mA_self] at this
    exact this
/-- the log's end, in M -/
theorem M_log {d u a lg f : Nat} {X : pmXs} {M : pmMs} {Z : pmZs} {Q : pmO → Prop} {bt tl : Int32} {l3 : Int32} {l6 : Option Value} (ha : a = 48 ∨ a = 49) (h110 : ma M a 110 = nI lg) (hlg : lg ≤ 60) (hQ : Q (.inl (some (.int bt)), hp X (mA M a (logP (ma M a) (nI f) bt tl)) Z)) : Wp d u 176 189 [some (.ref 35), some (.ref a), some (.int (nI f)), some (.int l3), some (.int bt), some (.int tl), l6] [] (hp X M Z) Q := by
  unfold logP at hQ
  obtain ⟨hl1, hl2⟩ := logL_of h110 hlg
  have tail : ∀ (g : Nat → Int32) (p u' : Nat) (l6 : Option Value), g 110 = nI p → p < 60 → Q (.inl (some (.int bt)), hp X (mA M a (upd (upd (upd (upd g (111 + 3 * p) (nI f)) (111 + 3 * p + 1) bt) (111 + 3 * p + 2) tl) 110 (nI (p + 1)))) Z) → Wp d u' 176 239 [some (.ref 35), some (.ref a), some (.int (nI f)), some (.int l3), some (.int bt), some (.int tl), l6] [] (hp X (mA M a g) Z) Q := by
    intro g p u' l6 hg hp' q
    iterate 4 refine Wp.step rfl ?_
    refine Wp.ldW (k := 110) ha rfl rfl (by omega) ?_
    rw [mA_same, hg]
    iterate 2 refine Wp.step rfl ?_
    have e1 : nI 111 + nI 3 * nI p = nI (111 + 3 * p) := by rw [pk_mul, nI_add]
    simp only [e1]
    iterate 4 refine Wp.step rfl ?_
    refine Wp.istW (k := 111 + 3 * p) ha rfl rfl (by omega) ?_
    rw [mA_mA, mA_same]
    iterate 5 refine Wp.step rfl ?_
    refine Wp.istW (k := 111 + 3 * p + 1) ha rfl (nI_add _ 1) (by omega) ?_
    rw [mA_mA, mA_same]
    iterate 5 refine Wp.step rfl ?_
    refine Wp.istW (k := 111 + 3 * p + 2) ha rfl (nI_add _ 2) (by omega) ?_
    rw [mA_mA, mA_same]
    iterate 3 refine Wp.step rfl ?_
    refine Wp.ldW (k := 110) ha rfl rfl (by omega) ?_
    rw [mA_same, pk_un (by omega), pk_un (by omega), pk_un (by omega), hg]
    iterate 2 refine Wp.step rfl ?_
    refine Wp.istW (k := 110) (v := nI p + nI 1) ha rfl rfl (by omega) ?_
    rw [mA_mA, mA_same, nI_add]
    refine Wp.step rfl ?_
    exact Wp.fin rfl rfl q
  iterate 2 refine Wp.step rfl ?_
  refine Wp.ldW (k := 110) ha rfl rfl (by omega) ?_
  rw [h110]
  refine Wp.step rfl ?_
  rcases hl2 with ⟨rfl, hl2⟩ | ⟨hl3, hl2⟩
  · refine Wp.brF rfl (fun z => z rfl) ?_
    rw [hl2, show logC (ma M a) = upd (va_cpy (ma M a) (ma M a) 114 111 177) 110 (nI 59) from if_pos h110] at hQ
    iterate 2 refine Wp.step rfl ?_
    have k0 := cpy_S2 (g := ma M a) (sp := 114) (dp := 111) 177 (fun j q => Wp d u 176 201 [some (.ref 35), some (.ref a), some (.int (nI f)), some (.int l3), some (.int bt), some (.int tl), some (.int (nI (1 + j)))] [] (hp X (mA M a q) Z) Q) ?_ ?_
    · rw [mA_self] at k0
      exact k0
    · iterate 2 refine Wp.step rfl ?_
      refine Wp.brT rfl (by decide) ?_
      iterate 3 refine Wp.step rfl ?_
      refine Wp.ldW (k := 110) ha rfl rfl (by omega) ?_
      rw [mA_same, cpy_lo (by omega), h110]
      iterate 2 refine Wp.step rfl ?_
      refine Wp.istW (k := 110) (v := nI 60 - nI 1) ha rfl rfl (by omega) ?_
      rw [mA_mA, mA_same]
      exact tail _ 59 _ _ pk_us (by omega) hQ
    · intro j hj k9
      rw [show 1 + (j + 1) = 1 + j + 1 by omega, ← nI_add (1 + j) 1] at k9
      iterate 2 refine Wp.step rfl ?_
      refine Wp.brF rfl (nI_nlt (by omega) (by omega)) ?_
      iterate 10 refine Wp.step rfl ?_
      refine Wp.ldW (k := 114 + j) ha rfl (by simp only [nI_add]; congr 1; omega) (by omega) ?_
      rw [mA_same, cpy_up (by omega)]
      refine Wp.istW (k := 111 + j) ha rfl (by simp only [nI_add]; congr 1; omega) (by omega) ?_
      rw [mA_mA, mA_same]
      iterate 2 refine Wp.step rfl ?_
      exact k9
  · refine Wp.brT rfl (fun z => hl3 ((nI_eq (by omega) (by decide)).mp z)) ?_
    rw [hl2, show logC (ma M a) = ma M a from if_neg (by rw [h110]; exact fun z => hl3 ((nI_eq (by omega) (by decide)).mp z))] at hQ
    have := tail (ma M a) lg u l6 h110 (by omega) hQ
    rw [mA_self] at this
    exact this
theorem M_goYear {d u K F N Y rt lm a : Nat} {X : pmXs} {M : pmMs} {Z : pmZs} {Q : pmO → Prop} {gr now : Nat → Int32} {G : Nat → (Nat → Int32) → Int32} {lw : pmLw} (hd : 170 ≤ d) (hE : ME M K F gr rt lm G lw) (hG : GE K F gr rt) (hF : 0 < F) (ha : a = 48 ∨ a = 49) (hR : RR N (ma M a) now) (hN : 110 ≤ N) (hI : RI K F Y now) (hY : Y < 2000) (hL : LI (ma M a)) (hQ : ∀ M' w1, Jf M M' → ME M' K F gr rt lm G lw → RR N w1 (liveP lw now gr F rt) → (∀ j, 110 ≤ j → w1 j = ma M a j) → Q (.inl (some (.int (btP lw now gr F))), hp X (mA M' a (logP w1 (nI (fP now F)) (btP lw now gr F) (tlP lw now gr F))) Z)) : Wp d u 176 0 (pm_entry 176 [.ref 35, .ref a]) [] (hp X M Z) Q := by
  obtain ⟨d, rfl⟩ : ∃ d0, d = d0 + 2 := ⟨d - 2, by omega⟩
  obtain ⟨_, ⟨y, hy, h18⟩, pg, hpg, h19, hpf, hpz⟩ := id hI
  obtain ⟨lg, hlg, h110⟩ := hL
  have hf : y % F < F := Nat.mod_lt _ hF
  have hfP := fP_of (F := F) h18 (by omega)
  obtain ⟨ka, kb, g, t, a1, a2, a3, a4, a5, a6, a7, a8, a9⟩ := hG.2.2.2 (y % F) hf
  have hK := hG.1
  have hF8 := hG.2.1
  have r18 : ma M a 18 = nI y := (hR.2 18 (by omega) (by omega)).trans h18
  have hbt : btP lw now gr F = btV (nP lw now gr F) ka kb := by unfold btP; rw [hfP, gN_of a6 (by omega), gN_of a7 (by omega)]
  have hlv : liveP lw now gr F rt = liveR (nP lw now gr F) now gr rt (y % F) ka kb := by unfold liveP; rw [hfP, gN_of a6 (by omega), gN_of a7 (by omega)]
  have htl : tlP lw now gr F = tlV (nP lw now gr F) now gr (y % F) ka kb := by unfold tlP; rw [hfP, gN_of a6 (by omega), gN_of a7 (by omega)]
  have hnP : nP lw now gr F = sdP lw now gr (y % F) ka kb := by unfold nP; rw [hfP, gN_of a6 (by omega), gN_of a7 (by omega)]
  rw [hbt, hlv, htl, hfP, hnP] at hQ
  iterate 2 refine Wp.step rfl ?_
  refine Wp.ldW (k := 18) ha rfl rfl (by omega) ?_
  rw [r18]
  iterate 2 refine Wp.step rfl ?_
  rw [hE.2.1]
  refine Wp.stepP rfl (nI_ne0 hF (by omega)) ?_
  have e3 : nI y - nI y / nI F * nI F = nI (y % F) := pk_rem (by omega) hF (by omega)
  simp only [e3]
  iterate 4 refine Wp.step rfl ?_
  refine Wp.call (u1 := 0) rfl (Nat.zero_le _) (M_sideNow (by omega) hE hG ha hR hN hI hY hf a6 a1 a7 a2 (fun M1 j1 E1 => ⟨_, _, rfl, ?_⟩))
  have q1 := fun w1 => hQ M1 w1 j1 E1
  have hR1 : RR N (ma M1 a) now := by rw [j1.2.2 a (by omega) (by omega)]; exact hR
  have hL1 : ∀ j, 110 ≤ j → ma M1 a j = ma M a j := fun j _ => by rw [j1.2.2 a (by omega) (by omega)]
  have h110' : ma M1 a 110 = nI lg := (hL1 110 (by omega)).trans h110
  generalize hn : sdP lw now gr (y % F) ka kb = n at q1
  -- a field that is won
  have won : ∀ (s w b u' : Nat), (s = 0 ∧ w = ka ∧ b = kb ∨ s = 1 ∧ w = kb ∧ b = ka) → (∀ w1, RR N w1 (upd (win5 now gr rt pg (y % F) w b) 18 (now 18 + nI 1)) → (∀ j, 110 ≤ j → w1 j = ma M a j) → Q (.inl (some (.int (nI b))), hp X (mA M1 a (logP w1 (nI (y % F)) (nI b) (gr (4 * (y % F) + 3) + now (4 + b)))) Z)) → Wp (d + 2) u' 176 17 [some (.ref 35), some (.ref a), some (.int (nI (y % F))), some (.int (nI s)), none, none, none] [] (hp X M1 Z) Q := by
    intro s w b u' hs q
    have hw : w < K := by rcases hs with ⟨_, rfl, rfl⟩ | ⟨_, rfl, rfl⟩ <;> omega
    have hb : b < K := by rcases hs with ⟨_, rfl, rfl⟩ | ⟨_, rfl, rfl⟩ <;> omega
    have hs1 : s ≤ 1 := by omega
    have ga : gr (4 * (y % F) + s) = nI w := by rcases hs with ⟨rfl, rfl, rfl⟩ | ⟨rfl, rfl, rfl⟩ <;> assumption
    have gb : gr (4 * (y % F) + 1 - s) = nI b := by rcases hs with ⟨rfl, rfl, rfl⟩ | ⟨rfl, rfl, rfl⟩ <;> assumption
    have e3 := E1.2.2.1
    iterate 2 refine Wp.step rfl ?_
    refine Wp.brT rfl (nI_m1 (by omega)) ?_
    iterate 9 refine Wp.step rfl ?_
    refine Wp.ldM (k := 4 * (y % F) + 1 - s) rfl rfl (by simp only [pk_mul, nI_add]; rw [pk_sub (by omega)]) (by omega) (by decide) ?_
    rw [e3 _ (by omega), gb]
    iterate 5 refine Wp.step rfl ?_
    refine Wp.brF rfl (nI_m1 (by omega)) ?_
    iterate 7 refine Wp.step rfl ?_
    refine Wp.ldM (k := 4 * (y % F) + s) rfl rfl (by simp only [pk_mul, nI_add]) (by omega) (by decide) ?_
    rw [e3 _ (by omega), ga]
    iterate 14 refine Wp.step rfl ?_
    refine Wp.ldW (k := 4 * w + 3) ha rfl (by simp only [pk_mul, nI_add]) (by omega) ?_
    rw [hR1.1 w 3 (by omega) (by omega)]
    iterate 3 refine Wp.step rfl ?_
    refine Wp.istW (k := 4 * w + 3) (v := mn (nI 999) (now (12 + w) + nI 1)) ha rfl (by simp only [pk_mul, nI_add]) (by omega) ?_
    have R2 := hR1.upk (k := w) (i := 3) (by omega) (by omega) (mn (nI 999) (now (12 + w) + nI 1))
    have L2 : ∀ j, 110 ≤ j → upd (ma M1 a) (4 * w + 3) (mn (nI 999) (now (12 + w) + nI 1)) j = ma M a j := fun j hj => by rw [pk_un (by omega)]; exact hL1 j hj
    generalize upd (ma M1 a) (4 * w + 3) (mn (nI 999) (now (12 + w) + nI 1)) = W2 at R2 L2 ⊢
    iterate 13 refine Wp.step rfl ?_
    refine Wp.ldW (k := 4 * b) ha rfl (by simp only [pk_mul, nI_add]; rfl) (by omega) ?_
    rw [mA_same, show W2 (4 * b) = now b by have := R2.1 b 0 (by omega) (by omega); rw [pk_un (by omega)] at this; simpa using this]
    iterate 3 refine Wp.step rfl ?_
    refine Wp.ldM (k := 0) rfl rfl rfl (by decide) (by decide) ?_
    rw [show ma (mA M1 a W2) 40 0 = nI rt by rw [mA_ne _ _ (by omega)]; exact E1.2.2.2.1]
    iterate 2 refine Wp.step rfl ?_
    refine Wp.istW (k := 4 * b) (v := mx0 (now b - nI rt)) ha rfl (by simp only [pk_mul, nI_add]; rfl) (by omega) ?_
    rw [mA_mA, mA_same]
    have R3 := R2.upk (k := b) (i := 0) (by omega) (by omega) (mx0 (now b - nI rt))
    rw [show 4 * b + 0 = 4 * b from rfl, show 4 * 0 + b = b by omega] at R3
    have L3 : ∀ j, 110 ≤ j → upd W2 (4 * b) (mx0 (now b - nI rt)) j = ma M a j := fun j hj => by rw [pk_un (by omega)]; exact L2 j hj
    generalize upd W2 (4 * b) (mx0 (now b - nI rt)) = W3 at R3 L3 ⊢
    iterate 13 refine Wp.step rfl ?_
    refine Wp.ldW (k := 4 * b + 2) ha rfl (by simp only [pk_mul, nI_add]) (by omega) ?_
    rw [mA_same, show W3 (4 * b + 2) = now (8 + b) by have := R3.1 b 2 (by omega) (by omega); rw [pk_un (by omega), pk_un (by omega)] at this; exact this]
    iterate 3 refine Wp.step rfl ?_
    refine Wp.istW (k := 4 * b + 2) (v := mn (nI 9) (now (8 + b) + nI 1)) ha rfl (by simp only [pk_mul, nI_add]) (by omega) ?_
    rw [mA_mA, mA_same]
    have R4 := R3.upk (k := b) (i := 2) (by omega) (by omega) (mn (nI 9) (now (8 + b) + nI 1))
    have L4 : ∀ j, 110 ≤ j → upd W3 (4 * b + 2) (mn (nI 9) (now (8 + b) + nI 1)) j = ma M a j := fun j hj => by rw [pk_un (by omega)]; exact L3 j hj
    generalize upd W3 (4 * b + 2) (mn (nI 9) (now (8 + b) + nI 1)) = W4 at R4 L4 ⊢
    have R4 : RR N W4 (win3 now rt w b) := R4
    iterate 7 refine Wp.step rfl ?_
    refine Wp.ldM (k := 4 * (y % F) + 3) rfl rfl (by simp only [pk_mul, nI_add]) (by omega) (by decide) ?_
    rw [show ma (mA M1 a W4) 44 (4 * (y % F) + 3) = gr (4 * (y % F) + 3) by rw [mA_ne _ _ (by omega)]; exact e3 _ (by omega)]
    iterate 6 refine Wp.step rfl ?_
    refine Wp.ldW (k := 4 * b + 1) ha rfl (by simp only [pk_mul, nI_add]) (by omega) ?_
    rw [mA_same, R4.1 b 1 (by omega) (by omega), win3_at (by omega) (by omega) (by omega)]
    iterate 7 refine Wp.step rfl ?_
    have w19 : win3 now rt w b 19 = nI pg := (win3_19 (by omega) (by omega)).trans h19
    refine Wp.call (u1 := 0) rfl (Nat.zero_le _) (M_writes (pg := pg) (N := N) (now := win3 now rt w b) ha (by rw [mA_same]; exact R4) hN w19 hpg (fun j x1 x2 => by rw [win3_at (by omega) (by omega) (by omega)]; exact hpz j x1 x2) (fun W5 y1 y2 => ⟨_, _, rfl, ?_⟩))
    rw [mA_mA]
    rw [mA_same] at y2
    iterate 5 refine Wp.step rfl ?_
    refine Wp.ldW (k := 17) ha rfl rfl (by omega) ?_
    rw [mA_same, y1.2 17 (by omega) (by omega), wrP_lo (by omega), win3_at (j := 17) (by omega) (by omega) (by omega)]
    iterate 3 refine Wp.step rfl ?_
    refine Wp.istW (k := 17) (v := mn (nI 999) (now 17 + nI 1)) ha rfl rfl (by omega) ?_
    rw [mA_mA, mA_same]
    have R6 : RR N (upd W5 17 (mn (nI 999) (now 17 + nI 1))) (win5 now gr rt pg (y % F) w b) := y1.up (by omega) _
    have L6 : ∀ j, 110 ≤ j → upd W5 17 (mn (nI 999) (now 17 + nI 1)) j = ma M a j := fun j hj => by rw [pk_un (by omega), y2 j hj]; exact L4 j hj
    generalize upd W5 17 (mn (nI 999) (now 17 + nI 1)) = W6 at R6 L6 ⊢
    iterate 3 refine Wp.step rfl ?_
    refine Wp.ldW (k := 18) ha rfl rfl (by omega) ?_
    rw [mA_same, R6.2 18 (by omega) (by omega), win5_lo (by omega) (by omega) (by omega)]
    iterate 2 refine Wp.step rfl ?_
    refine Wp.istW (k := 18) (v := now 18 + nI 1) ha rfl rfl (by omega) ?_
    rw [mA_mA, mA_same]
    have R7 := R6.up (j := 18) (by omega) (now 18 + nI 1)
    have L7 : ∀ j, 110 ≤ j → upd W6 18 (now 18 + nI 1) j = ma M a j := fun j hj => by rw [pk_un (by omega)]; exact L6 j hj
    generalize upd W6 18 (now 18 + nI 1) = W7 at R7 L7 ⊢
    have q2 := q W7 R7 L7
    refine M_log (M := mA M1 a W7) (lg := lg) ha (by rw [mA_same]; exact (L7 110 (by omega)).trans h110) hlg ?_
    rw [mA_mA, mA_same]
    exact q2
  unfold btV tlV liveR at q1
  rw [pgN_of h19 hpg] at q1
  refine Wp.step rfl ?_
  match n with
  | 0 => exact won 0 ka kb _ (Or.inl ⟨rfl, rfl, rfl⟩) q1
  | 1 => exact won 1 kb ka _ (Or.inr ⟨rfl, rfl, rfl⟩) q1
  | n + 2 =>
    rw [if_neg (by omega), if_neg (by omega)] at q1
    iterate 2 refine Wp.step rfl ?_
    refine Wp.brF rfl (fun q => q rfl) ?_
    iterate 7 refine Wp.step rfl ?_
    refine Wp.brT rfl rfl ?_
    iterate 3 refine Wp.step rfl ?_
    refine Wp.ldW (k := 18) ha rfl rfl (by omega) ?_
    rw [hR1.2 18 (by omega) (by omega)]
    iterate 2 refine Wp.step rfl ?_
    refine Wp.istW (k := 18) (v := now 18 + nI 1) ha rfl rfl (by omega) ?_
    have R7 := hR1.up (j := 18) (by omega) (now 18 + nI 1)
    have L7 : ∀ j, 110 ≤ j → upd (ma M1 a) 18 (now 18 + nI 1) j = ma M a j := fun j hj => by rw [pk_un (by omega)]; exact hL1 j hj
    generalize upd (ma M1 a) 18 (now 18 + nI 1) = W7 at R7 L7 ⊢
    have q2 := q1 W7 R7 L7
    rw [if_neg (by omega)] at q2
    refine M_log (M := mA M1 a W7) (lg := lg) ha (by rw [mA_same]; exact (L7 110 (by omega)).trans h110) hlg ?_
    rw [mA_mA, mA_same]
    exact q2
