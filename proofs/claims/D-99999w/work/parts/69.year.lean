/-! THE LOG; a year in both -/
def logL (c : Nat → Int32) : Nat := if c 110 = nI 60 then 59 else (c 110).toNatClampNeg
def logC (c : Nat → Int32) : Nat → Int32 := if c 110 = nI 60 then upd (va_cpy c c 114 111 177) 110 (nI 59) else c
def logP (c : Nat → Int32) (f bt tl : Int32) : Nat → Int32 := upd (upd (upd (upd (logC c) (111 + 3 * logL c) f) (111 + 3 * logL c + 1) bt) (111 + 3 * logL c + 2) tl) 110 (nI (logL c + 1))
theorem logC_lo {c : Nat → Int32} {j : Nat} (h : j < 110) : logC c j = c j := by
  unfold logC
  split
  · rw [pk_un (by omega), cpy_lo (by omega)]
  · rfl
theorem logP_lo {c : Nat → Int32} {f bt tl : Int32} {j : Nat} (h : j < 110) : logP c f bt tl j = c j := by
  unfold logP
  rw [pk_un (by omega), pk_un (by omega), pk_un (by omega), pk_un (by omega), logC_lo h]
theorem logL_of {c : Nat → Int32} {lg : Nat} (h : c 110 = nI lg) (hl : lg ≤ 60) : logL c < 60 ∧ (lg = 60 ∧ logL c = 59 ∨ lg ≠ 60 ∧ logL c = lg) := by
  unfold logL
  rw [h]
  by_cases q : lg = 60
  · subst q; rw [if_pos rfl]; omega
  · rw [if_neg (fun z => q ((nI_eq (by omega) (by decide)).mp z)), nI_clamp (by omega)]; omega
theorem LI.log {c : Nat → Int32} (h : LI c) (f bt tl : Int32) : LI (logP c f bt tl) := by
  obtain ⟨lg, h1, h2⟩ := h
  have := (logL_of h2 h1).1
  exact ⟨logL c + 1, by omega, by unfold logP; rw [pk_us]⟩
theorem RI.ext {K F Y : Nat} {now now' : Nat → Int32} (h : RI K F Y now) (hK : K ≤ 4) (he : ∀ j, j < 110 → now' j = now j) : RI K F Y now' := by
  obtain ⟨h1, ⟨y, h2, h3⟩, pg, h4, h5, h6, h7⟩ := h
  refine ⟨fun k hk => ?_, ⟨y, h2, (he 18 (by omega)).trans h3⟩, pg, h4, (he 19 (by omega)).trans h5, fun i hi => by rw [he _ (by omega)]; exact h6 i hi, fun j a b => (he j b).trans (h7 j a b)⟩
  rw [he _ (by omega), he _ (by omega), he _ (by omega)]
  exact h1 k hk
theorem RR.log {w c : Nat → Int32} (h : RR 291 w c) (f bt tl : Int32) : RR 291 (logP w f bt tl) (logP c f bt tl) := by
  have h110 : w 110 = c 110 := h.2 110 (by omega) (by omega)
  have hL : logL w = logL c := by unfold logL; rw [h110]
  have hC : RR 291 (logC w) (logC c) := by
    unfold logC
    rw [h110]
    split
    · refine RR.up ⟨fun k i hk hi => ?_, fun j h1 h2 => ?_⟩ (by omega) _
      · rw [cpy_lo (by omega), cpy_lo (by omega)]; exact h.1 k i hk hi
      · unfold va_cpy
        split
        · exact h.2 _ (by omega) (by omega)
        · exact h.2 j h1 h2
    · exact h
  unfold logP
  rw [hL]
  exact (((hC.up (by omega) _).up (by omega) _).up (by omega) _).up (by omega) _
theorem RR.log110 {w c : Nat → Int32} (h : RR 110 w c) (f bt tl : Int32) : RR 110 (logP w f bt tl) c := by
  refine ⟨fun k i hk hi => ?_, fun j h1 h2 => ?_⟩
  · rw [logP_lo (by omega)]; exact h.1 k i hk hi
  · rw [logP_lo h2]; exact h.2 j h1 h2
theorem X_passYear {d u K F Y rt : Nat} {X : pmXs} {M : pmMs} {Z : pmZs} {Q : pmO → Prop} {gr : Nat → Int32} {lw : pmLw} (hd : 154 ≤ d) (hE : XE X Z K F gr rt lw) (hG : GE K F gr rt) (hF : 0 < F) (hI : RI K F Y (xa X 26)) (hY : Y < 2000) (hL : LI (xa X 26)) (hQ : ∀ l, LZ l → Q (.inl (some (.int (btP lw (xa X 26) gr F))), hp (xA (xA X 17 l) 26 (logP (liveP lw (xa X 26) gr F rt) (nI (fP (xa X 26) F)) (btP lw (xa X 26) gr F) (tlP lw (xa X 26) gr F))) M Z)) : Wp d u 54 0 (pm_entry 54 [.ref 14]) [] (hp X M Z) Q := by
  obtain ⟨d, rfl⟩ : ∃ d0, d = d0 + 2 := ⟨d - 2, by omega⟩
  obtain ⟨_, ⟨y, hy, h18⟩, pg, hpg, h19, _⟩ := id hI
  obtain ⟨lg, hlg, h110⟩ := hL
  have hf : y % F < F := Nat.mod_lt _ hF
  have hfP := fP_of (F := F) h18 (by omega)
  obtain ⟨a, b, g, t, a1, a2, a3, a4, a5, a6, a7, a8, a9⟩ := hG.2.2.2 (y % F) hf
  have hK := hG.1
  have hF8 := hG.2.1
  iterate 3 refine Wp.step rfl ?_
  refine Wp.ldX (k := 18) rfl rfl rfl (by decide) (by decide) ?_
  rw [h18]
  iterate 2 refine Wp.step rfl ?_
  rw [hE.2.1]
  refine Wp.stepP rfl (nI_ne0 hF (by omega)) ?_
  have e3 : nI y - nI y / nI F * nI F = nI (y % F) := pk_rem (by omega) hF (by omega)
  simp only [e3]
  iterate 2 refine Wp.step rfl ?_
  refine Wp.call (u1 := 0) rfl (Nat.zero_le _) (X_liveYear (by omega) hE hG hF hI hY (fun l z => ⟨_, _, rfl, ?_⟩))
  have q1 := hQ l z
  rw [hfP] at q1
  unfold tlP at q1
  have hbt : btP lw (xa X 26) gr F = btV (nP lw (xa X 26) gr F) a b := by unfold btP; rw [hfP, gN_of a6 (by omega), gN_of a7 (by omega)]
  have hlv : liveP lw (xa X 26) gr F rt = liveR (nP lw (xa X 26) gr F) (xa X 26) gr rt (y % F) a b := by unfold liveP; rw [hfP, gN_of a6 (by omega), gN_of a7 (by omega)]
  rw [hfP, gN_of a6 (by omega), gN_of a7 (by omega), hbt, hlv] at q1
  rw [hbt, hlv]
  generalize nP lw (xa X 26) gr F = n at q1 ⊢
  have c110 : liveR n (xa X 26) gr rt (y % F) a b 110 = nI lg := (liveR_hi (by omega) (by rw [pgN_of h19 hpg]; exact hpg) (by omega) (by omega)).trans h110
  have c4 : ∀ k, k < 4 → liveR n (xa X 26) gr rt (y % F) a b (4 + k) = xa X 26 (4 + k) := fun k hk => liveR_lo (by omega) (by omega) (by omega)
  generalize liveR n (xa X 26) gr rt (y % F) a b = c at q1 c110 c4 ⊢
  -- behind the shift
  have tail : ∀ (g : Nat → Int32) (p u' : Nat), g 110 = nI p → p < 60 → (∀ k, k < 4 → g (4 + k) = xa X 26 (4 + k)) → ∀ l3, Q (.inl (some (.int (btV n a b))), hp (xA (xA X 17 l) 26 (upd (upd (upd (upd g (111 + 3 * p) (nI (y % F))) (111 + 3 * p + 1) (btV n a b)) (111 + 3 * p + 2) (tlV n (xa X 26) gr (y % F) a b)) 110 (nI (p + 1)))) M Z) → Wp (d + 2) u' 54 76 [some (.ref 14), some (.int (nI (y % F))), some (.int (btV n a b)), l3] [] (hp (xA (xA X 17 l) 26 g) M Z) Q := by
    intro g p u' hg hp' hb l3 q
    iterate 5 refine Wp.step rfl ?_
    refine Wp.ldX (k := 110) rfl rfl rfl (by decide) (by decide) ?_
    rw [xA_same, hg]
    iterate 2 refine Wp.step rfl ?_
    have e1 : nI 111 + nI 3 * nI p = nI (111 + 3 * p) := by rw [pk_mul, nI_add]
    simp only [e1]
    iterate 5 refine Wp.step rfl ?_
    refine Wp.istX (k := 111 + 3 * p) rfl rfl rfl rfl (by omega) (by decide) ?_
    rw [xA_xA, xA_same]
    iterate 6 refine Wp.step rfl ?_
    refine Wp.istX (k := 111 + 3 * p + 1) rfl rfl rfl (nI_add _ 1) (by omega) (by decide) ?_
    rw [xA_xA, xA_same]
    iterate 7 refine Wp.step rfl ?_
    have fin : ∀ (v : Int32) (u2 : Nat), v = tlV n (xa X 26) gr (y % F) a b → Wp (d + 2) u2 54 136 [some (.ref 14), some (.int (nI (y % F))), some (.int (btV n a b)), some (.int (nI (111 + 3 * p)))] [.int v, .int (nI (111 + 3 * p) + nI 2), .ref 26] (hp (xA (xA X 17 l) 26 (upd (upd g (111 + 3 * p) (nI (y % F))) (111 + 3 * p + 1) (btV n a b))) M Z) Q := by
      intro v u2 hv
      subst hv
      refine Wp.istX (k := 111 + 3 * p + 2) rfl rfl rfl (nI_add _ 2) (by omega) (by decide) ?_
      rw [xA_xA, xA_same]
      iterate 4 refine Wp.step rfl ?_
      refine Wp.ldX (k := 110) rfl rfl rfl (by decide) (by decide) ?_
      rw [xA_same, pk_un (by omega), pk_un (by omega), pk_un (by omega), hg]
      iterate 2 refine Wp.step rfl ?_
      refine Wp.istX (k := 110) (v := nI p + nI 1) rfl rfl rfl rfl (by decide) (by decide) ?_
      rw [xA_xA, xA_same, nI_add]
      refine Wp.step rfl ?_
      exact Wp.fin rfl rfl q
    have won : ∀ (k u2 : Nat), k < 4 → btV n a b = nI k → tlV n (xa X 26) gr (y % F) a b = gr (4 * (y % F) + 3) + xa X 26 (4 + k) → Wp (d + 2) u2 54 121 [some (.ref 14), some (.int (nI (y % F))), some (.int (nI k)), some (.int (nI (111 + 3 * p)))] [.int (nI (111 + 3 * p) + nI 2), .ref 26] (hp (xA (xA X 17 l) 26 (upd (upd g (111 + 3 * p) (nI (y % F))) (111 + 3 * p + 1) (btV n a b))) M Z) Q := by
      intro k u2 hk h1 h2
      iterate 3 refine Wp.step rfl ?_
      refine Wp.call (u1 := 0) rfl (Nat.zero_le _) (X_of _ M Z (F := y % F) (K := 3) (by omega) ⟨_, _, rfl, ?_⟩)
      rw [show ∀ r, xa (xA (xA X 17 l) 26 r) 22 (4 * (y % F) + 3) = gr (4 * (y % F) + 3) from fun _ => hE.2.2.1 _ (by omega)]
      iterate 5 refine Wp.step rfl ?_
      refine Wp.ldX (k := 4 + k) rfl rfl (nI_add 4 k) (by omega) (by decide) ?_
      rw [xA_same, pk_un (by omega), pk_un (by omega), hb k hk]
      refine Wp.step rfl ?_
      have := fin _ u2 h2.symm
      rw [h1] at this
      rw [h1]
      exact this
    match n, fin, won with
    | 0, fin, won =>
      refine Wp.brT rfl (show ¬ nI b = -1 from nI_m1 (by omega)) ?_
      exact won b _ (by omega) rfl rfl
    | 1, fin, won =>
      refine Wp.brT rfl (show ¬ nI a = -1 from nI_m1 (by omega)) ?_
      exact won a _ (by omega) rfl rfl
    | n + 2, fin, won =>
      have hb1 : btV (n + 2) a b = -1 := if_neg (by omega)
      have hb2 : tlV (n + 2) (xa X 26) gr (y % F) a b = -1 := if_neg (by omega)
      refine Wp.brF rfl (fun z => z hb1) ?_
      iterate 2 refine Wp.step rfl ?_
      exact fin _ _ hb2.symm
  unfold logP at q1
  obtain ⟨hl1, hl2⟩ := logL_of c110 hlg
  iterate 4 refine Wp.step rfl ?_
  refine Wp.ldX (k := 110) rfl rfl rfl (by decide) (by decide) ?_
  rw [xA_same, c110]
  refine Wp.step rfl ?_
  rcases hl2 with ⟨rfl, hl2⟩ | ⟨hl3, hl2⟩
  · refine Wp.brF rfl (fun z => z rfl) ?_
    rw [hl2, show logC c = upd (va_cpy c c 114 111 177) 110 (nI 59) from if_pos c110] at q1
    iterate 2 refine Wp.step rfl ?_
    have k0 := cpy_S2 (g := c) (sp := 114) (dp := 111) 177 (fun j q => Wp (d + 2) (u - 0) 54 32 [some (.ref 14), some (.int (nI (y % F))), some (.int (btV n a b)), some (.int (nI (3 + j)))] [] (hp (xA (xA X 17 l) 26 q) M Z) Q) ?_ ?_
    · exact k0
    · iterate 2 refine Wp.step rfl ?_
      refine Wp.brT rfl (by decide) ?_
      iterate 4 refine Wp.step rfl ?_
      refine Wp.ldX (k := 110) rfl rfl rfl (by decide) (by decide) ?_
      rw [xA_same, cpy_lo (by omega), c110]
      iterate 2 refine Wp.step rfl ?_
      refine Wp.istX (k := 110) (v := nI 60 - nI 1) rfl rfl rfl rfl (by decide) (by decide) ?_
      rw [xA_xA, xA_same]
      exact tail _ 59 _ pk_us (by omega) (fun k hk => by rw [pk_un (by omega), cpy_lo (by omega)]; exact c4 k hk) _ q1
    · intro j hj k9
      rw [show 3 + (j + 1) = 3 + j + 1 by omega, ← nI_add (3 + j) 1] at k9
      iterate 2 refine Wp.step rfl ?_
      refine Wp.brF rfl (nI_ge (by omega) (by decide)) ?_
      iterate 12 refine Wp.step rfl ?_
      refine Wp.ldX (k := 114 + j) rfl rfl (by simp only [nI_add]; congr 1; omega) (by omega) (by decide) ?_
      rw [xA_same, cpy_up (by omega)]
      refine Wp.istX (k := 111 + j) rfl rfl rfl (by simp only [nI_add]; rw [pk_sub (by omega)]; congr 1; omega) (by omega) (by decide) ?_
      rw [xA_xA, xA_same]
      iterate 2 refine Wp.step rfl ?_
      exact k9
  · refine Wp.brT rfl (fun z => hl3 ((nI_eq (by omega) (by decide)).mp z)) ?_
    rw [hl2, show logC c = c from if_neg (by rw [c110]; exact fun z => hl3 ((nI_eq (by omega) (by decide)).mp z))] at q1
    exact tail c lg _ c110 (by omega) c4 _ q1
