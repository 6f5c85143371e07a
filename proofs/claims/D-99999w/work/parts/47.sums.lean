/-! PACKAGES: what both parsers do from one place on -/
section PKS
variable (t : Nat → Int32) (n : Nat)
def XokS (xm D K p e q : Nat) (F : (Nat → Int32) → Int32) : Prop := ∀ (d u : Nat) (X : pmXs) (M : pmMs) (Z : pmZs) (Q : pmO → Prop), D ≤ d → 12 * (q - p) ≤ u → XT X t n → (∀ N r, Ext Z.2.2.length Z.2.2 N → DenS K Z.2.2.length N.length r F N → Q (.inl (some (.ref (r + 59))), hp (PX X q e) M (zN Z N))) → Wp d u xm 0 (pm_entry xm [.ref 14]) [] (hp (PX X p e) M Z) Q
def MokS (mm D p e q : Nat) (F : (Nat → Int32) → Int32) : Prop := ∀ (d u : Nat) (X : pmXs) (M : pmMs) (Z : pmZs) (Q : pmO → Prop), D ≤ d → MT M t n → Q (.inl (some (.int (F (ma M 39)))), hp X (KM M (nI q) (nI e) (-1)) Z) → Wp d u mm 0 (pm_entry mm [.ref 35]) [] (hp X (KM M (nI p) (nI e) (-1)) Z) Q
def XflS (xm D p e q : Nat) : Prop := ∀ (d u : Nat) (X : pmXs) (M : pmMs) (Z : pmZs) (Q : pmO → Prop), D ≤ d → 12 * (q - p) + 12 ≤ u → XT X t n → (∀ N e', Ext Z.2.2.length Z.2.2 N → Q (.inr 2, hp (PX X q e') M (zN Z N))) → Wp d u xm 0 (pm_entry xm [.ref 14]) [] (hp (PX X p e) M Z) Q
def MflS (mm D p e q : Nat) : Prop := ∀ (d u : Nat) (X : pmXs) (M : pmMs) (Z : pmZs) (Q : pmO → Prop), D ≤ d → MT M t n → (∀ v a e', Q (.inl (some (.int v)), hp X (KM M a e' (nI q)) Z)) → Wp d u mm 0 (pm_entry mm [.ref 35]) [] (hp X (KM M (nI p) (nI e) (-1)) Z) Q
def PS (xm mm D K p e : Nat) : Prop := (∃ q F, p < q ∧ q ≤ n ∧ XokS t n xm D K p e q F ∧ MokS t n mm D p e q F) ∨ (∃ q, p ≤ q ∧ q ≤ n ∧ XflS t n xm D p e q ∧ MflS t n mm D p e q)
end PKS
theorem ch_ne {t : Nat → Int32} {n p : Nat} {c : Int32} (h : ch t n p = c) (hc : c ≠ -1) : p < n := ch_lt (by rw [h]; exact hc)
/-- a letter -/
theorem atom_letter {t : Nat → Int32} {n p e D K : Nat} {c : Int32} (hp' : p ≤ n) (hc : ch t n (lk t n p) = c) (hL : c ∈ LB) (hD : 8 ≤ D) : PS t n 118 227 D K p e := by
  obtain ⟨m, hm, rfl⟩ := LB_lt c hL
  have hn : lk t n p < n := ch_ne hc (nI_m1 (by omega))
  have hge := lk_ge t hp'
  obtain ⟨j, _, hj, hf⟩ := fnd_in LB 0 hL
  have hj2 : j < 6 := by simpa [LB] using hj
  have h91 : ¬ nI m = nI 91 := by
    intro q
    rw [q] at hL
    revert hL
    decide
  refine Or.inl ⟨lk t n p + 1, fun l => l m, by omega, by omega, ?_, ?_⟩
  · intro d u X M Z Q hd hu hT hQ
    obtain ⟨d, rfl⟩ : ∃ d0, d = d0 + 6 := ⟨d - 6, by omega⟩
    refine Wp.step rfl ?_
    refine Wp.call rfl (Nat.zero_le _) (X_look X M Z hT hp' ⟨_, _, rfl, ?_⟩)
    rw [hc]
    iterate 3 refine Wp.step rfl ?_
    refine Wp.brT rfl h91 ?_
    refine Wp.step rfl ?_
    refine Wp.brF rfl (nI_nle (by
      rcases Nat.eq_zero_or_pos m with q | q
      · subst q; exact absurd hL (by decide)
      · exact q) (by omega)) ?_
    iterate 2 refine Wp.step rfl ?_
    refine Wp.call (pm_call_v rfl rfl (SB4 _ _ _).1 rfl rfl) (Nat.zero_le _) (S_indexOf (SB4 _ _ _) (by decide) (nI_le (Nat.zero_le _) (by omega)) (nI_le (by omega) (by omega)) (low_LB m (by omega)) ⟨_, _, rfl, ?_⟩)
    rw [hf]
    refine Wp.brF rfl (nI_pos (by omega)) ?_
    iterate 5 refine Wp.step rfl ?_
    refine Wp.putX rfl rfl rfl ?_
    rw [PX_inc]
    refine Wp.newZ rfl rfl (by omega) ?_
    iterate 2 refine Wp.step rfl ?_
    refine Wp.call (u1 := 0) rfl (Nat.zero_le _) (Letter_init (w := 0) nth_end ⟨_, _, rfl, ?_⟩)
    refine Wp.fin rfl trivial (hQ _ _ (Ext.trans (Ext.app (Nat.le_refl _)) (Ext.set (Nat.le_refl _))) ?_)
    have h1 : pm_nth (pm_set (Z.2.2 ++ [.inr (4, pm_def 4)]) Z.2.2.length (.inr (4, [.int (nI m)]))) Z.2.2.length = some (.inr (4, [.int (nI m)])) := nth_set (by rw [len_end]; omega)
    exact DenS.mono (DenS_letter hm h1) (Nat.zero_le _) (Nat.le_refl _) (by simp only [zN, len_set, len_end]; omega) (Nat.le_refl _) (fun _ _ _ => rfl)
  · intro d u X M Z Q hd hT hQ
    obtain ⟨d, rfl⟩ : ∃ d0, d = d0 + 6 := ⟨d - 6, by omega⟩
    refine Wp.step rfl ?_
    refine Wp.call rfl (Nat.zero_le _) (M_look X M Z hT hp' ⟨_, _, rfl, ?_⟩)
    rw [hc]
    iterate 3 refine Wp.step rfl ?_
    refine Wp.call rfl (Nat.zero_le _) (M_isAmong (SB4 _ _ _) SA4 _ ⟨_, _, rfl, ?_⟩)
    rw [hf]
    refine Wp.brF rfl (by rw [show bI (nI j ≠ -1) = 1 from if_pos (nI_m1 (by omega))]; decide) ?_
    iterate 5 refine Wp.step rfl ?_
    refine Wp.putM rfl rfl rfl ?_
    rw [KM_inc]
    iterate 3 refine Wp.step rfl ?_
    refine Wp.ldM (k := m) rfl rfl rfl hm (by decide) ?_
    exact Wp.fin rfl rfl hQ
/-- neither a letter nor a bracket -/
theorem atom_else {t : Nat → Int32} {n p e D K : Nat} (hB : ∀ j, j < n → isB (t j)) (hp' : p ≤ n) (h91 : ch t n (lk t n p) ≠ nI 91) (hL : ch t n (lk t n p) ∉ LB) (hD : 8 ≤ D) : PS t n 118 227 D K p e := by
  have hge := lk_ge t hp'
  have hln := lk_n t hp'
  have hf := fnd_not LB 0 hL
  have key : ∀ {d u : Nat} {X : pmXs} {M : pmMs} {Z : pmZs} {Q : pmO → Prop}, 6 ≤ d → XT X t n → Wp d u 118 60 [some (.ref 14), some (.int (ch t n (lk t n p))), none, none] [] (hp (PX X (lk t n p) e) M Z) Q → Wp d u 118 0 (pm_entry 118 [.ref 14]) [] (hp (PX X p e) M Z) Q := by
    intro d u X M Z Q hd hT kk
    obtain ⟨d, rfl⟩ : ∃ d0, d = d0 + 6 := ⟨d - 6, by omega⟩
    refine Wp.step rfl ?_
    refine Wp.call rfl (Nat.zero_le _) (X_look X M Z hT hp' ⟨_, _, rfl, ?_⟩)
    iterate 3 refine Wp.step rfl ?_
    refine Wp.brT rfl h91 ?_
    refine Wp.step rfl ?_
    rcases ch_rng t n (lk t n p) with ⟨g1, _⟩ | ⟨_, m, g1, g2⟩
    · rw [g1] at kk ⊢
      exact Wp.brT rfl (by decide) kk
    · rw [g2] at kk hf ⊢
      rcases Nat.eq_zero_or_pos m with q | q
      · subst q
        exact Wp.brT rfl (by decide) kk
      refine Wp.brF rfl (nI_nle q (by omega)) ?_
      iterate 2 refine Wp.step rfl ?_
      refine Wp.call (pm_call_v rfl rfl (SB4 _ _ _).1 rfl rfl) (Nat.zero_le _) (S_indexOf (SB4 _ _ _) (by decide) (nI_le (Nat.zero_le _) (by omega)) (nI_le (by omega) (by omega)) (low_LB m g1) ⟨_, _, rfl, ?_⟩)
      rw [hf]
      exact Wp.brT rfl (by decide) kk
  have keyM : ∀ {d u : Nat} {X : pmXs} {M : pmMs} {Z : pmZs} {Q : pmO → Prop}, 6 ≤ d → MT M t n → Wp d u 227 74 [some (.ref 35), some (.int (ch t n (lk t n p))), none, none] [] (hp X (KM M (nI (lk t n p)) (nI e) (-1)) Z) Q → Wp d u 227 0 (pm_entry 227 [.ref 35]) [] (hp X (KM M (nI p) (nI e) (-1)) Z) Q := by
    intro d u X M Z Q hd hT kk
    obtain ⟨d, rfl⟩ : ∃ d0, d = d0 + 6 := ⟨d - 6, by omega⟩
    refine Wp.step rfl ?_
    refine Wp.call rfl (Nat.zero_le _) (M_look X M Z hT hp' ⟨_, _, rfl, ?_⟩)
    iterate 3 refine Wp.step rfl ?_
    refine Wp.call rfl (Nat.zero_le _) (M_isAmong (SB4 _ _ _) SA4 _ ⟨_, _, rfl, ?_⟩)
    rw [hf]
    refine Wp.brT rfl (by decide) ?_
    iterate 2 refine Wp.step rfl ?_
    exact Wp.brT rfl h91 kk
  by_cases hd : dg t n (lk t n p)
  · have hn := hd.1
    rcases digits (e := e) hB 4 0 rfl (lk t n p) (nI 0) hln with ⟨q, w, h1, h2, hlt, hX, hM⟩ | ⟨q, h1, h2, hX, hM⟩
    · have hlt := hlt hd
      refine Or.inl ⟨q, fun _ => w, by omega, h2, ?_, ?_⟩
      · intro d u X M Z Q hd2 hu hT hQ
        refine key (by omega) hT ?_
        obtain ⟨d, rfl⟩ : ∃ d0, d = d0 + 6 := ⟨d - 6, by omega⟩
        iterate 2 refine Wp.step rfl ?_
        refine Wp.call rfl (Nat.zero_le _) (X_isDigit _ ⟨_, _, rfl, ?_⟩)
        rw [show bI (isD (ch t n (lk t n p))) = 1 from if_pos ((dg_ch hB).mpr hd)]
        refine Wp.call rfl (Nat.zero_le _) (X_need1 ⟨_, _, rfl, ?_⟩)
        iterate 4 refine Wp.step rfl ?_
        exact hX _ _ X M Z Q _ (by omega) (by omega) hT (fun N a b => hQ N _ a (DenS.mono b (Nat.zero_le _) (Nat.le_refl _) (Nat.le_refl _) (Nat.le_refl _) (fun _ _ _ => rfl)))
      · intro d u X M Z Q hd2 hT hQ
        refine keyM (by omega) hT ?_
        obtain ⟨d, rfl⟩ : ∃ d0, d = d0 + 6 := ⟨d - 6, by omega⟩
        refine Wp.step rfl ?_
        refine Wp.call rfl (Nat.zero_le _) (M_isDigit1 X M Z hT hd ⟨_, _, rfl, ?_⟩)
        refine Wp.brT rfl (by decide) ?_
        iterate 4 refine Wp.step rfl ?_
        exact hM _ _ X M Z Q _ (by omega) hT hQ
    · refine Or.inr ⟨q, by omega, h2, ?_, ?_⟩
      · intro d u X M Z Q hd2 hu hT hQ
        refine key (by omega) hT ?_
        obtain ⟨d, rfl⟩ : ∃ d0, d = d0 + 6 := ⟨d - 6, by omega⟩
        iterate 2 refine Wp.step rfl ?_
        refine Wp.call rfl (Nat.zero_le _) (X_isDigit _ ⟨_, _, rfl, ?_⟩)
        rw [show bI (isD (ch t n (lk t n p))) = 1 from if_pos ((dg_ch hB).mpr hd)]
        refine Wp.call rfl (Nat.zero_le _) (X_need1 ⟨_, _, rfl, ?_⟩)
        iterate 4 refine Wp.step rfl ?_
        exact hX _ _ X M Z Q _ (by omega) hT (hQ Z.2.2 e (Ext.refl _ _))
      · intro d u X M Z Q hd2 hT hQ
        refine keyM (by omega) hT ?_
        obtain ⟨d, rfl⟩ : ∃ d0, d = d0 + 6 := ⟨d - 6, by omega⟩
        refine Wp.step rfl ?_
        refine Wp.call rfl (Nat.zero_le _) (M_isDigit1 X M Z hT hd ⟨_, _, rfl, ?_⟩)
        refine Wp.brT rfl (by decide) ?_
        iterate 4 refine Wp.step rfl ?_
        exact hM _ _ X M Z Q _ (by omega) hT (fun w => hQ w _ _)
  · refine Or.inr ⟨lk t n p, hge, hln, ?_, ?_⟩
    · intro d u X M Z Q hd2 hu hT hQ
      refine key (by omega) hT ?_
      obtain ⟨d, rfl⟩ : ∃ d0, d = d0 + 6 := ⟨d - 6, by omega⟩
      iterate 2 refine Wp.step rfl ?_
      refine Wp.call rfl (Nat.zero_le _) (X_isDigit _ ⟨_, _, rfl, ?_⟩)
      rw [show bI (isD (ch t n (lk t n p))) = 0 from if_neg (fun q => hd ((dg_ch hB).mp q))]
      refine Wp.callF rfl rfl (Nat.zero_le _) (X_need0 _ M Z (Or.inr ⟨_, _, rfl, hQ Z.2.2 e (Ext.refl _ _)⟩))
    · intro d u X M Z Q hd2 hT hQ
      refine keyM (by omega) hT ?_
      obtain ⟨d, rfl⟩ : ∃ d0, d = d0 + 6 := ⟨d - 6, by omega⟩
      refine Wp.step rfl ?_
      refine Wp.call rfl (Nat.zero_le _) (M_isDigit0 X M Z hT hln hd ⟨_, _, rfl, ?_⟩)
      refine Wp.brF rfl (fun q => q rfl) ?_
      refine Wp.step rfl ?_
      refine Wp.call rfl (Nat.zero_le _) (M_fails0 X M Z ⟨_, _, rfl, ?_⟩)
      iterate 6 refine Wp.step rfl ?_
      refine Wp.call rfl (Nat.zero_le _) (M_isDigit0 X M Z hT hln hd ⟨_, _, rfl, ?_⟩)
      refine Wp.brT rfl (by decide) ?_
      refine Wp.step rfl ?_
      exact Wp.fin rfl rfl (hQ _ _ _)
theorem KM_dec (M : pmMs) (p f : Int32) (e : Nat) : mI (KM M p (nI (e + 1)) f) 12 ((KM M p (nI (e + 1)) f).1 12 - nI 1) = KM M p (nI e) f := by rw [KM_12, pk_sub (by omega), Nat.add_sub_cancel, KM_e]
theorem PX_dec (X : pmXs) (p e : Nat) : xI (PX X p (e + 1)) 4 ((PX X p (e + 1)).1 4 - nI 1) = PX X p e := by rw [PX_4, pk_sub (by omega), Nat.add_sub_cancel, PX_e]
theorem atom_pk {t : Nat → Int32} {n p e D K D1 K1 : Nat} (hB : ∀ j, j < n → isB (t j)) (hp' : p ≤ n) (he : e ≤ 6) (hD : 8 ≤ D) (hS : e < 6 → ∀ p, p ≤ n → PS t n 108 215 D1 K1 p (e + 1)) (hD1 : D1 + 1 ≤ D) (hK : K1 ≤ K) : PS t n 118 227 D K p e := by
  by_cases h91 : ch t n (lk t n p) ≠ nI 91
  · by_cases hL : ch t n (lk t n p) ∈ LB
    · exact atom_letter hp' rfl hL hD
    · exact atom_else hB hp' h91 hL hD
  have h91 := Decidable.not_not.mp h91
  have hge := lk_ge t hp'
  have hln : lk t n p < n := ch_ne h91 (by decide)
  have hf : fnd (nI 91) 0 LB = -1 := fnd_not LB 0 (by decide)
  have hn240 : ∀ {X : pmXs}, XT X t n → n ≤ 240 := fun h => h.2.1
  have key : ∀ {d u : Nat} {X : pmXs} {M : pmMs} {Z : pmZs} {Q : pmO → Prop}, 6 ≤ d → XT X t n → Wp d u 118 11 [some (.ref 14), some (.int (nI 91)), none, none] [] (hp (PX X (lk t n p) e) M Z) Q → Wp d u 118 0 (pm_entry 118 [.ref 14]) [] (hp (PX X p e) M Z) Q := by
    intro d u X M Z Q hd hT kk
    obtain ⟨d, rfl⟩ : ∃ d0, d = d0 + 6 := ⟨d - 6, by omega⟩
    refine Wp.step rfl ?_
    refine Wp.call rfl (Nat.zero_le _) (X_look X M Z hT hp' ⟨_, _, rfl, ?_⟩)
    rw [h91]
    iterate 3 refine Wp.step rfl ?_
    exact Wp.brF rfl (fun q => q rfl) kk
  have keyM : ∀ {d u : Nat} {X : pmXs} {M : pmMs} {Z : pmZs} {Q : pmO → Prop}, 6 ≤ d → MT M t n → Wp d u 227 37 [some (.ref 35), some (.int (nI 91)), none, none] [] (hp X (KM M (nI (lk t n p)) (nI e) (-1)) Z) Q → Wp d u 227 0 (pm_entry 227 [.ref 35]) [] (hp X (KM M (nI p) (nI e) (-1)) Z) Q := by
    intro d u X M Z Q hd hT kk
    obtain ⟨d, rfl⟩ : ∃ d0, d = d0 + 6 := ⟨d - 6, by omega⟩
    refine Wp.step rfl ?_
    refine Wp.call rfl (Nat.zero_le _) (M_look X M Z hT hp' ⟨_, _, rfl, ?_⟩)
    rw [h91]
    iterate 3 refine Wp.step rfl ?_
    refine Wp.call rfl (Nat.zero_le _) (M_isAmong (SB4 _ _ _) SA4 _ ⟨_, _, rfl, ?_⟩)
    rw [hf]
    refine Wp.brT rfl (by decide) ?_
    iterate 2 refine Wp.step rfl ?_
    exact Wp.brF rfl (fun q => q rfl) kk
  by_cases he6 : e = 6
  · subst he6
    refine Or.inr ⟨lk t n p, hge, by omega, ?_, ?_⟩
    · intro d u X M Z Q hd hu hT hQ
      refine key (by omega) hT ?_
      obtain ⟨d, rfl⟩ : ∃ d0, d = d0 + 6 := ⟨d - 6, by omega⟩
      refine Wp.step rfl ?_
      refine Wp.callF rfl rfl (Nat.zero_le _) (X_opens0 X M Z (by decide) (by decide) (Or.inr ⟨_, _, rfl, hQ Z.2.2 6 (Ext.refl _ _)⟩))
    · intro d u X M Z Q hd hT hQ
      refine keyM (by omega) hT ?_
      obtain ⟨d, rfl⟩ : ∃ d0, d = d0 + 6 := ⟨d - 6, by omega⟩
      refine Wp.step rfl ?_
      refine Wp.call rfl (Nat.zero_le _) (M_goesIn0 X M Z ⟨_, _, rfl, ?_⟩)
      refine Wp.brF rfl (fun q => q rfl) ?_
      refine Wp.step rfl ?_
      exact Wp.fin rfl rfl (hQ _ _ _)
  rcases hS (by omega) (lk t n p + 1) (by omega) with ⟨q, F, h1, h2, hX, hM⟩ | ⟨q, h1, h2, hX, hM⟩
  · have hq := lk_ge t h2
    have hqn := lk_n t h2
    by_cases h93 : ch t n (lk t n q) = nI 93
    · have hq93 : lk t n q < n := ch_ne h93 (by decide)
      refine Or.inl ⟨lk t n q + 1, F, by omega, by omega, ?_, ?_⟩
      · intro d u X M Z Q hd hu hT hQ
        refine key (by omega) hT ?_
        obtain ⟨d, rfl⟩ : ∃ d0, d = d0 + 6 := ⟨d - 6, by omega⟩
        refine Wp.step rfl ?_
        refine Wp.call rfl (Nat.zero_le _) (X_opens1 X M Z (by omega) ⟨_, _, rfl, ?_⟩)
        refine Wp.step rfl ?_
        refine Wp.call (u1 := 12 * (q - (lk t n p + 1))) rfl (by omega) (hX _ _ X M Z _ (by omega) (Nat.le_refl _) hT (fun N r a b => ⟨_, _, rfl, ?_⟩))
        iterate 3 refine Wp.step rfl ?_
        refine Wp.call rfl (Nat.zero_le _) (X_closes1 X M _ hT h2 h93 ⟨_, _, rfl, ?_⟩)
        refine Wp.step rfl ?_
        exact Wp.fin rfl trivial (hQ N r a (DenS.mono b hK (Nat.le_refl _) (Nat.le_refl _) (Nat.le_refl _) (fun _ _ _ => rfl)))
      · intro d u X M Z Q hd hT hQ
        refine keyM (by omega) hT ?_
        obtain ⟨d, rfl⟩ : ∃ d0, d = d0 + 6 := ⟨d - 6, by omega⟩
        refine Wp.step rfl ?_
        refine Wp.call rfl (Nat.zero_le _) (M_goesIn1 X M Z (by omega) ⟨_, _, rfl, ?_⟩)
        refine Wp.brT rfl (by decide) ?_
        refine Wp.step rfl ?_
        refine Wp.call (u1 := 0) rfl (Nat.zero_le _) (hM _ _ X M Z _ (by omega) hT ⟨_, _, rfl, ?_⟩)
        iterate 3 refine Wp.step rfl ?_
        refine Wp.call rfl (Nat.zero_le _) (M_takes1 X M Z hT h2 h93 ⟨_, _, rfl, ?_⟩)
        refine Wp.brT rfl (by decide) ?_
        iterate 5 refine Wp.step rfl ?_
        refine Wp.putM rfl rfl rfl ?_
        rw [KM_dec]
        refine Wp.step rfl ?_
        exact Wp.fin rfl rfl hQ
    · refine Or.inr ⟨lk t n q, by omega, hqn, ?_, ?_⟩
      · intro d u X M Z Q hd hu hT hQ
        refine key (by omega) hT ?_
        obtain ⟨d, rfl⟩ : ∃ d0, d = d0 + 6 := ⟨d - 6, by omega⟩
        refine Wp.step rfl ?_
        refine Wp.call rfl (Nat.zero_le _) (X_opens1 X M Z (by omega) ⟨_, _, rfl, ?_⟩)
        refine Wp.step rfl ?_
        refine Wp.call (u1 := 12 * (q - (lk t n p + 1))) rfl (by omega) (hX _ _ X M Z _ (by omega) (Nat.le_refl _) hT (fun N r a b => ⟨_, _, rfl, ?_⟩))
        iterate 3 refine Wp.step rfl ?_
        refine Wp.callF rfl rfl (Nat.zero_le _) (X_closes0 X M _ hT h2 h93 (Or.inr ⟨_, _, rfl, hQ N _ a⟩))
      · intro d u X M Z Q hd hT hQ
        refine keyM (by omega) hT ?_
        obtain ⟨d, rfl⟩ : ∃ d0, d = d0 + 6 := ⟨d - 6, by omega⟩
        refine Wp.step rfl ?_
        refine Wp.call rfl (Nat.zero_le _) (M_goesIn1 X M Z (by omega) ⟨_, _, rfl, ?_⟩)
        refine Wp.brT rfl (by decide) ?_
        refine Wp.step rfl ?_
        refine Wp.call (u1 := 0) rfl (Nat.zero_le _) (hM _ _ X M Z _ (by omega) hT ⟨_, _, rfl, ?_⟩)
        iterate 3 refine Wp.step rfl ?_
        refine Wp.call rfl (Nat.zero_le _) (M_takes0 X M Z hT h2 h93 ⟨_, _, rfl, ?_⟩)
        refine Wp.brF rfl (fun q => q rfl) ?_
        refine Wp.step rfl ?_
        exact Wp.fin rfl rfl (hQ _ _ _)
  · refine Or.inr ⟨q, by omega, h2, ?_, ?_⟩
    · intro d u X M Z Q hd hu hT hQ
      refine key (by omega) hT ?_
      obtain ⟨d, rfl⟩ : ∃ d0, d = d0 + 6 := ⟨d - 6, by omega⟩
      refine Wp.step rfl ?_
      refine Wp.call rfl (Nat.zero_le _) (X_opens1 X M Z (by omega) ⟨_, _, rfl, ?_⟩)
      refine Wp.step rfl ?_
      refine Wp.callF (u1 := u) rfl rfl (Nat.le_refl _) (hX _ _ X M Z _ (by omega) (by omega) hT (fun N e' a => Or.inr ⟨_, _, rfl, hQ N e' a⟩))
    · intro d u X M Z Q hd hT hQ
      refine keyM (by omega) hT ?_
      obtain ⟨d, rfl⟩ : ∃ d0, d = d0 + 6 := ⟨d - 6, by omega⟩
      refine Wp.step rfl ?_
      refine Wp.call rfl (Nat.zero_le _) (M_goesIn1 X M Z (by omega) ⟨_, _, rfl, ?_⟩)
      refine Wp.brT rfl (by decide) ?_
      refine Wp.step rfl ?_
      refine Wp.call (u1 := 0) rfl (Nat.zero_le _) (hM _ _ X M Z _ (by omega) hT (fun v a e' => ⟨_, _, rfl, ?_⟩))
      iterate 3 refine Wp.step rfl ?_
      refine Wp.call rfl (Nat.zero_le _) (M_takesF X M Z (nI_m1 (by have := MT_le hT; omega)) ⟨_, _, rfl, ?_⟩)
      refine Wp.brF rfl (fun q => q rfl) ?_
      refine Wp.step rfl ?_
      exact Wp.fin rfl rfl (hQ _ _ _)
