/-! PACKAGES of tests -/
section PKT
variable (t : Nat → Int32) (n : Nat)
def XokT (xm : Nat) (xs : List Value) (D K p e q : Nat) (P : (Nat → Int32) → Bool) : Prop := ∀ (d u : Nat) (X : pmXs) (M : pmMs) (Z : pmZs) (Q : pmO → Prop), D ≤ d → 12 * (q - p) ≤ u → XT X t n → (∀ N r, Ext Z.2.2.length Z.2.2 N → DenT K Z.2.2.length N.length r P N → Q (.inl (some (.ref (r + 59))), hp (PX X q e) M (zN Z N))) → Wp d u xm 0 (pm_entry xm xs) [] (hp (PX X p e) M Z) Q
def MokT (mm : Nat) (ms : List Value) (D p e q : Nat) (P : (Nat → Int32) → Bool) : Prop := ∀ (d u : Nat) (X : pmXs) (M : pmMs) (Z : pmZs) (Q : pmO → Prop), D ≤ d → MT M t n → Q (.inl (some (.int (bB (P (ma M 39))))), hp X (KM M (nI q) (nI e) (-1)) Z) → Wp d u mm 0 (pm_entry mm ms) [] (hp X (KM M (nI p) (nI e) (-1)) Z) Q
def XflT (xm : Nat) (xs : List Value) (D p e q : Nat) : Prop := ∀ (d u : Nat) (X : pmXs) (M : pmMs) (Z : pmZs) (Q : pmO → Prop), D ≤ d → 12 * (q - p) + 12 ≤ u → XT X t n → (∀ N e', Ext Z.2.2.length Z.2.2 N → Q (.inr 2, hp (PX X q e') M (zN Z N))) → Wp d u xm 0 (pm_entry xm xs) [] (hp (PX X p e) M Z) Q
def MflT (mm : Nat) (ms : List Value) (D p e q : Nat) : Prop := ∀ (d u : Nat) (X : pmXs) (M : pmMs) (Z : pmZs) (Q : pmO → Prop), D ≤ d → MT M t n → (∀ b a e', Q (.inl (some (.int (bB b))), hp X (KM M a e' (nI q)) Z)) → Wp d u mm 0 (pm_entry mm ms) [] (hp X (KM M (nI p) (nI e) (-1)) Z) Q
def PT (xm : Nat) (xs : List Value) (mm : Nat) (ms : List Value) (D K p e : Nat) : Prop := (∃ q P, p < q ∧ q ≤ n ∧ XokT t n xm xs D K p e q P ∧ MokT t n mm ms D p e q P) ∨ (∃ q, p ≤ q ∧ q ≤ n ∧ XflT t n xm xs D p e q ∧ MflT t n mm ms D p e q)
/-- the comparison behind a sum that is read already -/
def XokC (D K p e q : Nat) (sg : Int32) (F1 : (Nat → Int32) → Int32) : Prop := ∀ (d u : Nat) (X : pmXs) (M : pmMs) (Z : pmZs) (Q : pmO → Prop) (lo s : Nat) (F0 : (Nat → Int32) → Int32), D ≤ d → 12 * (q - p) ≤ u → XT X t n → lo ≤ Z.2.2.length → DenS K lo Z.2.2.length s F0 Z.2.2 → (∀ N r, Ext lo Z.2.2 N → DenT (K + 1) lo N.length r (fun l => cmpS sg (F0 l) (F1 l)) N → Q (.inl (some (.ref (r + 59))), hp (PX X q e) M (zN Z N))) → Wp d u 120 0 (pm_entry 120 [.ref 14, .ref (s + 59)]) [] (hp (PX X p e) M Z) Q
def MokC (D p e q : Nat) (sg : Int32) (F1 : (Nat → Int32) → Int32) : Prop := ∀ (d u : Nat) (X : pmXs) (M : pmMs) (Z : pmZs) (Q : pmO → Prop) (v : Int32) (l1 l2 l4 l5 : Option Value), D ≤ d → MT M t n → Q (.inl (some (.int (bB (cmpS sg v (F1 (ma M 39)))))), hp X (KM M (nI q) (nI e) (-1)) Z) → Wp d u 225 13 [some (.ref 35), l1, l2, some (.int v), l4, l5] [] (hp X (KM M (nI p) (nI e) (-1)) Z) Q
def XflC (D K p e q : Nat) : Prop := ∀ (d u : Nat) (X : pmXs) (M : pmMs) (Z : pmZs) (Q : pmO → Prop) (s : Nat), D ≤ d → 12 * (q - p) + 12 ≤ u → XT X t n → (∀ N e', Ext Z.2.2.length Z.2.2 N → Q (.inr 2, hp (PX X q e') M (zN Z N))) → Wp d u 120 0 (pm_entry 120 [.ref 14, .ref (s + 59)]) [] (hp (PX X p e) M Z) Q
def MflC (D p e q : Nat) : Prop := ∀ (d u : Nat) (X : pmXs) (M : pmMs) (Z : pmZs) (Q : pmO → Prop) (v : Int32) (l1 l2 l4 l5 : Option Value), D ≤ d → MT M t n → (∀ b a e', Q (.inl (some (.int (bB b))), hp X (KM M a e' (nI q)) Z)) → Wp d u 225 13 [some (.ref 35), l1, l2, some (.int v), l4, l5] [] (hp X (KM M (nI p) (nI e) (-1)) Z) Q
def PC (D K p e : Nat) : Prop := (∃ q sg F1, p < q ∧ q ≤ n ∧ XokC t n D K p e q sg F1 ∧ MokC t n D p e q sg F1) ∨ (∃ q, p ≤ q ∧ q ≤ n ∧ XflC t n D K p e q ∧ MflC t n D p e q)
end PKT
theorem M_cmp_end {d u : Nat} {X : pmXs} {M : pmMs} {Z : pmZs} {Q : pmO → Prop} {v w sg : Int32} {l1 l2 : Option Value} (hQ : Q (.inl (some (.int (bB (cmpS sg v w)))), hp X M Z)) : Wp d u 225 58 [some (.ref 35), l1, l2, some (.int v), some (.int sg), some (.int w)] [] (hp X M Z) Q := by
  unfold cmpS at hQ
  iterate 2 refine Wp.step rfl ?_
  by_cases h1 : sg = nI 61
  · refine Wp.brF rfl (fun q => q h1) ?_
    rw [if_pos h1] at hQ
    iterate 2 refine Wp.step rfl ?_
    refine Wp.br rfl (fun h2 => ?_) (fun h2 => ?_)
    · rw [decide_eq_false h2] at hQ
      iterate 2 refine Wp.step rfl ?_
      exact Wp.finZ rfl (Or.inl rfl) hQ
    · rw [decide_eq_true (Decidable.not_not.mp h2)] at hQ
      iterate 2 refine Wp.step rfl ?_
      exact Wp.finZ rfl (Or.inr rfl) hQ
  refine Wp.brT rfl h1 ?_
  rw [if_neg h1] at hQ
  iterate 2 refine Wp.step rfl ?_
  by_cases h2 : sg = nI 60
  · refine Wp.brF rfl (fun q => q h2) ?_
    rw [if_pos h2] at hQ
    iterate 2 refine Wp.step rfl ?_
    refine Wp.br rfl (fun h3 => ?_) (fun h3 => ?_)
    · rw [decide_eq_false (Int32.not_lt.mpr h3)] at hQ
      iterate 2 refine Wp.step rfl ?_
      exact Wp.finZ rfl (Or.inl rfl) hQ
    · rw [decide_eq_true (Int32.not_le.mp h3)] at hQ
      iterate 2 refine Wp.step rfl ?_
      exact Wp.finZ rfl (Or.inr rfl) hQ
  refine Wp.brT rfl h2 ?_
  rw [if_neg h2] at hQ
  iterate 2 refine Wp.step rfl ?_
  refine Wp.br rfl (fun h3 => ?_) (fun h3 => ?_)
  · rw [decide_eq_false (Int32.not_lt.mpr h3)] at hQ
    refine Wp.step rfl ?_
    exact Wp.finZ rfl (Or.inl rfl) hQ
  · rw [decide_eq_true (Int32.not_le.mp h3)] at hQ
    iterate 2 refine Wp.step rfl ?_
    exact Wp.finZ rfl (Or.inr rfl) hQ
theorem cmp_pk {t : Nat → Int32} {n p e D K D' : Nat} (hp' : p ≤ n) (hS : ∀ p, p ≤ n → PS t n 108 215 D K p e) (hD : D + 1 ≤ D') (h4 : 4 ≤ D') : PC t n D' K p e := by
  have hge := lk_ge t hp'
  have hln := lk_n t hp'
  by_cases hs : isS (ch t n (lk t n p))
  · have hlt : lk t n p < n := ch_lt (by rcases hs with h | h | h <;> rw [h] <;> decide)
    rcases hS (lk t n p + 1) (by omega) with ⟨q, F1, a1, a2, aX, aM⟩ | ⟨q, a1, a2, aX, aM⟩
    · refine Or.inl ⟨q, ch t n (lk t n p), F1, by omega, a2, ?_, ?_⟩
      · intro d u X M Z Q lo s F0 hd hu hT hlo hDs hQ
        obtain ⟨d, rfl⟩ : ∃ d0, d = d0 + 4 := ⟨d - 4, by omega⟩
        refine Wp.step rfl ?_
        refine Wp.call rfl (Nat.zero_le _) (X_look X M Z hT hp' ⟨_, _, rfl, ?_⟩)
        iterate 3 refine Wp.step rfl ?_
        refine Wp.call rfl (Nat.zero_le _) (X_isSign _ ⟨_, _, rfl, ?_⟩)
        rw [show bI (isS (ch t n (lk t n p))) = 1 from if_pos hs]
        refine Wp.call rfl (Nat.zero_le _) (X_need1 ⟨_, _, rfl, ?_⟩)
        iterate 5 refine Wp.step rfl ?_
        refine Wp.putX rfl rfl rfl ?_
        rw [PX_inc]
        refine Wp.newZ rfl rfl (by omega) ?_
        iterate 4 refine Wp.step rfl ?_
        have hl1 : (Z.2.2 ++ ([.inr (10, pm_def 10)] : List va_E)).length = Z.2.2.length + 1 := len_end
        refine Wp.call (u1 := 12 * (q - (lk t n p + 1))) rfl (by omega) (aX _ _ X M _ _ (by omega) (Nat.le_refl _) hT (fun N2 r2 hE hD2 => ⟨_, _, rfl, ?_⟩))
        have hE0 : Ext (Z.2.2 ++ ([.inr (10, pm_def 10)] : List va_E)).length (Z.2.2 ++ ([.inr (10, pm_def 10)] : List va_E)) N2 := hE
        rw [hl1] at hE0
        have hE' : ∀ i, i < Z.2.2.length + 1 → pm_nth N2 i = pm_nth (Z.2.2 ++ ([.inr (10, pm_def 10)] : List va_E)) i := hE0.2
        have hr2 : pm_nth N2 Z.2.2.length = some (.inr (10, [.null, .int 0, .null, .null])) := (hE' _ (by omega)).trans nth_end
        have hD3 : DenS K (Z.2.2.length + 1) N2.length r2 F1 N2 := hl1 ▸ hD2
        refine Wp.call (u1 := 0) rfl (Nat.zero_le _) (Compare_init hr2 (fun N5 g1 g2 g3 => ⟨_, _, rfl, ?_⟩))
        have hlen : N5.length = N2.length := g1
        refine Wp.fin rfl trivial (hQ N5 _ ?_ ?_)
        · have := hE0.1
          refine ⟨by rw [hlen]; omega, fun i hi => ?_⟩
          rw [g3 i (by omega)]
          show pm_nth N2 i = _
          rw [hE' i (by omega), nth_app (by omega)]
        · rw [hlen]
          exact DenT_cmp hDs (Nat.le_refl _) hD3 g2 (by omega) (fun i hi => by rw [hE' i (by omega), nth_app hi]) (fun i _ hi => g3 i hi)
      · intro d u X M Z Q v l1 l2 l4 l5 hd hT hQ
        obtain ⟨d, rfl⟩ : ∃ d0, d = d0 + 4 := ⟨d - 4, by omega⟩
        iterate 3 refine Wp.step rfl ?_
        refine Wp.brT rfl rfl ?_
        refine Wp.step rfl ?_
        refine Wp.call rfl (Nat.zero_le _) (M_look X M Z hT hp' ⟨_, _, rfl, ?_⟩)
        iterate 2 refine Wp.step rfl ?_
        refine Wp.call rfl (Nat.zero_le _) (M_isSign _ ⟨_, _, rfl, ?_⟩)
        rw [show bI (isS (ch t n (lk t n p))) = 1 from if_pos hs]
        refine Wp.brT rfl (by decide) ?_
        iterate 5 refine Wp.step rfl ?_
        refine Wp.putM rfl rfl rfl ?_
        rw [KM_inc]
        refine Wp.step rfl ?_
        refine Wp.call (u1 := 0) rfl (Nat.zero_le _) (aM _ _ X M Z _ (by omega) hT ⟨_, _, rfl, ?_⟩)
        refine Wp.step rfl ?_
        exact M_cmp_end hQ
    · refine Or.inr ⟨q, by omega, a2, ?_, ?_⟩
      · intro d u X M Z Q s hd hu hT hQ
        obtain ⟨d, rfl⟩ : ∃ d0, d = d0 + 4 := ⟨d - 4, by omega⟩
        refine Wp.step rfl ?_
        refine Wp.call rfl (Nat.zero_le _) (X_look X M Z hT hp' ⟨_, _, rfl, ?_⟩)
        iterate 3 refine Wp.step rfl ?_
        refine Wp.call rfl (Nat.zero_le _) (X_isSign _ ⟨_, _, rfl, ?_⟩)
        rw [show bI (isS (ch t n (lk t n p))) = 1 from if_pos hs]
        refine Wp.call rfl (Nat.zero_le _) (X_need1 ⟨_, _, rfl, ?_⟩)
        iterate 5 refine Wp.step rfl ?_
        refine Wp.putX rfl rfl rfl ?_
        rw [PX_inc]
        refine Wp.newZ rfl rfl (by omega) ?_
        iterate 4 refine Wp.step rfl ?_
        refine Wp.callF (u1 := 12 * (q - (lk t n p + 1)) + 12) rfl rfl (by omega) (aX _ _ X M _ _ (by omega) (Nat.le_refl _) hT (fun N2 e' hE => Or.inr ⟨_, _, rfl, hQ N2 e' ?_⟩))
        exact (Ext.app (Nat.le_refl _)).trans (hE.less (by simp only [zN, len_end]; omega))
      · intro d u X M Z Q v l1 l2 l4 l5 hd hT hQ
        obtain ⟨d, rfl⟩ : ∃ d0, d = d0 + 4 := ⟨d - 4, by omega⟩
        iterate 3 refine Wp.step rfl ?_
        refine Wp.brT rfl rfl ?_
        refine Wp.step rfl ?_
        refine Wp.call rfl (Nat.zero_le _) (M_look X M Z hT hp' ⟨_, _, rfl, ?_⟩)
        iterate 2 refine Wp.step rfl ?_
        refine Wp.call rfl (Nat.zero_le _) (M_isSign _ ⟨_, _, rfl, ?_⟩)
        rw [show bI (isS (ch t n (lk t n p))) = 1 from if_pos hs]
        refine Wp.brT rfl (by decide) ?_
        iterate 5 refine Wp.step rfl ?_
        refine Wp.putM rfl rfl rfl ?_
        rw [KM_inc]
        refine Wp.step rfl ?_
        refine Wp.call (u1 := 0) rfl (Nat.zero_le _) (aM _ _ X M Z _ (by omega) hT (fun w a e' => ⟨_, _, rfl, ?_⟩))
        refine Wp.step rfl ?_
        exact M_cmp_end (hQ _ _ _)
  · refine Or.inr ⟨lk t n p, hge, hln, ?_, ?_⟩
    · intro d u X M Z Q s hd hu hT hQ
      obtain ⟨d, rfl⟩ : ∃ d0, d = d0 + 4 := ⟨d - 4, by omega⟩
      refine Wp.step rfl ?_
      refine Wp.call rfl (Nat.zero_le _) (X_look X M Z hT hp' ⟨_, _, rfl, ?_⟩)
      iterate 3 refine Wp.step rfl ?_
      refine Wp.call rfl (Nat.zero_le _) (X_isSign _ ⟨_, _, rfl, ?_⟩)
      rw [show bI (isS (ch t n (lk t n p))) = 0 from if_neg hs]
      refine Wp.callF rfl rfl (Nat.zero_le _) (X_need0 _ M Z (Or.inr ⟨_, _, rfl, hQ Z.2.2 e (Ext.refl _ _)⟩))
    · intro d u X M Z Q v l1 l2 l4 l5 hd hT hQ
      obtain ⟨d, rfl⟩ : ∃ d0, d = d0 + 4 := ⟨d - 4, by omega⟩
      iterate 3 refine Wp.step rfl ?_
      refine Wp.brT rfl rfl ?_
      refine Wp.step rfl ?_
      refine Wp.call rfl (Nat.zero_le _) (M_look X M Z hT hp' ⟨_, _, rfl, ?_⟩)
      iterate 2 refine Wp.step rfl ?_
      refine Wp.call rfl (Nat.zero_le _) (M_isSign _ ⟨_, _, rfl, ?_⟩)
      rw [show bI (isS (ch t n (lk t n p))) = 0 from if_neg hs]
      refine Wp.brF rfl (fun q => q rfl) ?_
      refine Wp.step rfl ?_
      refine Wp.call rfl (Nat.zero_le _) (M_fails0 X M Z ⟨_, _, rfl, ?_⟩)
      exact Wp.finZ rfl (Or.inl rfl) (hQ false _ _)
theorem unit_pk {t : Nat → Int32} {n p e D K D1 K1 DS KS DC : Nat} (hp' : p ≤ n) (he : e ≤ 6) (hD8 : 6 ≤ D) (hU : e < 6 → ∀ p, p ≤ n → PT t n 119 [.ref 14] 226 [.ref 35] D1 K1 p (e + 1)) (hC : e < 6 → ∀ p, p ≤ n → PT t n 110 [.ref 14, .null] 214 [.ref 35, .int (nI 0), .int (nI 0)] D1 K1 p (e + 1)) (hS : ∀ p, p ≤ n → PS t n 108 215 DS KS p e) (hP : ∀ p, p ≤ n → PC t n DC KS p e) (hD1 : D1 + 1 ≤ D) (hDS : DS + 2 ≤ D) (hDC : DC + 1 ≤ D) (hK1 : K1 + 1 ≤ K) (hKS : KS + 1 ≤ K) : PT t n 119 [.ref 14] 226 [.ref 35] D K p e := by
  have hge := lk_ge t hp'
  have hln := lk_n t hp'
  by_cases h33 : ch t n (lk t n p) = nI 33
  · have hlt : lk t n p < n := ch_ne h33 (by decide)
    have key : ∀ {d u : Nat} {X : pmXs} {M : pmMs} {Z : pmZs} {Q : pmO → Prop}, 6 ≤ d → XT X t n → Wp d u 119 11 [some (.ref 14), some (.int (nI 33)), none] [] (hp (PX X (lk t n p) e) M Z) Q → Wp d u 119 0 (pm_entry 119 [.ref 14]) [] (hp (PX X p e) M Z) Q := by
      intro d u X M Z Q hd hT kk
      obtain ⟨d, rfl⟩ : ∃ d0, d = d0 + 6 := ⟨d - 6, by omega⟩
      refine Wp.step rfl ?_
      refine Wp.call rfl (Nat.zero_le _) (X_look X M Z hT hp' ⟨_, _, rfl, ?_⟩)
      rw [h33]
      iterate 3 refine Wp.step rfl ?_
      exact Wp.brF rfl (fun q => q rfl) kk
    have keyM : ∀ {d u : Nat} {X : pmXs} {M : pmMs} {Z : pmZs} {Q : pmO → Prop}, 6 ≤ d → MT M t n → Wp d u 226 11 [some (.ref 35), some (.int (nI 33)), none] [] (hp X (KM M (nI (lk t n p)) (nI e) (-1)) Z) Q → Wp d u 226 0 (pm_entry 226 [.ref 35]) [] (hp X (KM M (nI p) (nI e) (-1)) Z) Q := by
      intro d u X M Z Q hd hT kk
      obtain ⟨d, rfl⟩ : ∃ d0, d = d0 + 6 := ⟨d - 6, by omega⟩
      refine Wp.step rfl ?_
      refine Wp.call rfl (Nat.zero_le _) (M_look X M Z hT hp' ⟨_, _, rfl, ?_⟩)
      rw [h33]
      iterate 3 refine Wp.step rfl ?_
      exact Wp.brF rfl (fun q => q rfl) kk
    by_cases he6 : e = 6
    · subst he6
      refine Or.inr ⟨lk t n p, hge, by omega, ?_, ?_⟩
      · intro d u X M Z Q hd hu hT hQ
        refine key (by omega) hT ?_
        obtain ⟨d, rfl⟩ : ∃ d0, d = d0 + 6 := ⟨d - 6, by omega⟩
        refine Wp.step rfl ?_
        refine Wp.callF rfl rfl (Nat.zero_le _) (X_opens0 X M Z (by decide) (by decide) (Or.inr ⟨_, _, rfl, hQ Z.2.2 6 (Ext.refl _ _)⟩))
      · intro d u X M Z Q hd hT hQ
        refine keyM (by omega) hT ?_
        obtain ⟨d, rfl⟩ : ∃ d0, d = d0 + 6 := ⟨d - 6, by omega⟩
        refine Wp.step rfl ?_
        refine Wp.call rfl (Nat.zero_le _) (M_goesIn0 X M Z ⟨_, _, rfl, ?_⟩)
        refine Wp.brF rfl (fun q => q rfl) ?_
        refine Wp.step rfl ?_
        exact Wp.finZ rfl (Or.inl rfl) (hQ false _ _)
    rcases hU (by omega) (lk t n p + 1) (by omega) with ⟨q, P, h1, h2, hX, hM⟩ | ⟨q, h1, h2, hX, hM⟩
    · refine Or.inl ⟨q, fun l => !P l, by omega, h2, ?_, ?_⟩
      · intro d u X M Z Q hd hu hT hQ
        refine key (by omega) hT ?_
        obtain ⟨d, rfl⟩ : ∃ d0, d = d0 + 6 := ⟨d - 6, by omega⟩
        refine Wp.step rfl ?_
        refine Wp.call rfl (Nat.zero_le _) (X_opens1 X M Z (by omega) ⟨_, _, rfl, ?_⟩)
        refine Wp.step rfl ?_
        refine Wp.call (u1 := 12 * (q - (lk t n p + 1))) rfl (by omega) (hX _ _ X M Z _ (by omega) (Nat.le_refl _) hT (fun N r a b => ⟨_, _, rfl, ?_⟩))
        iterate 6 refine Wp.step rfl ?_
        refine Wp.putX rfl rfl rfl ?_
        rw [PX_dec]
        refine Wp.newZ rfl rfl (by omega) ?_
        iterate 2 refine Wp.step rfl ?_
        refine Wp.call (u1 := 0) rfl (Nat.zero_le _) (Not_init (a := .null) (b := .null) nth_end ⟨_, _, rfl, ?_⟩)
        have hE2 : Ext N.length N (pm_set (N ++ [.inr (9, pm_def 9)]) N.length (.inr (9, [.null, .ref (r + 59)]))) := Ext.trans (Ext.app (Nat.le_refl _)) (Ext.set (Nat.le_refl _))
        refine Wp.fin rfl trivial (hQ _ N.length (a.trans (hE2.less a.1)) ?_)
        have hl : (pm_set (N ++ [.inr (9, pm_def 9)]) N.length (.inr (9, [.null, .ref (r + 59)]))).length = N.length + 1 := by rw [len_set, len_end]
        refine DenT.mono (DenT_not b (Nat.le_refl _) (nth_set (by rw [len_end]; omega)) hE2.2) hK1 (Nat.le_refl _) ?_ (Nat.le_refl _) (fun _ _ _ => rfl)
        exact Nat.le_of_eq hl.symm
      · intro d u X M Z Q hd hT hQ
        refine keyM (by omega) hT ?_
        obtain ⟨d, rfl⟩ : ∃ d0, d = d0 + 6 := ⟨d - 6, by omega⟩
        refine Wp.step rfl ?_
        refine Wp.call rfl (Nat.zero_le _) (M_goesIn1 X M Z (by omega) ⟨_, _, rfl, ?_⟩)
        refine Wp.brT rfl (by decide) ?_
        refine Wp.step rfl ?_
        refine Wp.call (u1 := 0) rfl (Nat.zero_le _) (hM _ _ X M Z _ (by omega) hT ⟨_, _, rfl, ?_⟩)
        iterate 6 refine Wp.step rfl ?_
        refine Wp.putM rfl rfl rfl ?_
        rw [KM_dec]
        refine Wp.step rfl ?_
        dsimp only at hQ
        cases hb : P (ma M 39)
        · rw [hb] at hQ
          refine Wp.brF rfl (fun q => q rfl) ?_
          iterate 2 refine Wp.step rfl ?_
          exact Wp.finZ rfl (Or.inr rfl) hQ
        · rw [hb] at hQ
          refine Wp.brT rfl (by decide) ?_
          refine Wp.step rfl ?_
          exact Wp.finZ rfl (Or.inl rfl) hQ
    · refine Or.inr ⟨q, by omega, h2, ?_, ?_⟩
      · intro d u X M Z Q hd hu hT hQ
        refine key (by omega) hT ?_
        obtain ⟨d, rfl⟩ : ∃ d0, d = d0 + 6 := ⟨d - 6, by omega⟩
        refine Wp.step rfl ?_
        refine Wp.call rfl (Nat.zero_le _) (X_opens1 X M Z (by omega) ⟨_, _, rfl, ?_⟩)
        refine Wp.step rfl ?_
        refine Wp.callF (u1 := u) rfl rfl (Nat.le_refl _) (hX _ _ X M Z _ (by omega) (by omega) hT (fun N e' a => Or.inr ⟨_, _, rfl, hQ N e' a⟩))
      · intro d u X M Z Q hd hT hQ
        refine keyM (by omega) hT ?_
        obtain ⟨d, rfl⟩ : ∃ d0, d = d0 + 6 := ⟨d - 6, by omega⟩
        refine Wp.step rfl ?_
        refine Wp.call rfl (Nat.zero_le _) (M_goesIn1 X M Z (by omega) ⟨_, _, rfl, ?_⟩)
        refine Wp.brT rfl (by decide) ?_
        refine Wp.step rfl ?_
        refine Wp.call (u1 := 0) rfl (Nat.zero_le _) (hM _ _ X M Z _ (by omega) hT (fun b a e' => ⟨_, _, rfl, ?_⟩))
        iterate 6 refine Wp.step rfl ?_
        refine Wp.putM rfl rfl rfl ?_
        rw [KM_e]
        refine Wp.step rfl ?_
        cases b
        · refine Wp.brF rfl (fun q => q rfl) ?_
          iterate 2 refine Wp.step rfl ?_
          exact Wp.finZ rfl (Or.inr rfl) (hQ true _ _)
        · refine Wp.brT rfl (by decide) ?_
          refine Wp.step rfl ?_
          exact Wp.finZ rfl (Or.inl rfl) (hQ false _ _)
  by_cases h40 : ch t n (lk t n p) = nI 40
  · have hlt : lk t n p < n := ch_ne h40 (by decide)
    have key : ∀ {d u : Nat} {X : pmXs} {M : pmMs} {Z : pmZs} {Q : pmO → Prop}, 6 ≤ d → XT X t n → Wp d u 119 45 [some (.ref 14), some (.int (nI 40)), none] [] (hp (PX X (lk t n p) e) M Z) Q → Wp d u 119 0 (pm_entry 119 [.ref 14]) [] (hp (PX X p e) M Z) Q := by
      intro d u X M Z Q hd hT kk
      obtain ⟨d, rfl⟩ : ∃ d0, d = d0 + 6 := ⟨d - 6, by omega⟩
      refine Wp.step rfl ?_
      refine Wp.call rfl (Nat.zero_le _) (X_look X M Z hT hp' ⟨_, _, rfl, ?_⟩)
      rw [h40]
      iterate 3 refine Wp.step rfl ?_
      refine Wp.brT rfl (by decide) ?_
      iterate 2 refine Wp.step rfl ?_
      exact Wp.brF rfl (fun q => q rfl) kk
    have keyM : ∀ {d u : Nat} {X : pmXs} {M : pmMs} {Z : pmZs} {Q : pmO → Prop}, 6 ≤ d → MT M t n → Wp d u 226 51 [some (.ref 35), some (.int (nI 40)), none] [] (hp X (KM M (nI (lk t n p)) (nI e) (-1)) Z) Q → Wp d u 226 0 (pm_entry 226 [.ref 35]) [] (hp X (KM M (nI p) (nI e) (-1)) Z) Q := by
      intro d u X M Z Q hd hT kk
      obtain ⟨d, rfl⟩ : ∃ d0, d = d0 + 6 := ⟨d - 6, by omega⟩
      refine Wp.step rfl ?_
      refine Wp.call rfl (Nat.zero_le _) (M_look X M Z hT hp' ⟨_, _, rfl, ?_⟩)
      rw [h40]
      iterate 3 refine Wp.step rfl ?_
      refine Wp.brT rfl (by decide) ?_
      iterate 2 refine Wp.step rfl ?_
      exact Wp.brF rfl (fun q => q rfl) kk
    by_cases he6 : e = 6
    · subst he6
      refine Or.inr ⟨lk t n p, hge, by omega, ?_, ?_⟩
      · intro d u X M Z Q hd hu hT hQ
        refine key (by omega) hT ?_
        obtain ⟨d, rfl⟩ : ∃ d0, d = d0 + 6 := ⟨d - 6, by omega⟩
        refine Wp.step rfl ?_
        refine Wp.callF rfl rfl (Nat.zero_le _) (X_opens0 X M Z (by decide) (by decide) (Or.inr ⟨_, _, rfl, hQ Z.2.2 6 (Ext.refl _ _)⟩))
      · intro d u X M Z Q hd hT hQ
        refine keyM (by omega) hT ?_
        obtain ⟨d, rfl⟩ : ∃ d0, d = d0 + 6 := ⟨d - 6, by omega⟩
        refine Wp.step rfl ?_
        refine Wp.call rfl (Nat.zero_le _) (M_goesIn0 X M Z ⟨_, _, rfl, ?_⟩)
        refine Wp.brF rfl (fun q => q rfl) ?_
        refine Wp.step rfl ?_
        exact Wp.finZ rfl (Or.inl rfl) (hQ false _ _)
    rcases hC (by omega) (lk t n p + 1) (by omega) with ⟨q, P, h1, h2, hX, hM⟩ | ⟨q, h1, h2, hX, hM⟩
    · have hq := lk_ge t h2
      have hqn := lk_n t h2
      by_cases h41 : ch t n (lk t n q) = nI 41
      · have hq41 : lk t n q < n := ch_ne h41 (by decide)
        refine Or.inl ⟨lk t n q + 1, P, by omega, by omega, ?_, ?_⟩
        · intro d u X M Z Q hd hu hT hQ
          refine key (by omega) hT ?_
          obtain ⟨d, rfl⟩ : ∃ d0, d = d0 + 6 := ⟨d - 6, by omega⟩
          refine Wp.step rfl ?_
          refine Wp.call rfl (Nat.zero_le _) (X_opens1 X M Z (by omega) ⟨_, _, rfl, ?_⟩)
          iterate 2 refine Wp.step rfl ?_
          refine Wp.call (u1 := 12 * (q - (lk t n p + 1))) rfl (by omega) (hX _ _ X M Z _ (by omega) (Nat.le_refl _) hT (fun N r a b => ⟨_, _, rfl, ?_⟩))
          iterate 3 refine Wp.step rfl ?_
          refine Wp.call rfl (Nat.zero_le _) (X_closes1 X M _ hT h2 h41 ⟨_, _, rfl, ?_⟩)
          refine Wp.step rfl ?_
          exact Wp.fin rfl trivial (hQ N r a (DenT.mono b (by omega) (Nat.le_refl _) (Nat.le_refl _) (Nat.le_refl _) (fun _ _ _ => rfl)))
        · intro d u X M Z Q hd hT hQ
          refine keyM (by omega) hT ?_
          obtain ⟨d, rfl⟩ : ∃ d0, d = d0 + 6 := ⟨d - 6, by omega⟩
          refine Wp.step rfl ?_
          refine Wp.call rfl (Nat.zero_le _) (M_goesIn1 X M Z (by omega) ⟨_, _, rfl, ?_⟩)
          refine Wp.brT rfl (by decide) ?_
          iterate 3 refine Wp.step rfl ?_
          refine Wp.call (u1 := 0) rfl (Nat.zero_le _) (hM _ _ X M Z _ (by omega) hT ⟨_, _, rfl, ?_⟩)
          iterate 3 refine Wp.step rfl ?_
          refine Wp.call rfl (Nat.zero_le _) (M_takes1 X M Z hT h2 h41 ⟨_, _, rfl, ?_⟩)
          refine Wp.brT rfl (by decide) ?_
          iterate 5 refine Wp.step rfl ?_
          refine Wp.putM rfl rfl rfl ?_
          rw [KM_dec]
          refine Wp.step rfl ?_
          exact Wp.finZ rfl (bB_or _) hQ
      · refine Or.inr ⟨lk t n q, by omega, hqn, ?_, ?_⟩
        · intro d u X M Z Q hd hu hT hQ
          refine key (by omega) hT ?_
          obtain ⟨d, rfl⟩ : ∃ d0, d = d0 + 6 := ⟨d - 6, by omega⟩
          refine Wp.step rfl ?_
          refine Wp.call rfl (Nat.zero_le _) (X_opens1 X M Z (by omega) ⟨_, _, rfl, ?_⟩)
          iterate 2 refine Wp.step rfl ?_
          refine Wp.call (u1 := 12 * (q - (lk t n p + 1))) rfl (by omega) (hX _ _ X M Z _ (by omega) (Nat.le_refl _) hT (fun N r a b => ⟨_, _, rfl, ?_⟩))
          iterate 3 refine Wp.step rfl ?_
          refine Wp.callF rfl rfl (Nat.zero_le _) (X_closes0 X M _ hT h2 h41 (Or.inr ⟨_, _, rfl, hQ N _ a⟩))
        · intro d u X M Z Q hd hT hQ
          refine keyM (by omega) hT ?_
          obtain ⟨d, rfl⟩ : ∃ d0, d = d0 + 6 := ⟨d - 6, by omega⟩
          refine Wp.step rfl ?_
          refine Wp.call rfl (Nat.zero_le _) (M_goesIn1 X M Z (by omega) ⟨_, _, rfl, ?_⟩)
          refine Wp.brT rfl (by decide) ?_
          iterate 3 refine Wp.step rfl ?_
          refine Wp.call (u1 := 0) rfl (Nat.zero_le _) (hM _ _ X M Z _ (by omega) hT ⟨_, _, rfl, ?_⟩)
          iterate 3 refine Wp.step rfl ?_
          refine Wp.call rfl (Nat.zero_le _) (M_takes0 X M Z hT h2 h41 ⟨_, _, rfl, ?_⟩)
          refine Wp.brF rfl (fun q => q rfl) ?_
          refine Wp.step rfl ?_
          exact Wp.finZ rfl (Or.inl rfl) (hQ false _ _)
    · refine Or.inr ⟨q, by omega, h2, ?_, ?_⟩
      · intro d u X M Z Q hd hu hT hQ
        refine key (by omega) hT ?_
        obtain ⟨d, rfl⟩ : ∃ d0, d = d0 + 6 := ⟨d - 6, by omega⟩
        refine Wp.step rfl ?_
        refine Wp.call rfl (Nat.zero_le _) (X_opens1 X M Z (by omega) ⟨_, _, rfl, ?_⟩)
        iterate 2 refine Wp.step rfl ?_
        refine Wp.callF (u1 := u) rfl rfl (Nat.le_refl _) (hX _ _ X M Z _ (by omega) (by omega) hT (fun N e' a => Or.inr ⟨_, _, rfl, hQ N e' a⟩))
      · intro d u X M Z Q hd hT hQ
        refine keyM (by omega) hT ?_
        obtain ⟨d, rfl⟩ : ∃ d0, d = d0 + 6 := ⟨d - 6, by omega⟩
        refine Wp.step rfl ?_
        refine Wp.call rfl (Nat.zero_le _) (M_goesIn1 X M Z (by omega) ⟨_, _, rfl, ?_⟩)
        refine Wp.brT rfl (by decide) ?_
        iterate 3 refine Wp.step rfl ?_
        refine Wp.call (u1 := 0) rfl (Nat.zero_le _) (hM _ _ X M Z _ (by omega) hT (fun b a e' => ⟨_, _, rfl, ?_⟩))
        iterate 3 refine Wp.step rfl ?_
        refine Wp.call rfl (Nat.zero_le _) (M_takesF X M Z (nI_m1 (by have := MT_le hT; omega)) ⟨_, _, rfl, ?_⟩)
        refine Wp.brF rfl (fun q => q rfl) ?_
        refine Wp.step rfl ?_
        exact Wp.finZ rfl (Or.inl rfl) (hQ false _ _)
  have key : ∀ {d u : Nat} {X : pmXs} {M : pmMs} {Z : pmZs} {Q : pmO → Prop}, 6 ≤ d → XT X t n → Wp d u 119 63 [some (.ref 14), some (.int (ch t n (lk t n p))), none] [] (hp (PX X (lk t n p) e) M Z) Q → Wp d u 119 0 (pm_entry 119 [.ref 14]) [] (hp (PX X p e) M Z) Q := by
    intro d u X M Z Q hd hT kk
    obtain ⟨d, rfl⟩ : ∃ d0, d = d0 + 6 := ⟨d - 6, by omega⟩
    refine Wp.step rfl ?_
    refine Wp.call rfl (Nat.zero_le _) (X_look X M Z hT hp' ⟨_, _, rfl, ?_⟩)
    iterate 3 refine Wp.step rfl ?_
    refine Wp.brT rfl h33 ?_
    iterate 2 refine Wp.step rfl ?_
    exact Wp.brT rfl h40 kk
  have keyM : ∀ {d u : Nat} {X : pmXs} {M : pmMs} {Z : pmZs} {Q : pmO → Prop}, 6 ≤ d → MT M t n → Wp d u 226 90 [some (.ref 35), some (.int (ch t n (lk t n p))), none] [] (hp X (KM M (nI (lk t n p)) (nI e) (-1)) Z) Q → Wp d u 226 0 (pm_entry 226 [.ref 35]) [] (hp X (KM M (nI p) (nI e) (-1)) Z) Q := by
    intro d u X M Z Q hd hT kk
    obtain ⟨d, rfl⟩ : ∃ d0, d = d0 + 6 := ⟨d - 6, by omega⟩
    refine Wp.step rfl ?_
    refine Wp.call rfl (Nat.zero_le _) (M_look X M Z hT hp' ⟨_, _, rfl, ?_⟩)
    iterate 3 refine Wp.step rfl ?_
    refine Wp.brT rfl h33 ?_
    iterate 2 refine Wp.step rfl ?_
    exact Wp.brT rfl h40 kk
  rcases hS (lk t n p) hln with ⟨q1, F0, a1, a2, aX, aM⟩ | ⟨q1, a1, a2, aX, aM⟩
  · rcases hP q1 a2 with ⟨q, sg, F1, b1, b2, bX, bM⟩ | ⟨q, b1, b2, bX, bM⟩
    · refine Or.inl ⟨q, fun l => cmpS sg (F0 l) (F1 l), by omega, b2, ?_, ?_⟩
      · intro d u X M Z Q hd hu hT hQ
        refine key (by omega) hT ?_
        obtain ⟨d, rfl⟩ : ∃ d0, d = d0 + 6 := ⟨d - 6, by omega⟩
        iterate 2 refine Wp.step rfl ?_
        refine Wp.call (u1 := 12 * (q1 - lk t n p)) rfl (by omega) (aX _ _ X M Z _ (by omega) (Nat.le_refl _) hT (fun N r a b => ⟨_, _, rfl, ?_⟩))
        refine Wp.call (u1 := 12 * (q - q1)) rfl (by omega) (bX _ _ X M (zN Z N) _ Z.2.2.length r F0 (by omega) (Nat.le_refl _) hT a.1 b (fun N' r' a' b' => ⟨_, _, rfl, ?_⟩))
        exact Wp.fin rfl trivial (hQ N' r' (a.trans a') (DenT.mono b' hKS (Nat.le_refl _) (Nat.le_refl _) (Nat.le_refl _) (fun _ _ _ => rfl)))
      · intro d u X M Z Q hd hT hQ
        refine keyM (by omega) hT ?_
        obtain ⟨d, rfl⟩ : ∃ d0, d = d0 + 6 := ⟨d - 6, by omega⟩
        iterate 3 refine Wp.step rfl ?_
        refine Wp.call (u1 := 0) rfl (Nat.zero_le _) ?_
        refine Wp.step rfl ?_
        refine Wp.brT rfl (by decide) ?_
        refine Wp.step rfl ?_
        refine Wp.call (u1 := 0) rfl (Nat.zero_le _) (aM _ _ X M Z _ (by omega) hT ⟨_, _, rfl, ?_⟩)
        refine Wp.step rfl ?_
        refine bM _ _ X M Z _ _ _ _ _ _ (by omega) hT ⟨_, _, rfl, ?_⟩
        exact Wp.finZ rfl (bB_or _) hQ
    · refine Or.inr ⟨q, by omega, b2, ?_, ?_⟩
      · intro d u X M Z Q hd hu hT hQ
        refine key (by omega) hT ?_
        obtain ⟨d, rfl⟩ : ∃ d0, d = d0 + 6 := ⟨d - 6, by omega⟩
        iterate 2 refine Wp.step rfl ?_
        refine Wp.call (u1 := 12 * (q1 - lk t n p)) rfl (by omega) (aX _ _ X M Z _ (by omega) (Nat.le_refl _) hT (fun N r a b => ⟨_, _, rfl, ?_⟩))
        refine Wp.callF (u1 := 12 * (q - q1) + 12) rfl rfl (by omega) (bX _ _ X M (zN Z N) _ r (by omega) (Nat.le_refl _) hT (fun N' e' a' => Or.inr ⟨_, _, rfl, hQ N' e' (a.trans (a'.less a.1))⟩))
      · intro d u X M Z Q hd hT hQ
        refine keyM (by omega) hT ?_
        obtain ⟨d, rfl⟩ : ∃ d0, d = d0 + 6 := ⟨d - 6, by omega⟩
        iterate 3 refine Wp.step rfl ?_
        refine Wp.call (u1 := 0) rfl (Nat.zero_le _) ?_
        refine Wp.step rfl ?_
        refine Wp.brT rfl (by decide) ?_
        refine Wp.step rfl ?_
        refine Wp.call (u1 := 0) rfl (Nat.zero_le _) (aM _ _ X M Z _ (by omega) hT ⟨_, _, rfl, ?_⟩)
        refine Wp.step rfl ?_
        refine bM _ _ X M Z _ _ _ _ _ _ (by omega) hT (fun b a e' => ⟨_, _, rfl, ?_⟩)
        exact Wp.finZ rfl (bB_or _) (hQ _ _ _)
  · refine Or.inr ⟨q1, by omega, a2, ?_, ?_⟩
    · intro d u X M Z Q hd hu hT hQ
      refine key (by omega) hT ?_
      obtain ⟨d, rfl⟩ : ∃ d0, d = d0 + 6 := ⟨d - 6, by omega⟩
      iterate 2 refine Wp.step rfl ?_
      refine Wp.callF (u1 := u) rfl rfl (Nat.le_refl _) (aX _ _ X M Z _ (by omega) (by omega) hT (fun N e' a => Or.inr ⟨_, _, rfl, hQ N e' a⟩))
    · intro d u X M Z Q hd hT hQ
      have h240 := MT_le hT
      refine keyM (by omega) hT ?_
      obtain ⟨d, rfl⟩ : ∃ d0, d = d0 + 6 := ⟨d - 6, by omega⟩
      iterate 3 refine Wp.step rfl ?_
      refine Wp.call (u1 := 0) rfl (Nat.zero_le _) ?_
      refine Wp.step rfl ?_
      refine Wp.brT rfl (by decide) ?_
      refine Wp.step rfl ?_
      refine Wp.call (u1 := 0) rfl (Nat.zero_le _) (aM _ _ X M Z _ (by omega) hT (fun w a e' => ⟨_, _, rfl, ?_⟩))
      iterate 4 refine Wp.step rfl ?_
      refine Wp.brF rfl (nI_m1 (by omega)) ?_
      refine Wp.step rfl ?_
      refine Wp.finZ rfl (Or.inl rfl) ⟨_, _, rfl, ?_⟩
      exact Wp.finZ rfl (Or.inl rfl) (hQ false _ _)
