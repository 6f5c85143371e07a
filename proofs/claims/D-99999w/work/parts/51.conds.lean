/-! PARTS and CONDITIONS: printed by tools/conds.py -/
theorem PT.mono {t : Nat → Int32} {n xm mm D D' K K' p e : Nat} {xs ms : List Value} (h : PT t n xm xs mm ms D K p e) (hD : D ≤ D') (hK : K ≤ K') : PT t n xm xs mm ms D' K' p e := by
  rcases h with ⟨q, P, a, b, hX, hM⟩ | ⟨q, a, b, hX, hM⟩
  · refine Or.inl ⟨q, P, a, b, ?_, ?_⟩
    · intro d u X M Z Q hd hu hT hQ
      exact hX d u X M Z Q (by omega) hu hT (fun N r x y => hQ N r x (DenT.mono y hK (Nat.le_refl _) (Nat.le_refl _) (Nat.le_refl _) (fun _ _ _ => rfl)))
    · intro d u X M Z Q hd hT hQ
      exact hM d u X M Z Q (by omega) hT hQ
  · refine Or.inr ⟨q, a, b, ?_, ?_⟩
    · intro d u X M Z Q hd hu hT hQ
      exact hX d u X M Z Q (by omega) hu hT hQ
    · intro d u X M Z Q hd hT hQ
      exact hM d u X M Z Q (by omega) hT hQ
section PKF
variable (t : Nat → Int32) (n : Nat)
def XokF (xm D K0 K p e q : Nat) (G : (Nat → Int32) → Int32 → Bool) : Prop := ∀ (d u : Nat) (X : pmXs) (M : pmMs) (Z : pmZs) (Q : pmO → Prop) (lo s : Nat) (F0 : (Nat → Int32) → Int32), D ≤ d → 12 * (q - p) ≤ u → XT X t n → lo ≤ Z.2.2.length → DenS K0 lo Z.2.2.length s F0 Z.2.2 → (∀ N r, Ext lo Z.2.2 N → DenT K lo N.length r (fun l => G l (F0 l)) N → Q (.inl (some (.ref (r + 59))), hp (PX X q e) M (zN Z N))) → Wp d u xm 0 (pm_entry xm [.ref 14, .ref (s + 59)]) [] (hp (PX X p e) M Z) Q
def MokF (mm D p e q : Nat) (G : (Nat → Int32) → Int32 → Bool) : Prop := ∀ (d u : Nat) (X : pmXs) (M : pmMs) (Z : pmZs) (Q : pmO → Prop) (v : Int32), D ≤ d → MT M t n → Q (.inl (some (.int (bB (G (ma M 39) v)))), hp X (KM M (nI q) (nI e) (-1)) Z) → Wp d u mm 0 (pm_entry mm [.ref 35, .int (nI 1), .int v]) [] (hp X (KM M (nI p) (nI e) (-1)) Z) Q
def XflF (xm D K0 p e q : Nat) : Prop := ∀ (d u : Nat) (X : pmXs) (M : pmMs) (Z : pmZs) (Q : pmO → Prop) (lo s : Nat) (F0 : (Nat → Int32) → Int32), D ≤ d → 12 * (q - p) + 12 ≤ u → XT X t n → lo ≤ Z.2.2.length → DenS K0 lo Z.2.2.length s F0 Z.2.2 → (∀ N e', Ext lo Z.2.2 N → Q (.inr 2, hp (PX X q e') M (zN Z N))) → Wp d u xm 0 (pm_entry xm [.ref 14, .ref (s + 59)]) [] (hp (PX X p e) M Z) Q
def MflF (mm D p e q : Nat) : Prop := ∀ (d u : Nat) (X : pmXs) (M : pmMs) (Z : pmZs) (Q : pmO → Prop) (v : Int32), D ≤ d → MT M t n → (∀ b a e', Q (.inl (some (.int (bB b))), hp X (KM M a e' (nI q)) Z)) → Wp d u mm 0 (pm_entry mm [.ref 35, .int (nI 1), .int v]) [] (hp X (KM M (nI p) (nI e) (-1)) Z) Q
def PF (xm mm D K0 K p e : Nat) : Prop := (∃ q G, p < q ∧ q ≤ n ∧ XokF t n xm D K0 K p e q G ∧ MokF t n mm D p e q G) ∨ (∃ q, p ≤ q ∧ q ≤ n ∧ XflF t n xm D K0 p e q ∧ MflF t n mm D p e q)
end PKF
theorem part_pk {t : Nat → Int32} {n p e D K D' : Nat} (hA : ∀ p, p ≤ n → PT t n 119 [.ref 14] 226 [.ref 35] D K p e) (hD : D + 1 ≤ D') (h4 : 4 ≤ D') (hp' : p ≤ n) : PT t n 117 [.ref 14, .null] 221 [.ref 35, .int (nI 0), .int (nI 0)] D' (K + 1) p e := by
  rcases hA p hp' with ⟨q1, P1, a1, a2, aX, aM⟩ | ⟨q1, a1, a2, aX, aM⟩
  · have hq1 := lk_ge t a2
    rcases partLoop_pk hA hD h4 (n - q1) q1 (Nat.le_refl _) a2 with ⟨q, R, b1, b2, bX, bM⟩ | ⟨q, b1, b2, bX, bM⟩
    · refine Or.inl ⟨q, fun l => R l (P1 l), by omega, b2, ?_, ?_⟩
      · intro d u X M Z Q hd hu hT hQ
        have hd' := hd
        obtain ⟨d, rfl⟩ : ∃ d0, d = d0 + 4 := ⟨d - 4, by omega⟩
        iterate 3 refine Wp.step rfl ?_
        refine Wp.call (u1 := 12 * (q1 - p)) rfl (by omega) (aX _ _ X M Z _ (by omega) (Nat.le_refl _) hT (fun N r a b => ⟨_, _, rfl, ?_⟩))
        iterate 4 refine Wp.step rfl ?_
        exact bX _ _ X M (zN Z N) Q Z.2.2.length _ _ _ P1 hd' (by omega) hT a.1 (Or.inl ⟨rfl, r, rfl, b⟩) (fun N' r' a' b' => hQ N' r' (a.trans a') b')
      · intro d u X M Z Q hd hT hQ
        have hd' := hd
        obtain ⟨d, rfl⟩ : ∃ d0, d = d0 + 4 := ⟨d - 4, by omega⟩
        refine Wp.step rfl ?_
        refine Wp.brT rfl rfl ?_
        refine Wp.step rfl ?_
        refine Wp.call (u1 := 0) rfl (Nat.zero_le _) (aM _ _ X M Z _ (by omega) hT ⟨_, _, rfl, ?_⟩)
        refine Wp.step rfl ?_
        exact bM _ _ X M Z Q _ _ _ _ hd' hT hQ
    · refine Or.inr ⟨q, by omega, b2, ?_, ?_⟩
      · intro d u X M Z Q hd hu hT hQ
        have hd' := hd
        obtain ⟨d, rfl⟩ : ∃ d0, d = d0 + 4 := ⟨d - 4, by omega⟩
        iterate 3 refine Wp.step rfl ?_
        refine Wp.call (u1 := 12 * (q1 - p)) rfl (by omega) (aX _ _ X M Z _ (by omega) (Nat.le_refl _) hT (fun N r a b => ⟨_, _, rfl, ?_⟩))
        iterate 4 refine Wp.step rfl ?_
        exact bX _ _ X M (zN Z N) Q Z.2.2.length _ _ _ P1 hd' (by omega) hT a.1 (Or.inl ⟨rfl, r, rfl, b⟩) (fun N' e' a' => hQ N' e' (a.trans a'))
      · intro d u X M Z Q hd hT hQ
        have hd' := hd
        obtain ⟨d, rfl⟩ : ∃ d0, d = d0 + 4 := ⟨d - 4, by omega⟩
        refine Wp.step rfl ?_
        refine Wp.brT rfl rfl ?_
        refine Wp.step rfl ?_
        refine Wp.call (u1 := 0) rfl (Nat.zero_le _) (aM _ _ X M Z _ (by omega) hT ⟨_, _, rfl, ?_⟩)
        refine Wp.step rfl ?_
        exact bM _ _ X M Z Q _ _ _ _ hd' hT hQ
  · refine Or.inr ⟨q1, a1, a2, ?_, ?_⟩
    · intro d u X M Z Q hd hu hT hQ
      obtain ⟨d, rfl⟩ : ∃ d0, d = d0 + 4 := ⟨d - 4, by omega⟩
      iterate 3 refine Wp.step rfl ?_
      refine Wp.callF (u1 := u) rfl rfl (Nat.le_refl _) (aX _ _ X M Z _ (by omega) hu hT (fun N e' a => Or.inr ⟨_, _, rfl, hQ N e' a⟩))
    · intro d u X M Z Q hd hT hQ
      have h240 := MT_le hT
      obtain ⟨d, rfl⟩ : ∃ d0, d = d0 + 4 := ⟨d - 4, by omega⟩
      refine Wp.step rfl ?_
      refine Wp.brT rfl rfl ?_
      refine Wp.step rfl ?_
      refine Wp.call (u1 := 0) rfl (Nat.zero_le _) (aM _ _ X M Z _ (by omega) hT (fun b a e' => ⟨_, _, rfl, ?_⟩))
      iterate 4 refine Wp.step rfl ?_
      refine Wp.brT rfl (nI_m1 (by omega)) ?_
      refine Wp.step rfl ?_
      exact Wp.finZ rfl (bB_or _) (hQ _ _ _)
theorem cond_pk {t : Nat → Int32} {n p e D K D' : Nat} (hA : ∀ p, p ≤ n → PT t n 117 [.ref 14, .null] 221 [.ref 35, .int (nI 0), .int (nI 0)] D K p e) (hD : D + 1 ≤ D') (h4 : 4 ≤ D') (hp' : p ≤ n) : PT t n 110 [.ref 14, .null] 214 [.ref 35, .int (nI 0), .int (nI 0)] D' (K + 1) p e := by
  rcases hA p hp' with ⟨q1, P1, a1, a2, aX, aM⟩ | ⟨q1, a1, a2, aX, aM⟩
  · have hq1 := lk_ge t a2
    rcases condLoop_pk hA hD h4 (n - q1) q1 (Nat.le_refl _) a2 with ⟨q, R, b1, b2, bX, bM⟩ | ⟨q, b1, b2, bX, bM⟩
    · refine Or.inl ⟨q, fun l => R l (P1 l), by omega, b2, ?_, ?_⟩
      · intro d u X M Z Q hd hu hT hQ
        have hd' := hd
        obtain ⟨d, rfl⟩ : ∃ d0, d = d0 + 4 := ⟨d - 4, by omega⟩
        iterate 2 refine Wp.step rfl ?_
        refine Wp.call (u1 := 12 * (q1 - p)) rfl (by omega) (aX _ _ X M Z _ (by omega) (Nat.le_refl _) hT (fun N r a b => ⟨_, _, rfl, ?_⟩))
        iterate 3 refine Wp.step rfl ?_
        exact bX _ _ X M (zN Z N) Q Z.2.2.length _ _ _ P1 hd' (by omega) hT a.1 (Or.inl ⟨rfl, r, rfl, b⟩) (fun N' r' a' b' => hQ N' r' (a.trans a') b')
      · intro d u X M Z Q hd hT hQ
        have hd' := hd
        obtain ⟨d, rfl⟩ : ∃ d0, d = d0 + 4 := ⟨d - 4, by omega⟩
        iterate 3 refine Wp.step rfl ?_
        refine Wp.call (u1 := 0) rfl (Nat.zero_le _) (aM _ _ X M Z _ (by omega) hT ⟨_, _, rfl, ?_⟩)
        refine Wp.step rfl ?_
        exact bM _ _ X M Z Q _ _ _ _ hd' hT hQ
    · refine Or.inr ⟨q, by omega, b2, ?_, ?_⟩
      · intro d u X M Z Q hd hu hT hQ
        have hd' := hd
        obtain ⟨d, rfl⟩ : ∃ d0, d = d0 + 4 := ⟨d - 4, by omega⟩
        iterate 2 refine Wp.step rfl ?_
        refine Wp.call (u1 := 12 * (q1 - p)) rfl (by omega) (aX _ _ X M Z _ (by omega) (Nat.le_refl _) hT (fun N r a b => ⟨_, _, rfl, ?_⟩))
        iterate 3 refine Wp.step rfl ?_
        exact bX _ _ X M (zN Z N) Q Z.2.2.length _ _ _ P1 hd' (by omega) hT a.1 (Or.inl ⟨rfl, r, rfl, b⟩) (fun N' e' a' => hQ N' e' (a.trans a'))
      · intro d u X M Z Q hd hT hQ
        have hd' := hd
        obtain ⟨d, rfl⟩ : ∃ d0, d = d0 + 4 := ⟨d - 4, by omega⟩
        iterate 3 refine Wp.step rfl ?_
        refine Wp.call (u1 := 0) rfl (Nat.zero_le _) (aM _ _ X M Z _ (by omega) hT ⟨_, _, rfl, ?_⟩)
        refine Wp.step rfl ?_
        exact bM _ _ X M Z Q _ _ _ _ hd' hT hQ
  · refine Or.inr ⟨q1, a1, a2, ?_, ?_⟩
    · intro d u X M Z Q hd hu hT hQ
      obtain ⟨d, rfl⟩ : ∃ d0, d = d0 + 4 := ⟨d - 4, by omega⟩
      iterate 2 refine Wp.step rfl ?_
      refine Wp.callF (u1 := u) rfl rfl (Nat.le_refl _) (aX _ _ X M Z _ (by omega) hu hT (fun N e' a => Or.inr ⟨_, _, rfl, hQ N e' a⟩))
    · intro d u X M Z Q hd hT hQ
      have h240 := MT_le hT
      obtain ⟨d, rfl⟩ : ∃ d0, d = d0 + 4 := ⟨d - 4, by omega⟩
      iterate 3 refine Wp.step rfl ?_
      refine Wp.call (u1 := 0) rfl (Nat.zero_le _) (aM _ _ X M Z _ (by omega) hT (fun b a e' => ⟨_, _, rfl, ?_⟩))
      iterate 4 refine Wp.step rfl ?_
      refine Wp.brT rfl (nI_m1 (by omega)) ?_
      refine Wp.step rfl ?_
      exact Wp.finZ rfl (bB_or _) (hQ _ _ _)
theorem partF_pk {t : Nat → Int32} {n p e D K D' KS DC : Nat} (hA : ∀ p, p ≤ n → PT t n 119 [.ref 14] 226 [.ref 35] D K p e) (hP : PC t n DC KS p e) (hKS : KS + 1 ≤ K) (hDC : DC + 1 ≤ D') (hD : D + 1 ≤ D') (h4 : 4 ≤ D') : PF t n 117 221 D' KS (K + 1) p e := by
  rcases hP with ⟨q1, sg, F1, a1, a2, aX, aM⟩ | ⟨q1, a1, a2, aX, aM⟩
  · have hq1 := lk_ge t a2
    rcases partLoop_pk hA hD h4 (n - q1) q1 (Nat.le_refl _) a2 with ⟨q, R, b1, b2, bX, bM⟩ | ⟨q, b1, b2, bX, bM⟩
    · refine Or.inl ⟨q, fun l v => R l (cmpS sg v (F1 l)), by omega, b2, ?_, ?_⟩
      · intro d u X M Z Q lo s F0 hd hu hT hlo hDs hQ
        have hd' := hd
        obtain ⟨d, rfl⟩ : ∃ d0, d = d0 + 4 := ⟨d - 4, by omega⟩
        iterate 4 refine Wp.step rfl ?_
        refine Wp.call (u1 := 12 * (q1 - p)) rfl (by omega) (aX _ _ X M Z _ lo s F0 (by omega) (Nat.le_refl _) hT hlo hDs (fun N r a b => ⟨_, _, rfl, ?_⟩))
        iterate 3 refine Wp.step rfl ?_
        exact bX _ _ X M (zN Z N) Q lo _ _ _ _ hd' (by omega) hT (Nat.le_trans hlo a.1) (Or.inl ⟨rfl, r, rfl, b.mono hKS (Nat.le_refl _) (Nat.le_refl _) (Nat.le_refl _) (fun _ _ _ => rfl)⟩) (fun N' r' a' b' => hQ N' r' (a.trans a') b')
      · intro d u X M Z Q v hd hT hQ
        have hd' := hd
        obtain ⟨d, rfl⟩ : ∃ d0, d = d0 + 4 := ⟨d - 4, by omega⟩
        refine Wp.step rfl ?_
        refine Wp.brF rfl (by decide) ?_
        iterate 3 refine Wp.step rfl ?_
        refine Wp.call (u1 := 0) rfl (Nat.zero_le _) ?_
        refine Wp.step rfl ?_
        refine Wp.brF rfl (by decide) ?_
        iterate 3 refine Wp.step rfl ?_
        refine aM _ _ X M Z _ _ _ _ _ _ (by omega) hT ⟨_, _, rfl, ?_⟩
        iterate 2 refine Wp.step rfl ?_
        exact bM _ _ X M Z Q _ _ _ _ hd' hT hQ
    · refine Or.inr ⟨q, by omega, b2, ?_, ?_⟩
      · intro d u X M Z Q lo s F0 hd hu hT hlo hDs hQ
        have hd' := hd
        obtain ⟨d, rfl⟩ : ∃ d0, d = d0 + 4 := ⟨d - 4, by omega⟩
        iterate 4 refine Wp.step rfl ?_
        refine Wp.call (u1 := 12 * (q1 - p)) rfl (by omega) (aX _ _ X M Z _ lo s F0 (by omega) (Nat.le_refl _) hT hlo hDs (fun N r a b => ⟨_, _, rfl, ?_⟩))
        iterate 3 refine Wp.step rfl ?_
        exact bX _ _ X M (zN Z N) Q lo _ _ _ _ hd' (by omega) hT (Nat.le_trans hlo a.1) (Or.inl ⟨rfl, r, rfl, b.mono hKS (Nat.le_refl _) (Nat.le_refl _) (Nat.le_refl _) (fun _ _ _ => rfl)⟩) (fun N' e' a' => hQ N' e' (a.trans a'))
      · intro d u X M Z Q v hd hT hQ
        have hd' := hd
        obtain ⟨d, rfl⟩ : ∃ d0, d = d0 + 4 := ⟨d - 4, by omega⟩
        refine Wp.step rfl ?_
        refine Wp.brF rfl (by decide) ?_
        iterate 3 refine Wp.step rfl ?_
        refine Wp.call (u1 := 0) rfl (Nat.zero_le _) ?_
        refine Wp.step rfl ?_
        refine Wp.brF rfl (by decide) ?_
        iterate 3 refine Wp.step rfl ?_
        refine aM _ _ X M Z _ _ _ _ _ _ (by omega) hT ⟨_, _, rfl, ?_⟩
        iterate 2 refine Wp.step rfl ?_
        exact bM _ _ X M Z Q _ _ _ _ hd' hT hQ
  · refine Or.inr ⟨q1, a1, a2, ?_, ?_⟩
    · intro d u X M Z Q lo s F0 hd hu hT hlo hDs hQ
      obtain ⟨d, rfl⟩ : ∃ d0, d = d0 + 4 := ⟨d - 4, by omega⟩
      iterate 4 refine Wp.step rfl ?_
      refine Wp.callF (u1 := u) rfl rfl (Nat.le_refl _) (aX _ _ X M Z _ s (by omega) hu hT (fun N e' a => Or.inr ⟨_, _, rfl, hQ N e' (a.less hlo)⟩))
    · intro d u X M Z Q v hd hT hQ
      have h240 := MT_le hT
      obtain ⟨d, rfl⟩ : ∃ d0, d = d0 + 4 := ⟨d - 4, by omega⟩
      refine Wp.step rfl ?_
      refine Wp.brF rfl (by decide) ?_
      iterate 3 refine Wp.step rfl ?_
      refine Wp.call (u1 := 0) rfl (Nat.zero_le _) ?_
      refine Wp.step rfl ?_
      refine Wp.brF rfl (by decide) ?_
      iterate 3 refine Wp.step rfl ?_
      refine aM _ _ X M Z _ _ _ _ _ _ (by omega) hT (fun b a e' => ⟨_, _, rfl, ?_⟩)
      iterate 5 refine Wp.step rfl ?_
      refine Wp.brT rfl (nI_m1 (by omega)) ?_
      refine Wp.step rfl ?_
      exact Wp.finZ rfl (bB_or _) (hQ _ _ _)
theorem condF_pk {t : Nat → Int32} {n p e D K D' KS : Nat} (hA : ∀ p, p ≤ n → PT t n 117 [.ref 14, .null] 221 [.ref 35, .int (nI 0), .int (nI 0)] D K p e) (hP : PF t n 117 221 D KS K p e) (hD : D + 1 ≤ D') (h4 : 4 ≤ D') : PF t n 110 214 D' KS (K + 1) p e := by
  rcases hP with ⟨q1, G, a1, a2, aX, aM⟩ | ⟨q1, a1, a2, aX, aM⟩
  · have hq1 := lk_ge t a2
    rcases condLoop_pk hA hD h4 (n - q1) q1 (Nat.le_refl _) a2 with ⟨q, R, b1, b2, bX, bM⟩ | ⟨q, b1, b2, bX, bM⟩
    · refine Or.inl ⟨q, fun l v => R l (G l v), by omega, b2, ?_, ?_⟩
      · intro d u X M Z Q lo s F0 hd hu hT hlo hDs hQ
        have hd' := hd
        obtain ⟨d, rfl⟩ : ∃ d0, d = d0 + 4 := ⟨d - 4, by omega⟩
        iterate 2 refine Wp.step rfl ?_
        refine Wp.call (u1 := 12 * (q1 - p)) rfl (by omega) (aX _ _ X M Z _ lo s F0 (by omega) (Nat.le_refl _) hT hlo hDs (fun N r a b => ⟨_, _, rfl, ?_⟩))
        iterate 3 refine Wp.step rfl ?_
        exact bX _ _ X M (zN Z N) Q lo _ _ _ _ hd' (by omega) hT (Nat.le_trans hlo a.1) (Or.inl ⟨rfl, r, rfl, b⟩) (fun N' r' a' b' => hQ N' r' (a.trans a') b')
      · intro d u X M Z Q v hd hT hQ
        have hd' := hd
        obtain ⟨d, rfl⟩ : ∃ d0, d = d0 + 4 := ⟨d - 4, by omega⟩
        iterate 3 refine Wp.step rfl ?_
        refine Wp.call (u1 := 0) rfl (Nat.zero_le _) (aM _ _ X M Z _ v (by omega) hT ⟨_, _, rfl, ?_⟩)
        refine Wp.step rfl ?_
        exact bM _ _ X M Z Q _ _ _ _ hd' hT hQ
    · refine Or.inr ⟨q, by omega, b2, ?_, ?_⟩
      · intro d u X M Z Q lo s F0 hd hu hT hlo hDs hQ
        have hd' := hd
        obtain ⟨d, rfl⟩ : ∃ d0, d = d0 + 4 := ⟨d - 4, by omega⟩
        iterate 2 refine Wp.step rfl ?_
        refine Wp.call (u1 := 12 * (q1 - p)) rfl (by omega) (aX _ _ X M Z _ lo s F0 (by omega) (Nat.le_refl _) hT hlo hDs (fun N r a b => ⟨_, _, rfl, ?_⟩))
        iterate 3 refine Wp.step rfl ?_
        exact bX _ _ X M (zN Z N) Q lo _ _ _ _ hd' (by omega) hT (Nat.le_trans hlo a.1) (Or.inl ⟨rfl, r, rfl, b⟩) (fun N' e' a' => hQ N' e' (a.trans a'))
      · intro d u X M Z Q v hd hT hQ
        have hd' := hd
        obtain ⟨d, rfl⟩ : ∃ d0, d = d0 + 4 := ⟨d - 4, by omega⟩
        iterate 3 refine Wp.step rfl ?_
        refine Wp.call (u1 := 0) rfl (Nat.zero_le _) (aM _ _ X M Z _ v (by omega) hT ⟨_, _, rfl, ?_⟩)
        refine Wp.step rfl ?_
        exact bM _ _ X M Z Q _ _ _ _ hd' hT hQ
  · refine Or.inr ⟨q1, a1, a2, ?_, ?_⟩
    · intro d u X M Z Q lo s F0 hd hu hT hlo hDs hQ
      obtain ⟨d, rfl⟩ : ∃ d0, d = d0 + 4 := ⟨d - 4, by omega⟩
      iterate 2 refine Wp.step rfl ?_
      refine Wp.callF (u1 := u) rfl rfl (Nat.le_refl _) (aX _ _ X M Z _ lo s F0 (by omega) hu hT hlo hDs (fun N e' a => Or.inr ⟨_, _, rfl, hQ N e' a⟩))
    · intro d u X M Z Q v hd hT hQ
      have h240 := MT_le hT
      obtain ⟨d, rfl⟩ : ∃ d0, d = d0 + 4 := ⟨d - 4, by omega⟩
      iterate 3 refine Wp.step rfl ?_
      refine Wp.call (u1 := 0) rfl (Nat.zero_le _) (aM _ _ X M Z _ v (by omega) hT (fun b a e' => ⟨_, _, rfl, ?_⟩))
      iterate 4 refine Wp.step rfl ?_
      refine Wp.brT rfl (nI_m1 (by omega)) ?_
      refine Wp.step rfl ?_
      exact Wp.finZ rfl (bB_or _) (hQ _ _ _)
/-- ALL LEVELS -/
theorem all_pk {t : Nat → Int32} {n : Nat} (hB : ∀ j, j < n → isB (t j)) : ∀ m e, e + m = 6 → (∀ p, p ≤ n → PS t n 108 215 (20 * m + 10) (20 * m + 5) p e) ∧ (∀ p, p ≤ n → PC t n (20 * m + 11) (20 * m + 5) p e) ∧ (∀ p, p ≤ n → PT t n 119 [.ref 14] 226 [.ref 35] (20 * m + 13) (20 * m + 8) p e) ∧ (∀ p, p ≤ n → PT t n 117 [.ref 14, .null] 221 [.ref 35, .int (nI 0), .int (nI 0)] (20 * m + 14) (20 * m + 9) p e) ∧ (∀ p, p ≤ n → PT t n 110 [.ref 14, .null] 214 [.ref 35, .int (nI 0), .int (nI 0)] (20 * m + 15) (20 * m + 10) p e) := by
  have key : ∀ (m e D1 K1 : Nat), e + m = 6 → (e < 6 → ∀ p, p ≤ n → PS t n 108 215 D1 K1 p (e + 1)) → (e < 6 → ∀ p, p ≤ n → PT t n 119 [.ref 14] 226 [.ref 35] D1 K1 p (e + 1)) → (e < 6 → ∀ p, p ≤ n → PT t n 110 [.ref 14, .null] 214 [.ref 35, .int (nI 0), .int (nI 0)] D1 K1 p (e + 1)) → D1 + 1 ≤ 20 * m + 8 → K1 ≤ 20 * m + 1 → (∀ p, p ≤ n → PS t n 108 215 (20 * m + 10) (20 * m + 5) p e) ∧ (∀ p, p ≤ n → PC t n (20 * m + 11) (20 * m + 5) p e) ∧ (∀ p, p ≤ n → PT t n 119 [.ref 14] 226 [.ref 35] (20 * m + 13) (20 * m + 8) p e) ∧ (∀ p, p ≤ n → PT t n 117 [.ref 14, .null] 221 [.ref 35, .int (nI 0), .int (nI 0)] (20 * m + 14) (20 * m + 9) p e) ∧ (∀ p, p ≤ n → PT t n 110 [.ref 14, .null] 214 [.ref 35, .int (nI 0), .int (nI 0)] (20 * m + 15) (20 * m + 10) p e) := by
    intro m e D1 K1 he hS hU hC hD1 hK1
    have a1 : ∀ p, p ≤ n → PS t n 118 227 (20 * m + 8) (20 * m + 1) p e := fun p h => atom_pk hB h (by omega) (by omega) hS hD1 hK1
    have a2 : ∀ p, p ≤ n → PS t n 116 222 (20 * m + 9) (20 * m + 3) p e := fun p h => term_pk a1 (by omega) (by omega) h
    have a3 : ∀ p, p ≤ n → PS t n 108 215 (20 * m + 10) (20 * m + 5) p e := fun p h => sum_pk a2 (by omega) (by omega) h
    have a4 : ∀ p, p ≤ n → PC t n (20 * m + 11) (20 * m + 5) p e := fun p h => cmp_pk h a3 (by omega) (by omega)
    have a5 : ∀ p, p ≤ n → PT t n 119 [.ref 14] 226 [.ref 35] (20 * m + 13) (20 * m + 8) p e := fun p h => unit_pk h (by omega) (by omega) hU hC a3 a4 (by omega) (by omega) (by omega) (by omega) (by omega)
    have a6 : ∀ p, p ≤ n → PT t n 117 [.ref 14, .null] 221 [.ref 35, .int (nI 0), .int (nI 0)] (20 * m + 14) (20 * m + 9) p e := fun p h => part_pk a5 (by omega) (by omega) h
    have a7 : ∀ p, p ≤ n → PT t n 110 [.ref 14, .null] 214 [.ref 35, .int (nI 0), .int (nI 0)] (20 * m + 15) (20 * m + 10) p e := fun p h => cond_pk a6 (by omega) (by omega) h
    exact ⟨a3, a4, a5, a6, a7⟩
  intro m
  induction m with
  | zero =>
    intro e he
    exact key 0 e 0 0 he (fun h => absurd h (by omega)) (fun h => absurd h (by omega)) (fun h => absurd h (by omega)) (by omega) (by omega)
  | succ m ih =>
    intro e he
    obtain ⟨h1, h2, h3, h4, h5⟩ := ih (e + 1) (by omega)
    refine key (m + 1) e (20 * m + 15) (20 * m + 10) he (fun _ p h => ?_) (fun _ p h => (h3 p h).mono (by omega) (by omega)) (fun _ p h => h5 p h) (by omega) (by omega)
    rcases h1 p h with ⟨q, F, a, b, hX, hM⟩ | ⟨q, a, b, hX, hM⟩
    · refine Or.inl ⟨q, F, a, b, ?_, ?_⟩
      · intro d u X M Z Q hd hu hT hQ
        exact hX d u X M Z Q (by omega) hu hT (fun N r x y => hQ N r x (DenS.mono y (by omega) (Nat.le_refl _) (Nat.le_refl _) (Nat.le_refl _) (fun _ _ _ => rfl)))
      · intro d u X M Z Q hd hT hQ
        exact hM d u X M Z Q (by omega) hT hQ
    · refine Or.inr ⟨q, a, b, ?_, ?_⟩
      · intro d u X M Z Q hd hu hT hQ
        exact hX d u X M Z Q (by omega) hu hT hQ
      · intro d u X M Z Q hd hT hQ
        exact hM d u X M Z Q (by omega) hT hQ
