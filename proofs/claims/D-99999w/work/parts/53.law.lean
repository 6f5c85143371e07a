/-! A CLAUSE, whole -/
def LY : List Int32 := [121]
theorem SB2 (X : pmXs) (M : pmMs) (Z : pmZs) : SB (hp X M Z) 2 LY := ⟨rfl, rfl, by decide, by decide⟩
theorem SA2 : SA LY := by
  intro b hb
  simp only [LY, List.mem_cons, List.not_mem_nil, or_false] at hb
  rcases hb with rfl
  exact ⟨by decide, by rfl, by decide, by decide⟩
theorem low_LY : ∀ m, m < 256 → ∀ b ∈ LY, (b = (nI m).toInt8.toInt32 ↔ b = nI m) := by decide +kernel
section PKC
variable (t : Nat → Int32) (n : Nat)
def XclOk (D K p q : Nat) (P : (Nat → Int32) → Bool) (V : (Nat → Int32) → Int32) : Prop := ∀ (d u : Nat) (X : pmXs) (M : pmMs) (Z : pmZs) (Q : pmO → Prop), D ≤ d → 12 * (q - p) ≤ u → XT X t n → (∀ N r, Ext Z.2.2.length Z.2.2 N → ClD K Z.2.2.length N.length r P V N → Q (.inl (some (.ref (r + 59))), hp (PX X q 0) M (zN Z N))) → Wp d u 101 0 (pm_entry 101 [.ref 14]) [] (hp (PX X p 0) M Z) Q
def XclFl (D p q : Nat) : Prop := ∀ (d u : Nat) (X : pmXs) (M : pmMs) (Z : pmZs) (Q : pmO → Prop), D ≤ d → 12 * (q - p) + 12 ≤ u → XT X t n → (∀ N e', Ext Z.2.2.length Z.2.2 N → Q (.inr 2, hp (PX X q e') M (zN Z N))) → Wp d u 101 0 (pm_entry 101 [.ref 14]) [] (hp (PX X p 0) M Z) Q
def MclOk (D p q : Nat) (P : (Nat → Int32) → Bool) (V : (Nat → Int32) → Int32) : Prop := ∀ (d u : Nat) (X : pmXs) (M : pmMs) (Z : pmZs) (Q : pmO → Prop) (h : Bool) (f : Int32), D ≤ d → MT M t n → M.1 13 = nI 121 → Q (.inl none, hp X (KM (FM M (stH h (P (ma M 39))) (stV h (P (ma M 39)) (V (ma M 39)) f)) (nI q) (nI 0) (-1)) Z) → Wp d u 205 0 (pm_entry 205 [.ref 35]) [] (hp X (KM (FM M h f) (nI p) (nI 0) (-1)) Z) Q
def MclFl (D p q : Nat) : Prop := ∀ (d u : Nat) (X : pmXs) (M : pmMs) (Z : pmZs) (Q : pmO → Prop) (h : Bool) (f : Int32), D ≤ d → MT M t n → (∀ a e', Q (.inl none, hp X (KM (FM M h f) a e' (nI q)) Z)) → Wp d u 205 0 (pm_entry 205 [.ref 35]) [] (hp X (KM (FM M h f) (nI p) (nI 0) (-1)) Z) Q
def CLp (D K p : Nat) : Prop := (∃ q P V, p < q ∧ q ≤ n ∧ XclOk t n D K p q P V ∧ MclOk t n D p q P V) ∨ (∃ q, p ≤ q ∧ q ≤ n ∧ XclFl t n D p q ∧ MclFl t n D p q)
end PKC
theorem clause_pk {t : Nat → Int32} {n p DS KS DC KC DF KF DT D K : Nat} (hp' : p ≤ n) (hS : ∀ p, p ≤ n → PS t n 108 215 DS KS p 0) (hC : ∀ p, p ≤ n → PT t n 110 [.ref 14, .null] 214 [.ref 35, .int (nI 0), .int (nI 0)] DC KC p 0) (hF : ∀ p, p ≤ n → PF t n 110 214 DF KS KF p 0) (hTl : ∀ p, p ≤ n → TLp t n DT K p) (h8 : 8 ≤ D) (h1 : DS + 1 ≤ D) (h2 : DC + 1 ≤ D) (h3 : DF + 1 ≤ D) (h4 : DT ≤ D) (hKC : KC ≤ K) (hKF : KF ≤ K) (hKS : KS ≤ K) : CLp t n D (K + 1) p := by
  have hge := lk_ge t hp'
  have hln := lk_n t hp'
  by_cases h121 : ch t n (lk t n p) ≠ nI 121
  · have hf : fnd (ch t n (lk t n p)) 0 LY = -1 := fnd_not LY 0 (by simp only [LY, List.mem_cons, List.not_mem_nil, or_false]; exact h121)
    refine Or.inr ⟨lk t n p, hge, hln, ?_, ?_⟩
    · intro d u X M Z Q hd hu hT hQ
      obtain ⟨d, rfl⟩ : ∃ d0, d = d0 + 6 := ⟨d - 6, by omega⟩
      refine Wp.step rfl ?_
      refine Wp.call rfl (Nat.zero_le _) (X_look X M Z hT hp' ⟨_, _, rfl, ?_⟩)
      iterate 3 refine Wp.step rfl ?_
      have kk : ∀ u', Wp (d + 6) u' 101 23 [some (.ref 14), some (.int (ch t n (lk t n p))), none, none, none] [.ref 14] (hp (PX X (lk t n p) 0) M Z) Q := by
        intro u'
        refine Wp.step rfl ?_
        refine Wp.callF rfl rfl (Nat.zero_le _) (X_need0 _ M Z (Or.inr ⟨_, _, rfl, hQ Z.2.2 0 (Ext.refl _ _)⟩))
      rcases ch_rng t n (lk t n p) with ⟨g1, _⟩ | ⟨_, m, g1, g2⟩
      · rw [g1] at kk ⊢
        exact Wp.brT rfl (by decide) (kk _)
      · rw [g2] at kk hf ⊢
        rcases Nat.eq_zero_or_pos m with q | q
        · subst q
          exact Wp.brT rfl (by decide) (kk _)
        refine Wp.brF rfl (nI_nle q (by omega)) ?_
        iterate 2 refine Wp.step rfl ?_
        refine Wp.call (pm_call_v rfl rfl (SB2 _ _ _).1 rfl rfl) (Nat.zero_le _) (S_indexOf (SB2 _ _ _) (by decide) (nI_le (Nat.zero_le _) (by omega)) (nI_le (by omega) (by omega)) (low_LY m g1) ⟨_, _, rfl, ?_⟩)
        rw [hf]
        exact Wp.brT rfl (by decide) (kk _)
    · intro d u X M Z Q h f hd hT hQ
      obtain ⟨d, rfl⟩ : ∃ d0, d = d0 + 6 := ⟨d - 6, by omega⟩
      refine Wp.step rfl ?_
      refine Wp.call rfl (Nat.zero_le _) (M_look X (FM M h f) Z hT hp' ⟨_, _, rfl, ?_⟩)
      iterate 3 refine Wp.step rfl ?_
      refine Wp.call rfl (Nat.zero_le _) (M_isAmong (SB2 _ _ _) SA2 _ ⟨_, _, rfl, ?_⟩)
      rw [hf]
      refine Wp.brF rfl (fun q => q rfl) ?_
      refine Wp.step rfl ?_
      refine Wp.call rfl (Nat.zero_le _) (M_fails0 X (FM M h f) Z ⟨_, _, rfl, ?_⟩)
      refine Wp.step rfl ?_
      exact Wp.fin rfl trivial (hQ _ _)
  have h121 := Decidable.not_not.mp h121
  have hlt : lk t n p < n := ch_ne h121 (by decide)
  have hp1 : lk t n p + 1 ≤ n := hlt
  have hge2 := lk_ge t hp1
  have hln2 := lk_n t hp1
  have hf : fnd (nI 121) 0 LY = nI 0 := rfl
  have key37 : ∀ {d u : Nat} {X : pmXs} {M : pmMs} {Z : pmZs} {Q : pmO → Prop}, 6 ≤ d → XT X t n → Wp d u 101 37 [some (.ref 14), some (.int (nI 121)), none, none, none] [] (hp (PX X (lk t n p + 1) 0) M Z) Q → Wp d u 101 0 (pm_entry 101 [.ref 14]) [] (hp (PX X p 0) M Z) Q := by
    intro d u X M Z Q hd hT kk
    obtain ⟨d, rfl⟩ : ∃ d0, d = d0 + 6 := ⟨d - 6, by omega⟩
    refine Wp.step rfl ?_
    refine Wp.call rfl (Nat.zero_le _) (X_look X M Z hT hp' ⟨_, _, rfl, ?_⟩)
    rw [h121]
    iterate 3 refine Wp.step rfl ?_
    refine Wp.brF rfl (by decide) ?_
    iterate 2 refine Wp.step rfl ?_
    refine Wp.call (pm_call_v rfl rfl (SB2 _ _ _).1 rfl rfl) (Nat.zero_le _) (S_indexOf (SB2 _ _ _) (by decide) (by decide) (by decide) (low_LY 121 (by decide)) ⟨_, _, rfl, ?_⟩)
    rw [hf]
    refine Wp.brF rfl (by decide) ?_
    iterate 2 refine Wp.step rfl ?_
    refine Wp.call rfl (Nat.zero_le _) (X_need1 ⟨_, _, rfl, ?_⟩)
    iterate 5 refine Wp.step rfl ?_
    refine Wp.putX rfl rfl rfl ?_
    rw [PX_inc]
    exact kk
  have keyM20 : ∀ {d u : Nat} {X : pmXs} {M : pmMs} {Z : pmZs} {Q : pmO → Prop}, 6 ≤ d → MT M t n → Wp d u 205 30 [some (.ref 35), some (.int (nI 121)), none, none, none] [] (hp X (KM M (nI (lk t n p + 1)) (nI 0) (-1)) Z) Q → Wp d u 205 0 (pm_entry 205 [.ref 35]) [] (hp X (KM M (nI p) (nI 0) (-1)) Z) Q := by
    intro d u X M Z Q hd hT kk
    obtain ⟨d, rfl⟩ : ∃ d0, d = d0 + 6 := ⟨d - 6, by omega⟩
    refine Wp.step rfl ?_
    refine Wp.call rfl (Nat.zero_le _) (M_look X M Z hT hp' ⟨_, _, rfl, ?_⟩)
    rw [h121]
    iterate 3 refine Wp.step rfl ?_
    refine Wp.call rfl (Nat.zero_le _) (M_isAmong (SB2 _ _ _) SA2 _ ⟨_, _, rfl, ?_⟩)
    rw [hf]
    refine Wp.brT rfl (by decide) ?_
    iterate 5 refine Wp.step rfl ?_
    refine Wp.putM rfl rfl rfl ?_
    rw [KM_inc]
    exact kk
  by_cases h58 : ch t n (lk t n (lk t n p + 1)) ≠ nI 58
  · refine Or.inr ⟨lk t n (lk t n p + 1), by omega, hln2, ?_, ?_⟩
    · intro d u X M Z Q hd hu hT hQ
      refine key37 (by omega) hT ?_
      obtain ⟨d, rfl⟩ : ∃ d0, d = d0 + 6 := ⟨d - 6, by omega⟩
      iterate 2 refine Wp.step rfl ?_
      refine Wp.call rfl (Nat.zero_le _) (X_look X M Z hT hp1 ⟨_, _, rfl, ?_⟩)
      refine Wp.step rfl ?_
      refine Wp.brT rfl h58 ?_
      refine Wp.step rfl ?_
      refine Wp.callF rfl rfl (Nat.zero_le _) (X_need0 _ M Z (Or.inr ⟨_, _, rfl, hQ Z.2.2 0 (Ext.refl _ _)⟩))
    · intro d u X M Z Q h f hd hT hQ
      refine keyM20 (by omega) hT ?_
      obtain ⟨d, rfl⟩ : ∃ d0, d = d0 + 6 := ⟨d - 6, by omega⟩
      iterate 2 refine Wp.step rfl ?_
      refine Wp.call rfl (Nat.zero_le _) (M_takes0 X (FM M h f) Z hT hp1 h58 ⟨_, _, rfl, ?_⟩)
      refine Wp.brF rfl (fun q => q rfl) ?_
      exact Wp.fin rfl trivial (hQ _ _)
  have h58 := Decidable.not_not.mp h58
  have hlt2 : lk t n (lk t n p + 1) < n := ch_ne h58 (by decide)
  have hp2 : lk t n (lk t n p + 1) + 1 ≤ n := hlt2
  have hge3 := lk_ge t hp2
  have hln3 := lk_n t hp2
  have key70 : ∀ {d u : Nat} {X : pmXs} {M : pmMs} {Z : pmZs} {Q : pmO → Prop}, 6 ≤ d → XT X t n → Wp d u 101 70 [some (.ref 14), some (.int (nI 121)), some (.int (ch t n (lk t n (lk t n (lk t n p + 1) + 1)))), none, none] [] (hp (PX X (lk t n (lk t n (lk t n p + 1) + 1)) 0) M Z) Q → Wp d u 101 0 (pm_entry 101 [.ref 14]) [] (hp (PX X p 0) M Z) Q := by
    intro d u X M Z Q hd hT kk
    refine key37 (by omega) hT ?_
    obtain ⟨d, rfl⟩ : ∃ d0, d = d0 + 6 := ⟨d - 6, by omega⟩
    iterate 2 refine Wp.step rfl ?_
    refine Wp.call rfl (Nat.zero_le _) (X_look X M Z hT hp1 ⟨_, _, rfl, ?_⟩)
    rw [h58]
    refine Wp.step rfl ?_
    refine Wp.brF rfl (fun q => q rfl) ?_
    iterate 2 refine Wp.step rfl ?_
    refine Wp.call rfl (Nat.zero_le _) (X_need1 ⟨_, _, rfl, ?_⟩)
    iterate 5 refine Wp.step rfl ?_
    refine Wp.putX rfl rfl rfl ?_
    rw [PX_inc]
    refine Wp.step rfl ?_
    refine Wp.call rfl (Nat.zero_le _) (X_look X M Z hT hp2 ⟨_, _, rfl, ?_⟩)
    refine Wp.step rfl ?_
    exact kk
  have keyM50 : ∀ {d u : Nat} {X : pmXs} {M : pmMs} {Z : pmZs} {Q : pmO → Prop}, 6 ≤ d → MT M t n → Wp d u 205 50 [some (.ref 35), some (.int (nI 121)), some (.int (bB true)), some (.int (nI 0)), some (.int (ch t n (lk t n (lk t n (lk t n p + 1) + 1))))] [] (hp X (KM M (nI (lk t n (lk t n (lk t n p + 1) + 1))) (nI 0) (-1)) Z) Q → Wp d u 205 0 (pm_entry 205 [.ref 35]) [] (hp X (KM M (nI p) (nI 0) (-1)) Z) Q := by
    intro d u X M Z Q hd hT kk
    refine keyM20 (by omega) hT ?_
    obtain ⟨d, rfl⟩ : ∃ d0, d = d0 + 6 := ⟨d - 6, by omega⟩
    iterate 2 refine Wp.step rfl ?_
    refine Wp.call rfl (Nat.zero_le _) (M_takes1 X M Z hT hp1 h58 ⟨_, _, rfl, ?_⟩)
    refine Wp.brT rfl (by decide) ?_
    iterate 5 refine Wp.step rfl ?_
    refine Wp.call rfl (Nat.zero_le _) (M_look X M Z hT hp2 ⟨_, _, rfl, ?_⟩)
    refine Wp.step rfl ?_
    exact kk
  generalize hb : lk t n (lk t n (lk t n p + 1) + 1) = b at key70 keyM50 hge3 hln3
  by_cases hc : ch t n b = nI 33 ∨ ch t n b = nI 40
  · have keyA : ∀ {d u : Nat} {X : pmXs} {M : pmMs} {Z : pmZs} {Q : pmO → Prop}, 6 ≤ d → XT X t n → Wp d u 101 118 [some (.ref 14), some (.int (nI 121)), some (.int (ch t n b)), some .null, none] [.null, .ref 14] (hp (PX X b 0) M Z) Q → Wp d u 101 0 (pm_entry 101 [.ref 14]) [] (hp (PX X p 0) M Z) Q := by
      intro d u X M Z Q hd hT kk
      refine key70 (by omega) hT ?_
      have k82 : Wp d u 101 82 [some (.ref 14), some (.int (nI 121)), some (.int (ch t n b)), none, none] [] (hp (PX X b 0) M Z) Q := by
        iterate 7 refine Wp.step rfl ?_
        exact kk
      iterate 2 refine Wp.step rfl ?_
      rcases hc with hc | hc
      · exact Wp.brT rfl hc k82
      · refine Wp.brF rfl (by rw [hc]; decide) ?_
        iterate 2 refine Wp.step rfl ?_
        exact Wp.brF rfl (fun q => q hc) k82
    have keyMA : ∀ {d u : Nat} {X : pmXs} {M : pmMs} {Z : pmZs} {Q : pmO → Prop}, 6 ≤ d → MT M t n → Wp d u 205 67 [some (.ref 35), some (.int (nI 121)), some (.int (bB true)), some (.int (nI 0)), some (.int (ch t n b))] [.int (nI 0), .int (nI 0), .ref 35] (hp X (KM M (nI b) (nI 0) (-1)) Z) Q → Wp d u 205 0 (pm_entry 205 [.ref 35]) [] (hp X (KM M (nI p) (nI 0) (-1)) Z) Q := by
      intro d u X M Z Q hd hT kk
      refine keyM50 (by omega) hT ?_
      have k64 : Wp d u 205 64 [some (.ref 35), some (.int (nI 121)), some (.int (bB true)), some (.int (nI 0)), some (.int (ch t n b))] [] (hp X (KM M (nI b) (nI 0) (-1)) Z) Q := by
        iterate 3 refine Wp.step rfl ?_
        exact kk
      iterate 2 refine Wp.step rfl ?_
      rcases hc with hc | hc
      · exact Wp.brT rfl hc k64
      · refine Wp.brF rfl (by rw [hc]; decide) ?_
        iterate 2 refine Wp.step rfl ?_
        exact Wp.brF rfl (fun q => q hc) k64
    rcases hC b hln3 with ⟨q1, P, a1, a2, aX, aM⟩ | ⟨q1, a1, a2, aX, aM⟩
    · rcases hTl q1 a2 with ⟨q, V, b1, b2, bX, bM, _⟩ | ⟨q, b1, b2, bX, bM, _⟩
      · refine Or.inl ⟨q, P, V, by omega, b2, ?_, ?_⟩
        · intro d u X M Z Q hd hu hT hQ
          refine keyA (by omega) hT ?_
          obtain ⟨d, rfl⟩ : ∃ d0, d = d0 + 6 := ⟨d - 6, by omega⟩
          refine Wp.call (u1 := 12 * (q1 - b)) rfl (by omega) (aX _ _ X M Z _ (by omega) (Nat.le_refl _) hT (fun N r a c => ⟨_, _, rfl, ?_⟩))
          exact bX _ _ X M (zN Z N) Q Z.2.2.length r P _ none _ (by omega) (by omega) hT a.1 (c.mono hKC (Nat.le_refl _) (Nat.le_refl _) (Nat.le_refl _) (fun _ _ _ => rfl)) (fun N' r' a' c' => hQ N' r' (a.trans a') c')
        · intro d u X M Z Q h f hd hT h13 hQ
          refine keyMA (by omega) hT ?_
          obtain ⟨d, rfl⟩ : ∃ d0, d = d0 + 6 := ⟨d - 6, by omega⟩
          refine Wp.call (u1 := 0) rfl (Nat.zero_le _) (aM _ _ X (FM M h f) Z _ (by omega) hT ⟨_, _, rfl, ?_⟩)
          exact bM _ _ X M Z Q _ h f _ _ _ (by omega) hT h13 hQ
      · refine Or.inr ⟨q, by omega, b2, ?_, ?_⟩
        · intro d u X M Z Q hd hu hT hQ
          refine keyA (by omega) hT ?_
          obtain ⟨d, rfl⟩ : ∃ d0, d = d0 + 6 := ⟨d - 6, by omega⟩
          refine Wp.call (u1 := 12 * (q1 - b)) rfl (by omega) (aX _ _ X M Z _ (by omega) (Nat.le_refl _) hT (fun N r a c => ⟨_, _, rfl, ?_⟩))
          exact bX _ _ X M (zN Z N) Q r _ none _ (by omega) (by omega) hT (fun N' e' a' => hQ N' e' (a.trans (a'.less a.1)))
        · intro d u X M Z Q h f hd hT hQ
          refine keyMA (by omega) hT ?_
          obtain ⟨d, rfl⟩ : ∃ d0, d = d0 + 6 := ⟨d - 6, by omega⟩
          refine Wp.call (u1 := 0) rfl (Nat.zero_le _) (aM _ _ X (FM M h f) Z _ (by omega) hT ⟨_, _, rfl, ?_⟩)
          exact bM _ _ X M Z Q _ h f _ _ _ (by omega) hT hQ
    · refine Or.inr ⟨q1, by omega, a2, ?_, ?_⟩
      · intro d u X M Z Q hd hu hT hQ
        refine keyA (by omega) hT ?_
        obtain ⟨d, rfl⟩ : ∃ d0, d = d0 + 6 := ⟨d - 6, by omega⟩
        refine Wp.callF (u1 := u) rfl rfl (Nat.le_refl _) (aX _ _ X M Z _ (by omega) (by omega) hT (fun N e' a => Or.inr ⟨_, _, rfl, hQ N e' a⟩))
      · intro d u X M Z Q h f hd hT hQ
        have h240 := MT_le hT
        refine keyMA (by omega) hT ?_
        obtain ⟨d, rfl⟩ : ∃ d0, d = d0 + 6 := ⟨d - 6, by omega⟩
        refine Wp.call (u1 := 0) rfl (Nat.zero_le _) (aM _ _ X (FM M h f) Z _ (by omega) hT (fun v a e' => ⟨_, _, rfl, ?_⟩))
        iterate 3 refine Wp.step rfl ?_
        refine Wp.call rfl (Nat.zero_le _) (M_takesF X (FM M h f) Z (nI_m1 (by omega)) ⟨_, _, rfl, ?_⟩)
        refine Wp.brF rfl (fun q => q rfl) ?_
        exact Wp.fin rfl trivial (hQ _ _)
  have hc1 : ch t n b ≠ nI 33 := fun q => hc (Or.inl q)
  have hc2 : ch t n b ≠ nI 40 := fun q => hc (Or.inr q)
  have keyB : ∀ {d u : Nat} {X : pmXs} {M : pmMs} {Z : pmZs} {Q : pmO → Prop}, 6 ≤ d → XT X t n → Wp d u 101 86 [some (.ref 14), some (.int (nI 121)), some (.int (ch t n b)), none, none] [] (hp (PX X b 0) M Z) Q → Wp d u 101 0 (pm_entry 101 [.ref 14]) [] (hp (PX X p 0) M Z) Q := by
    intro d u X M Z Q hd hT kk
    refine key70 (by omega) hT ?_
    iterate 2 refine Wp.step rfl ?_
    refine Wp.brF rfl hc1 ?_
    iterate 2 refine Wp.step rfl ?_
    exact Wp.brT rfl hc2 kk
  have keyMB : ∀ {d u : Nat} {X : pmXs} {M : pmMs} {Z : pmZs} {Q : pmO → Prop}, 6 ≤ d → MT M t n → Wp d u 205 89 [some (.ref 35), some (.int (nI 121)), some (.int (bB true)), some (.int (nI 0)), some (.int (ch t n b))] [] (hp X (KM M (nI b) (nI 0) (-1)) Z) Q → Wp d u 205 0 (pm_entry 205 [.ref 35]) [] (hp X (KM M (nI p) (nI 0) (-1)) Z) Q := by
    intro d u X M Z Q hd hT kk
    refine keyM50 (by omega) hT ?_
    iterate 2 refine Wp.step rfl ?_
    refine Wp.brF rfl hc1 ?_
    iterate 2 refine Wp.step rfl ?_
    exact Wp.brT rfl hc2 kk
  rcases hS b hln3 with ⟨q1, F0, a1, a2, aX, aM⟩ | ⟨q1, a1, a2, aX, aM⟩
  · have hq1 := lk_ge t a2
    have hq1n := lk_n t a2
    by_cases hs : isS (ch t n (lk t n q1))
    · have keyX : ∀ {d u : Nat} {X : pmXs} {M : pmMs} {Z : pmZs} {Q : pmO → Prop}, D ≤ d → 12 * (q1 - p) ≤ u → XT X t n → (∀ N r u', Ext Z.2.2.length Z.2.2 N → DenS KS Z.2.2.length N.length r F0 N → u - 12 * (q1 - b) ≤ u' → Wp d u' 101 118 [some (.ref 14), some (.int (nI 121)), some (.int (ch t n b)), some (.ref (r + 59)), none] [.ref (r + 59), .ref 14] (hp (PX X (lk t n q1) 0) M (zN Z N)) Q) → Wp d u 101 0 (pm_entry 101 [.ref 14]) [] (hp (PX X p 0) M Z) Q := by
        intro d u X M Z Q hd hu hT kk
        refine keyB (by omega) hT ?_
        obtain ⟨d, rfl⟩ : ∃ d0, d = d0 + 6 := ⟨d - 6, by omega⟩
        refine Wp.step rfl ?_
        refine Wp.call (u1 := 12 * (q1 - b)) rfl (by omega) (aX _ _ X M Z _ (by omega) (Nat.le_refl _) hT (fun N r a c => ⟨_, _, rfl, ?_⟩))
        iterate 4 refine Wp.step rfl ?_
        refine Wp.call rfl (Nat.zero_le _) (X_look X M _ hT a2 ⟨_, _, rfl, ?_⟩)
        refine Wp.call rfl (Nat.zero_le _) (X_isSign _ ⟨_, _, rfl, ?_⟩)
        rw [show bI (isS (ch t n (lk t n q1))) = 1 from if_pos hs]
        refine Wp.brT rfl (by decide) ?_
        iterate 2 refine Wp.step rfl ?_
        exact kk N r _ a c (by omega)
      have keyMX : ∀ {d u : Nat} {X : pmXs} {M : pmMs} {Z : pmZs} {Q : pmO → Prop}, D ≤ d → MT M t n → Wp d u 205 115 [some (.ref 35), some (.int (nI 121)), some (.int (bB true)), some (.int (F0 (ma M 39))), some (.int (ch t n b))] [.int (F0 (ma M 39)), .int (nI 1), .ref 35] (hp X (KM M (nI (lk t n q1)) (nI 0) (-1)) Z) Q → Wp d u 205 0 (pm_entry 205 [.ref 35]) [] (hp X (KM M (nI p) (nI 0) (-1)) Z) Q := by
        intro d u X M Z Q hd hT kk
        refine keyMB (by omega) hT ?_
        obtain ⟨d, rfl⟩ : ∃ d0, d = d0 + 6 := ⟨d - 6, by omega⟩
        refine Wp.step rfl ?_
        refine Wp.call (u1 := 0) rfl (Nat.zero_le _) (aM _ _ X M Z _ (by omega) hT ⟨_, _, rfl, ?_⟩)
        iterate 4 refine Wp.step rfl ?_
        refine Wp.brF rfl (fun q => q rfl) ?_
        refine Wp.step rfl ?_
        refine Wp.call rfl (Nat.zero_le _) (M_look X M Z hT a2 ⟨_, _, rfl, ?_⟩)
        refine Wp.call rfl (Nat.zero_le _) (M_isSign _ ⟨_, _, rfl, ?_⟩)
        rw [show bI (isS (ch t n (lk t n q1))) = 1 from if_pos hs]
        refine Wp.brF rfl (by decide) ?_
        iterate 3 refine Wp.step rfl ?_
        exact kk
      rcases hF (lk t n q1) hq1n with ⟨q2, G, c1, c2, cX, cM⟩ | ⟨q2, c1, c2, cX, cM⟩
      · rcases hTl q2 c2 with ⟨q, V, b1, b2, bX, _, bM⟩ | ⟨q, b1, b2, bX, _, bM⟩
        · refine Or.inl ⟨q, fun l => G l (F0 l), V, by omega, b2, ?_, ?_⟩
          · intro d u X M Z Q hd hu hT hQ
            refine keyX (by omega) (by omega) hT (fun N r u' a c hu' => ?_)
            obtain ⟨d, rfl⟩ : ∃ d0, d = d0 + 6 := ⟨d - 6, by omega⟩
            refine Wp.call (u1 := 12 * (q2 - lk t n q1)) rfl (by omega) (cX _ _ X M (zN Z N) _ Z.2.2.length r F0 (by omega) (Nat.le_refl _) hT a.1 c (fun N2 r2 a2 c2 => ⟨_, _, rfl, ?_⟩))
            exact bX _ _ X M (zN Z N2) Q Z.2.2.length r2 _ _ (some (r + 59)) _ (by omega) (by omega) hT (Nat.le_trans a.1 a2.1) (c2.mono hKF (Nat.le_refl _) (Nat.le_refl _) (Nat.le_refl _) (fun _ _ _ => rfl)) (fun N' r' a' c' => hQ N' r' (a.trans (a2.trans a')) c')
          · intro d u X M Z Q h f hd hT h13 hQ
            refine keyMX (M := FM M h f) (by omega) hT ?_
            obtain ⟨d, rfl⟩ : ∃ d0, d = d0 + 6 := ⟨d - 6, by omega⟩
            refine Wp.call (u1 := 0) rfl (Nat.zero_le _) (cM _ _ X (FM M h f) Z _ _ (by omega) hT ⟨_, _, rfl, ?_⟩)
            exact bM _ _ X M Z Q _ h f _ _ _ (by omega) hT h13 hQ
        · refine Or.inr ⟨q, by omega, b2, ?_, ?_⟩
          · intro d u X M Z Q hd hu hT hQ
            refine keyX (by omega) (by omega) hT (fun N r u' a c hu' => ?_)
            obtain ⟨d, rfl⟩ : ∃ d0, d = d0 + 6 := ⟨d - 6, by omega⟩
            refine Wp.call (u1 := 12 * (q2 - lk t n q1)) rfl (by omega) (cX _ _ X M (zN Z N) _ Z.2.2.length r F0 (by omega) (Nat.le_refl _) hT a.1 c (fun N2 r2 a2 c2 => ⟨_, _, rfl, ?_⟩))
            exact bX _ _ X M (zN Z N2) Q r2 _ (some (r + 59)) _ (by omega) (by omega) hT (fun N' e' a' => hQ N' e' (a.trans (a2.trans (a'.less (Nat.le_trans a.1 a2.1)))))
          · intro d u X M Z Q h f hd hT hQ
            refine keyMX (M := FM M h f) (by omega) hT ?_
            obtain ⟨d, rfl⟩ : ∃ d0, d = d0 + 6 := ⟨d - 6, by omega⟩
            refine Wp.call (u1 := 0) rfl (Nat.zero_le _) (cM _ _ X (FM M h f) Z _ _ (by omega) hT ⟨_, _, rfl, ?_⟩)
            exact bM _ _ X M Z Q _ h f _ _ _ (by omega) hT hQ
      · refine Or.inr ⟨q2, by omega, c2, ?_, ?_⟩
        · intro d u X M Z Q hd hu hT hQ
          refine keyX (by omega) (by omega) hT (fun N r u' a c hu' => ?_)
          obtain ⟨d, rfl⟩ : ∃ d0, d = d0 + 6 := ⟨d - 6, by omega⟩
          refine Wp.callF (u1 := 12 * (q2 - lk t n q1) + 12) rfl rfl (by omega) (cX _ _ X M (zN Z N) _ Z.2.2.length r F0 (by omega) (Nat.le_refl _) hT a.1 c (fun N2 e' a2 => Or.inr ⟨_, _, rfl, hQ N2 e' (a.trans a2)⟩))
        · intro d u X M Z Q h f hd hT hQ
          have h240 := MT_le hT
          refine keyMX (M := FM M h f) (by omega) hT ?_
          obtain ⟨d, rfl⟩ : ∃ d0, d = d0 + 6 := ⟨d - 6, by omega⟩
          refine Wp.call (u1 := 0) rfl (Nat.zero_le _) (cM _ _ X (FM M h f) Z _ _ (by omega) hT (fun v a e' => ⟨_, _, rfl, ?_⟩))
          iterate 3 refine Wp.step rfl ?_
          refine Wp.call rfl (Nat.zero_le _) (M_takesF X (FM M h f) Z (nI_m1 (by omega)) ⟨_, _, rfl, ?_⟩)
          refine Wp.brF rfl (fun q => q rfl) ?_
          exact Wp.fin rfl trivial (hQ _ _)
    · refine Or.inl ⟨lk t n q1, fun _ => true, F0, by omega, hq1n, ?_, ?_⟩
      · intro d u X M Z Q hd hu hT hQ
        refine keyB (by omega) hT ?_
        obtain ⟨d, rfl⟩ : ∃ d0, d = d0 + 6 := ⟨d - 6, by omega⟩
        refine Wp.step rfl ?_
        refine Wp.call (u1 := 12 * (q1 - b)) rfl (by omega) (aX _ _ X M Z _ (by omega) (Nat.le_refl _) hT (fun N r a c => ⟨_, _, rfl, ?_⟩))
        iterate 4 refine Wp.step rfl ?_
        refine Wp.call rfl (Nat.zero_le _) (X_look X M _ hT a2 ⟨_, _, rfl, ?_⟩)
        refine Wp.call rfl (Nat.zero_le _) (X_isSign _ ⟨_, _, rfl, ?_⟩)
        rw [show bI (isS (ch t n (lk t n q1))) = 0 from if_neg hs]
        refine Wp.brF rfl (fun q => q rfl) ?_
        refine Wp.newZ rfl rfl (by omega) ?_
        iterate 4 refine Wp.step rfl ?_
        refine Wp.call (u1 := 0) rfl (Nat.zero_le _) (Clause_init (i := N.length) (s := r) (tv := .null) (a := .int 0) (b := .null) (c := .null) (nx := .null) trivial ⟨none, rfl⟩ nth_end (fun N5 g1 g2 g3 => ⟨_, _, rfl, ?_⟩))
        have hlen : N5.length = N.length + 1 := g1.trans len_end
        have hE5 : ∀ i, i < N.length → pm_nth N5 i = pm_nth N i := fun i hi => (g3 i (by omega)).trans (nth_app hi)
        refine Wp.fin rfl trivial (hQ N5 _ ?_ ?_)
        · refine ⟨by have := a.1; omega, fun i hi => ?_⟩
          rw [hE5 i (by have := a.1; omega)]
          exact a.2 i hi
        · rw [hlen]
          exact ClD_plain (c.mono hKS (Nat.le_refl _) (Nat.le_refl _) (Nat.le_refl _) (fun _ _ _ => rfl)) (Nat.le_refl _) g2 hE5
      · intro d u X M Z Q h f hd hT h13 hQ
        refine keyMB (M := FM M h f) (by omega) hT ?_
        obtain ⟨d, rfl⟩ : ∃ d0, d = d0 + 6 := ⟨d - 6, by omega⟩
        refine Wp.step rfl ?_
        refine Wp.call (u1 := 0) rfl (Nat.zero_le _) (aM _ _ X (FM M h f) Z _ (by omega) hT ⟨_, _, rfl, ?_⟩)
        iterate 4 refine Wp.step rfl ?_
        refine Wp.brF rfl (fun q => q rfl) ?_
        refine Wp.step rfl ?_
        refine Wp.call rfl (Nat.zero_le _) (M_look X (FM M h f) Z hT a2 ⟨_, _, rfl, ?_⟩)
        refine Wp.call rfl (Nat.zero_le _) (M_isSign _ ⟨_, _, rfl, ?_⟩)
        rw [show bI (isS (ch t n (lk t n q1))) = 0 from if_neg hs]
        refine Wp.brT rfl (by decide) ?_
        exact M_clause_end h13 hQ
  · refine Or.inr ⟨q1, by omega, a2, ?_, ?_⟩
    · intro d u X M Z Q hd hu hT hQ
      refine keyB (by omega) hT ?_
      obtain ⟨d, rfl⟩ : ∃ d0, d = d0 + 6 := ⟨d - 6, by omega⟩
      refine Wp.step rfl ?_
      refine Wp.callF (u1 := u) rfl rfl (Nat.le_refl _) (aX _ _ X M Z _ (by omega) (by omega) hT (fun N e' a => Or.inr ⟨_, _, rfl, hQ N e' a⟩))
    · intro d u X M Z Q h f hd hT hQ
      have h240 := MT_le hT
      refine keyMB (M := FM M h f) (by omega) hT ?_
      obtain ⟨d, rfl⟩ : ∃ d0, d = d0 + 6 := ⟨d - 6, by omega⟩
      refine Wp.step rfl ?_
      refine Wp.call (u1 := 0) rfl (Nat.zero_le _) (aM _ _ X (FM M h f) Z _ (by omega) hT (fun v a e' => ⟨_, _, rfl, ?_⟩))
      iterate 4 refine Wp.step rfl ?_
      refine Wp.brT rfl (nI_m1 (by omega)) ?_
      exact M_clause_end_f (nI_m1 (by omega)) (hQ _ _)
