/-! A CAMPAIGN's text, in both -/
def L12 : List Int32 := [121, 104, 97, 116]
theorem SB12 (X : pmXs) (M : pmMs) (Z : pmZs) : SB (hp X M Z) 12 L12 := ⟨rfl, rfl, by decide, by decide⟩
theorem SA12 : SA L12 := by
  intro b hb
  simp only [L12, List.mem_cons, List.not_mem_nil, or_false] at hb
  rcases hb with rfl | rfl | rfl | rfl <;> exact ⟨by decide, by rfl, by decide, by decide⟩
theorem low_L12 : ∀ m, m < 256 → ∀ b ∈ L12, (b = (nI m).toInt8.toInt32 ↔ b = nI m) := by decide +kernel
def stp (a : Nat → Int32) (A : Nat) (s g : Int32) : Nat → Int32 := upd (upd a A s) (A + 1) g
section PKD
variable (t : Nat → Int32) (n : Nat)
def XspOk (p q : Nat) (s g : Int32) : Prop := ∀ (d u : Nat) (X : pmXs) (M : pmMs) (Z : pmZs) (Q : pmO → Prop) (e A : Nat), 8 ≤ d → XT X t n → A + 1 < 160 → Q (.inl none, hp (PX (xA X 23 (stp (xa X 23) A s g)) q e) M Z) → Wp d u 107 0 (pm_entry 107 [.ref 14, .int (nI A)]) [] (hp (PX X p e) M Z) Q
def XspFl (p q : Nat) : Prop := ∀ (d u : Nat) (X : pmXs) (M : pmMs) (Z : pmZs) (Q : pmO → Prop) (e A : Nat), 8 ≤ d → XT X t n → A + 1 < 160 → (∀ f, (∀ j, j < A → f j = xa X 23 j) → Q (.inr 2, hp (PX (xA X 23 f) q e) M Z)) → Wp d u 107 0 (pm_entry 107 [.ref 14, .int (nI A)]) [] (hp (PX X p e) M Z) Q
def MspOk (p q : Nat) (s g : Int32) : Prop := ∀ (d u : Nat) (X : pmXs) (M : pmMs) (Z : pmZs) (Q : pmO → Prop) (e : Int32) (A : Nat), 8 ≤ d → MT M t n → A + 1 < 160 → Q (.inl none, hp X (KM (mA M 46 (stp (ma M 46) A s g)) (nI q) e (-1)) Z) → Wp d u 206 0 (pm_entry 206 [.ref 35, .int (nI A)]) [] (hp X (KM M (nI p) e (-1)) Z) Q
def MspFl (p q : Nat) : Prop := ∀ (d u : Nat) (X : pmXs) (M : pmMs) (Z : pmZs) (Q : pmO → Prop) (e : Int32) (A : Nat), 8 ≤ d → MT M t n → A + 1 < 160 → (∀ f, (∀ j, j < A → f j = ma M 46 j) → Q (.inl none, hp X (KM (mA M 46 f) (nI q) e (nI q)) Z)) → Wp d u 206 0 (pm_entry 206 [.ref 35, .int (nI A)]) [] (hp X (KM M (nI p) e (-1)) Z) Q
def SPp (p : Nat) : Prop := (∃ q s g, p < q ∧ q ≤ n ∧ XspOk t n p q s g ∧ MspOk t n p q s g) ∨ (∃ q, p ≤ q ∧ q ≤ n ∧ XspFl t n p q ∧ MspFl t n p q)
end PKD
theorem step_pk {t : Nat → Int32} {n p : Nat} (hB : ∀ j, j < n → isB (t j)) (hp' : p ≤ n) : SPp t n p := by
  have hge := lk_ge t hp'
  have hln := lk_n t hp'
  rcases fnd_cases (ch t n (lk t n p)) L12 with ⟨hf, hni⟩ | ⟨j, hj, hf, hin⟩
  · refine Or.inr ⟨lk t n p, hge, hln, ?_, ?_⟩
    · intro d u X M Z Q e A hd hT hA hQ
      obtain ⟨d, rfl⟩ : ∃ d0, d = d0 + 8 := ⟨d - 8, by omega⟩
      have k22 : Wp (d + 8) u 107 22 [some (.ref 14), some (.int (nI A)), none] [.int (-1)] (hp (PX X (lk t n p) e) M Z) Q := by
        iterate 3 refine Wp.step rfl ?_
        refine Wp.brT rfl (by decide) ?_
        refine Wp.step rfl ?_
        have h9 := hQ (xa X 23) (fun _ _ => rfl)
        rw [xA_self] at h9
        refine Wp.callF rfl rfl (Nat.zero_le _) (X_need0 _ M Z (Or.inr ⟨_, _, rfl, h9⟩))
      refine Wp.step rfl ?_
      refine Wp.call rfl (Nat.zero_le _) (X_look X M Z hT hp' ⟨_, _, rfl, ?_⟩)
      refine Wp.step rfl ?_
      rcases ch_rng t n (lk t n p) with ⟨g1, _⟩ | ⟨_, m, g1, g2⟩
      · refine Wp.brF rfl (fun q => q g1) ?_
        iterate 2 refine Wp.step rfl ?_
        exact k22
      · refine Wp.brT rfl (by rw [g2]; exact nI_m1 (by omega)) ?_
        iterate 2 refine Wp.step rfl ?_
        refine Wp.call rfl (Nat.zero_le _) (X_byteHere X M Z hT ⟨_, _, rfl, ?_⟩ hln)
        rw [g2] at hf ⊢
        refine Wp.call (pm_call_v rfl rfl (SB12 _ _ _).1 rfl rfl) (Nat.zero_le _) (S_indexOf (SB12 _ _ _) (by decide) (nI_le (Nat.zero_le _) (by omega)) (nI_le (by omega) (by omega)) (low_L12 m g1) ⟨_, _, rfl, ?_⟩)
        rw [hf]
        exact k22
    · intro d u X M Z Q e A hd hT hA hQ
      obtain ⟨d, rfl⟩ : ∃ d0, d = d0 + 8 := ⟨d - 8, by omega⟩
      iterate 2 refine Wp.step rfl ?_
      refine Wp.call rfl (Nat.zero_le _) (M_look X M Z hT hp' ⟨_, _, rfl, ?_⟩)
      refine Wp.call rfl (Nat.zero_le _) (M_spotOf (SB12 _ _ _) SA12 _ ⟨_, _, rfl, ?_⟩)
      rw [hf]
      iterate 3 refine Wp.step rfl ?_
      refine Wp.brF rfl (fun q => q rfl) ?_
      refine Wp.step rfl ?_
      refine Wp.call rfl (Nat.zero_le _) (M_fails0 X M Z ⟨_, _, rfl, ?_⟩)
      refine Wp.step rfl ?_
      have h9 := hQ (ma M 46) (fun _ _ => rfl)
      rw [mA_self] at h9
      exact Wp.fin rfl trivial h9
  have hj4 : j < 4 := hj
  have hm1 : ch t n (lk t n p) ≠ -1 := by
    intro q
    rw [q] at hin
    revert hin
    decide
  have hlt := ch_lt hm1
  obtain ⟨_, m, g1, g2⟩ : lk t n p < n ∧ ∃ m, m < 256 ∧ ch t n (lk t n p) = nI m := by
    rcases ch_rng t n (lk t n p) with ⟨h, _⟩ | h
    · exact absurd h hm1
    · exact h
  have hf2 : fnd (nI m) 0 L12 = nI j := by rw [← g2]; exact hf
  have keyX : ∀ {d u : Nat} {X : pmXs} {M : pmMs} {Z : pmZs} {Q : pmO → Prop} {e A : Nat}, XT X t n → A + 1 < 160 → Wp (d + 8) u 107 62 [some (.ref 14), some (.int (nI A)), some (.int (nI j))] [] (hp (PX (xA X 23 (stp (xa X 23) A (nI j) (-1))) (lk t n p + 1) e) M Z) Q → Wp (d + 8) u 107 0 (pm_entry 107 [.ref 14, .int (nI A)]) [] (hp (PX X p e) M Z) Q := by
    intro d u X M Z Q e A hT hA kk
    refine Wp.step rfl ?_
    refine Wp.call rfl (Nat.zero_le _) (X_look X M Z hT hp' ⟨_, _, rfl, ?_⟩)
    refine Wp.step rfl ?_
    refine Wp.brT rfl hm1 ?_
    iterate 2 refine Wp.step rfl ?_
    refine Wp.call rfl (Nat.zero_le _) (X_byteHere X M Z hT ⟨_, _, rfl, ?_⟩ hln)
    rw [g2]
    refine Wp.call (pm_call_v rfl rfl (SB12 _ _ _).1 rfl rfl) (Nat.zero_le _) (S_indexOf (SB12 _ _ _) (by decide) (nI_le (Nat.zero_le _) (by omega)) (nI_le (by omega) (by omega)) (low_L12 m g1) ⟨_, _, rfl, ?_⟩)
    rw [hf2]
    iterate 3 refine Wp.step rfl ?_
    refine Wp.brF rfl (nI_pos (by omega)) ?_
    iterate 2 refine Wp.step rfl ?_
    refine Wp.call rfl (Nat.zero_le _) (X_need1 ⟨_, _, rfl, ?_⟩)
    iterate 5 refine Wp.step rfl ?_
    refine Wp.putX rfl rfl rfl ?_
    rw [PX_inc]
    iterate 4 refine Wp.step rfl ?_
    refine Wp.istX (k := A) rfl rfl rfl rfl (by omega) (by decide) ?_
    iterate 6 refine Wp.step rfl ?_
    refine Wp.istX (k := A + 1) rfl rfl rfl (nI_add A 1) (by omega) (by decide) ?_
    rw [xA_xA, xA_same]
    exact kk
  have keyM : ∀ {d u : Nat} {X : pmXs} {M : pmMs} {Z : pmZs} {Q : pmO → Prop} {e : Int32} {A : Nat}, MT M t n → A + 1 < 160 → Wp (d + 8) u 206 48 [some (.ref 35), some (.int (nI A)), some (.int (nI j)), none] [] (hp X (KM (mA M 46 (stp (ma M 46) A (nI j) (-1))) (nI (lk t n p + 1)) e (-1)) Z) Q → Wp (d + 8) u 206 0 (pm_entry 206 [.ref 35, .int (nI A)]) [] (hp X (KM M (nI p) e (-1)) Z) Q := by
    intro d u X M Z Q e A hT hA kk
    iterate 2 refine Wp.step rfl ?_
    refine Wp.call rfl (Nat.zero_le _) (M_look X M Z hT hp' ⟨_, _, rfl, ?_⟩)
    refine Wp.call rfl (Nat.zero_le _) (M_spotOf (SB12 _ _ _) SA12 _ ⟨_, _, rfl, ?_⟩)
    rw [hf]
    iterate 3 refine Wp.step rfl ?_
    refine Wp.brT rfl (nI_m1 (by omega)) ?_
    iterate 5 refine Wp.step rfl ?_
    refine Wp.putM rfl rfl rfl ?_
    rw [KM_inc]
    iterate 4 refine Wp.step rfl ?_
    refine Wp.istM (k := A) rfl rfl rfl rfl (by omega) (by decide) ?_
    iterate 6 refine Wp.step rfl ?_
    refine Wp.istM (k := A + 1) rfl rfl rfl (nI_add A 1) (by omega) (by decide) ?_
    rw [mA_mA, mA_same]
    exact kk
  by_cases hj0 : j = 0
  · subst hj0
    refine Or.inl ⟨lk t n p + 1, nI 0, -1, by omega, by omega, ?_, ?_⟩
    · intro d u X M Z Q e A hd hT hA hQ
      obtain ⟨d, rfl⟩ : ∃ d0, d = d0 + 8 := ⟨d - 8, by omega⟩
      refine keyX hT hA ?_
      refine Wp.step rfl ?_
      refine Wp.brF rfl (fun q => q rfl) ?_
      exact Wp.fin rfl trivial hQ
    · intro d u X M Z Q e A hd hT hA hQ
      obtain ⟨d, rfl⟩ : ∃ d0, d = d0 + 8 := ⟨d - 8, by omega⟩
      refine keyM hT hA ?_
      refine Wp.step rfl ?_
      refine Wp.brF rfl (fun q => q rfl) ?_
      exact Wp.fin rfl trivial hQ
  have hp1 : lk t n p + 1 ≤ n := hlt
  have hge1 := lk_ge t hp1
  have hln1 := lk_n t hp1
  have hjn : ¬ nI j = 0 := nI_ne0 (by omega) (by omega)
  have lowf : ∀ (a : Nat → Int32) (A : Nat) (s g : Int32) (i : Nat), i < A → stp a A s g i = a i := by
    intro a A s g i hi
    unfold stp
    rw [pk_un (by omega), pk_un (by omega)]
  by_cases hd : dg t n (lk t n (lk t n p + 1))
  · have hlt2 := hd.1
    refine Or.inl ⟨lk t n (lk t n p + 1) + 1, nI j, ch t n (lk t n (lk t n p + 1)) - nI 48, by omega, by omega, ?_, ?_⟩
    · intro d u X M Z Q e A hd' hT hA hQ
      obtain ⟨d, rfl⟩ : ∃ d0, d = d0 + 8 := ⟨d - 8, by omega⟩
      refine keyX hT hA ?_
      have hT1 : XT (xA X 23 (stp (xa X 23) A (nI j) (-1))) t n := hT
      refine Wp.step rfl ?_
      refine Wp.brT rfl hjn ?_
      iterate 2 refine Wp.step rfl ?_
      refine Wp.call rfl (Nat.zero_le _) (X_look (xA X 23 (stp (xa X 23) A (nI j) (-1))) M Z hT1 hp1 ⟨_, _, rfl, ?_⟩)
      refine Wp.call rfl (Nat.zero_le _) (X_isDigit _ ⟨_, _, rfl, ?_⟩)
      rw [show bI (isD (ch t n (lk t n (lk t n p + 1)))) = 1 from if_pos ((dg_ch hB).mpr hd)]
      refine Wp.call rfl (Nat.zero_le _) (X_need1 ⟨_, _, rfl, ?_⟩)
      iterate 6 refine Wp.step rfl ?_
      refine Wp.call rfl (Nat.zero_le _) (X_byteHere (xA X 23 (stp (xa X 23) A (nI j) (-1))) M Z hT1 ⟨_, _, rfl, ?_⟩ hln1)
      iterate 2 refine Wp.step rfl ?_
      refine Wp.istX (k := A + 1) rfl rfl rfl (nI_add A 1) (by omega) (by decide) ?_
      iterate 5 refine Wp.step rfl ?_
      refine Wp.putX rfl rfl rfl ?_
      rw [show stp (xa X 23) A (nI j) (ch t n (lk t n (lk t n p + 1)) - nI 48) = upd (stp (xa X 23) A (nI j) (-1)) (A + 1) (ch t n (lk t n (lk t n p + 1)) - nI 48) by unfold stp; rw [upd_upd], ← xA_xA X 23 (stp (xa X 23) A (nI j) (-1))] at hQ
      rw [← PX_inc] at hQ
      exact Wp.fin rfl trivial hQ
    · intro d u X M Z Q e A hd' hT hA hQ
      obtain ⟨d, rfl⟩ : ∃ d0, d = d0 + 8 := ⟨d - 8, by omega⟩
      refine keyM hT hA ?_
      have hT1 : MT (mA M 46 (stp (ma M 46) A (nI j) (-1))) t n := MT_mA hT (by decide) (by decide)
      refine Wp.step rfl ?_
      refine Wp.brT rfl hjn ?_
      refine Wp.step rfl ?_
      refine Wp.call rfl (Nat.zero_le _) (M_look X (mA M 46 (stp (ma M 46) A (nI j) (-1))) Z hT1 hp1 ⟨_, _, rfl, ?_⟩)
      iterate 2 refine Wp.step rfl ?_
      refine Wp.call rfl (Nat.zero_le _) (M_isDigit1 X (mA M 46 (stp (ma M 46) A (nI j) (-1))) Z hT1 hd ⟨_, _, rfl, ?_⟩)
      refine Wp.brT rfl (by decide) ?_
      iterate 8 refine Wp.step rfl ?_
      refine Wp.istM (k := A + 1) rfl rfl rfl (nI_add A 1) (by omega) (by decide) ?_
      iterate 5 refine Wp.step rfl ?_
      refine Wp.putM rfl rfl rfl ?_
      rw [show stp (ma M 46) A (nI j) (ch t n (lk t n (lk t n p + 1)) - nI 48) = upd (stp (ma M 46) A (nI j) (-1)) (A + 1) (ch t n (lk t n (lk t n p + 1)) - nI 48) by unfold stp; rw [upd_upd], ← mA_mA M 46 (stp (ma M 46) A (nI j) (-1))] at hQ
      rw [← KM_inc] at hQ
      exact Wp.fin rfl trivial hQ
  · refine Or.inr ⟨lk t n (lk t n p + 1), by omega, hln1, ?_, ?_⟩
    · intro d u X M Z Q e A hd' hT hA hQ
      obtain ⟨d, rfl⟩ : ∃ d0, d = d0 + 8 := ⟨d - 8, by omega⟩
      refine keyX hT hA ?_
      have hT1 : XT (xA X 23 (stp (xa X 23) A (nI j) (-1))) t n := hT
      refine Wp.step rfl ?_
      refine Wp.brT rfl hjn ?_
      iterate 2 refine Wp.step rfl ?_
      refine Wp.call rfl (Nat.zero_le _) (X_look (xA X 23 (stp (xa X 23) A (nI j) (-1))) M Z hT1 hp1 ⟨_, _, rfl, ?_⟩)
      refine Wp.call rfl (Nat.zero_le _) (X_isDigit _ ⟨_, _, rfl, ?_⟩)
      rw [show bI (isD (ch t n (lk t n (lk t n p + 1)))) = 0 from if_neg (fun q => hd ((dg_ch hB).mp q))]
      refine Wp.callF rfl rfl (Nat.zero_le _) (X_need0 _ M Z (Or.inr ⟨_, _, rfl, hQ _ (lowf _ _ _ _)⟩))
    · intro d u X M Z Q e A hd' hT hA hQ
      obtain ⟨d, rfl⟩ : ∃ d0, d = d0 + 8 := ⟨d - 8, by omega⟩
      refine keyM hT hA ?_
      have hT1 : MT (mA M 46 (stp (ma M 46) A (nI j) (-1))) t n := MT_mA hT (by decide) (by decide)
      refine Wp.step rfl ?_
      refine Wp.brT rfl hjn ?_
      refine Wp.step rfl ?_
      refine Wp.call rfl (Nat.zero_le _) (M_look X (mA M 46 (stp (ma M 46) A (nI j) (-1))) Z hT1 hp1 ⟨_, _, rfl, ?_⟩)
      iterate 2 refine Wp.step rfl ?_
      refine Wp.call rfl (Nat.zero_le _) (M_isDigit0 X (mA M 46 (stp (ma M 46) A (nI j) (-1))) Z hT1 hln1 hd ⟨_, _, rfl, ?_⟩)
      refine Wp.brF rfl (fun q => q rfl) ?_
      refine Wp.step rfl ?_
      refine Wp.call rfl (Nat.zero_le _) (M_fails0 X (mA M 46 (stp (ma M 46) A (nI j) (-1))) Z ⟨_, _, rfl, ?_⟩)
      refine Wp.step rfl ?_
      exact Wp.fin rfl trivial (hQ _ (lowf _ _ _ _))
