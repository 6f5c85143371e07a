/-! A CAMPAIGN's text, whole, in both -/
theorem xA4 (X : pmXs) (a b : Nat) (f g f' g' : Nat → Int32) : xA (xA (xA (xA X a f) b g) a f') b g' = xA (xA X a f') b g' := by
  show (X.1, X.2.1, va_up (va_up (va_up (va_up X.2.2.1 a f) b g) a f') b g', X.2.2.2) = (X.1, X.2.1, va_up (va_up X.2.2.1 a f') b g', X.2.2.2)
  congr 3
  funext j
  unfold va_up
  by_cases h : j = b
  · simp only [if_pos h]
  · simp only [if_neg h]
    by_cases h2 : j = a
    · simp only [if_pos h2]
    · simp only [if_neg h2]
def CPk (t : Nat → Int32) (n k p : Nat) : Prop :=
    (∃ (q L : Nat) (C : Nat → Int32), p ≤ q ∧ q ≤ n ∧ k < L ∧ L ≤ 16 ∧
      (∀ (d u : Nat) (X : pmXs) (M : pmMs) (Z : pmZs) (Q : pmO → Prop) (e nn : Nat), 10 ≤ d → XT X t n → nn ≤ 4 → xa X 24 nn = nI k → (∀ f', (∀ j, 2 * k ≤ j → j < 2 * L → f' (32 * nn + j) = C j) → (∀ j, j < 32 * nn + 2 * k → f' j = xa X 23 j) → ∀ g', g' nn = nI L → (∀ j, j ≠ nn → g' j = xa X 24 j) → Q (.inl none, hp (PX (xA (xA X 23 f') 24 g') q e) M Z)) → Wp d u 93 14 [some (.ref 14), some (.int (nI nn)), some (.int (nI 1))] [] (hp (PX X p e) M Z) Q) ∧
      (∀ (d u : Nat) (X : pmXs) (M : pmMs) (Z : pmZs) (Q : pmO → Prop) (e : Int32), 10 ≤ d → MT M t n → (∀ f', (∀ j, 2 * k ≤ j → j < 2 * L → f' (128 + j) = C j) → (∀ j, j < 128 + 2 * k → f' j = ma M 46 j) → ∀ g', g' 4 = nI L → (∀ j, j ≠ 4 → g' j = ma M 47 j) → Q (.inl none, hp X (KM (mA (mA M 46 f') 47 g') (nI q) e (-1)) Z)) → Wp d u 171 17 [some (.ref 35), some (.int (nI k)), some (.int (nI 1))] [] (hp X (KM M (nI p) e (-1)) Z) Q)) ∨
    (∃ q, p ≤ q ∧ q ≤ n ∧
      (∀ (d u : Nat) (X : pmXs) (M : pmMs) (Z : pmZs) (Q : pmO → Prop) (e nn : Nat), 10 ≤ d → XT X t n → nn ≤ 4 → xa X 24 nn = nI k → (∀ f', (∀ j, j < 32 * nn → f' j = xa X 23 j) → ∀ g', (∀ j, j ≠ nn → g' j = xa X 24 j) → Q (.inr 2, hp (PX (xA (xA X 23 f') 24 g') q e) M Z)) → Wp d u 93 14 [some (.ref 14), some (.int (nI nn)), some (.int (nI 1))] [] (hp (PX X p e) M Z) Q) ∧
      (∀ (d u : Nat) (X : pmXs) (M : pmMs) (Z : pmZs) (Q : pmO → Prop) (e : Int32), 10 ≤ d → MT M t n → (∀ f', (∀ j, j < 128 → f' j = ma M 46 j) → ∀ g', (∀ j, j ≠ 4 → g' j = ma M 47 j) → Q (.inl none, hp X (KM (mA (mA M 46 f') 47 g') (nI q) e (nI q)) Z)) → Wp d u 171 17 [some (.ref 35), some (.int (nI k)), some (.int (nI 1))] [] (hp X (KM M (nI p) e (-1)) Z) Q))
theorem camp_pk {t : Nat → Int32} {n : Nat} (hB : ∀ j, j < n → isB (t j)) : ∀ (m k p : Nat), k + m = 16 → k < 16 → p ≤ n → CPk t n k p := by
  intro m
  induction m with
  | zero => intro k p hk hk2; omega
  | succ m ih =>
    intro k p hk hk16 hp'
    have lowf : ∀ (a : Nat → Int32) (A : Nat) (s g : Int32) (i : Nat), i < A → stp a A s g i = a i := by
      intro a A s g i hi
      unfold stp
      rw [pk_un (by omega), pk_un (by omega)]
    have preX : ∀ {d u : Nat} {X : pmXs} {M : pmMs} {Z : pmZs} {Q : pmO → Prop} {e nn : Nat}, nn ≤ 4 → xa X 24 nn = nI k → Wp (d + 10) u 93 32 [some (.ref 14), some (.int (nI nn)), some (.int (nI 1))] [.int (nI (32 * nn + 2 * k)), .ref 14] (hp (PX X p e) M Z) Q → Wp (d + 10) u 93 14 [some (.ref 14), some (.int (nI nn)), some (.int (nI 1))] [] (hp (PX X p e) M Z) Q := by
      intro d u X M Z Q e nn hnn h24 kk
      refine Wp.step rfl ?_
      refine Wp.brF rfl (by decide) ?_
      iterate 8 refine Wp.step rfl ?_
      refine Wp.ldX (k := nn) rfl rfl rfl (by omega) (by decide) ?_
      rw [show xa (PX X p e) 24 nn = nI k from h24]
      iterate 2 refine Wp.step rfl ?_
      have e3 : nI 2 * (nI 16 * nI nn + nI k) = nI (32 * nn + 2 * k) := by rw [pk_mul, nI_add, pk_mul]; congr 1; omega
      simp only [e3]
      exact kk
    have preM : ∀ {d u : Nat} {X : pmXs} {M : pmMs} {Z : pmZs} {Q : pmO → Prop} {e : Int32}, Wp (d + 10) u 171 28 [some (.ref 35), some (.int (nI k)), some (.int (nI 1))] [.int (nI (128 + 2 * k)), .ref 35] (hp X (KM M (nI p) e (-1)) Z) Q → Wp (d + 10) u 171 17 [some (.ref 35), some (.int (nI k)), some (.int (nI 1))] [] (hp X (KM M (nI p) e (-1)) Z) Q := by
      intro d u X M Z Q e kk
      refine Wp.step rfl ?_
      refine Wp.brF rfl (by decide) ?_
      iterate 6 refine Wp.step rfl ?_
      have e3 : nI 2 * (nI 64 + nI k) = nI (128 + 2 * k) := by rw [nI_add, pk_mul]; congr 1; omega
      simp only [e3]
      exact kk
    rcases step_pk hB hp' with ⟨q1, s, g, a1, a2, aX, aM⟩ | ⟨q1, a1, a2, aX, aM⟩
    case inr =>
      refine Or.inr ⟨q1, a1, a2, ?_, ?_⟩
      · intro d u X M Z Q e nn hd hT hnn h24 hQ
        obtain ⟨d, rfl⟩ : ∃ d0, d = d0 + 10 := ⟨d - 10, by omega⟩
        refine preX hnn h24 ?_
        refine Wp.callF (u1 := 0) rfl rfl (Nat.zero_le _) (aX _ _ X M Z _ e _ (by omega) hT (by omega) (fun f hf => Or.inr ⟨_, _, rfl, ?_⟩))
        have h9 := hQ f (fun j hj => hf j (by omega)) (xa X 24) (fun _ _ => rfl)
        rw [show xA (xA X 23 f) 24 (xa X 24) = xA X 23 f from xA_self (xA X 23 f) 24] at h9
        exact h9
      · intro d u X M Z Q e hd hT hQ
        have h240 := MT_le hT
        obtain ⟨d, rfl⟩ : ∃ d0, d = d0 + 10 := ⟨d - 10, by omega⟩
        refine preM ?_
        refine Wp.call (u1 := 0) rfl (Nat.zero_le _) (aM _ _ X M Z _ e _ (by omega) hT (by omega) (fun f hf => ⟨_, _, rfl, ?_⟩))
        iterate 3 refine Wp.step rfl ?_
        refine Wp.brF rfl (nI_m1 (by omega)) ?_
        have h9 := hQ f (fun j hj => hf j (by omega)) (ma M 47) (fun _ _ => rfl)
        rw [show mA (mA M 46 f) 47 (ma M 47) = mA M 46 f from mA_self (mA M 46 f) 47] at h9
        exact Wp.fin rfl trivial h9
    have hq1 := lk_ge t a2
    have hqn := lk_n t a2
    have h240x : ∀ {X : pmXs}, XT X t n → n ≤ 240 := fun h => h.2.1
    -- X and M behind the step
    have stX : ∀ {d u : Nat} {X : pmXs} {M : pmMs} {Z : pmZs} {Q : pmO → Prop} {e nn : Nat}, XT X t n → nn ≤ 4 → xa X 24 nn = nI k → Wp (d + 10) u 93 49 [some (.ref 14), some (.int (nI nn)), some (.int (nI 1))] [.int (ch t n (lk t n q1))] (hp (PX (xA (xA X 23 (stp (xa X 23) (32 * nn + 2 * k) s g)) 24 (upd (xa X 24) nn (nI (k + 1)))) (lk t n q1) e) M Z) Q → Wp (d + 10) u 93 14 [some (.ref 14), some (.int (nI nn)), some (.int (nI 1))] [] (hp (PX X p e) M Z) Q := by
      intro d u X M Z Q e nn hT hnn h24 kk
      refine preX hnn h24 ?_
      refine Wp.call (u1 := 0) rfl (Nat.zero_le _) (aX _ _ X M Z _ e _ (by omega) hT (by omega) ⟨_, _, rfl, ?_⟩)
      iterate 4 refine Wp.step rfl ?_
      refine Wp.ldX (k := nn) rfl rfl rfl (by omega) (by decide) ?_
      rw [show xa (PX (xA X 23 (stp (xa X 23) (32 * nn + 2 * k) s g)) q1 e) 24 nn = nI k from h24]
      iterate 2 refine Wp.step rfl ?_
      refine Wp.istX (k := nn) (v := nI k + nI 1) rfl rfl rfl rfl (by omega) (by decide) ?_
      rw [nI_add k 1]
      refine Wp.step rfl ?_
      refine Wp.call rfl (Nat.zero_le _) (X_look (xA (xA X 23 (stp (xa X 23) (32 * nn + 2 * k) s g)) 24 (upd (xa X 24) nn (nI (k + 1)))) M Z hT a2 ⟨_, _, rfl, ?_⟩)
      exact kk
    have stM : ∀ {d u : Nat} {X : pmXs} {M : pmMs} {Z : pmZs} {Q : pmO → Prop} {e : Int32}, MT M t n → Wp (d + 10) u 171 47 [some (.ref 35), some (.int (nI (k + 1))), some (.int (nI 1))] [.int (ch t n (lk t n q1))] (hp X (KM (mA M 46 (stp (ma M 46) (128 + 2 * k) s g)) (nI (lk t n q1)) e (-1)) Z) Q → Wp (d + 10) u 171 17 [some (.ref 35), some (.int (nI k)), some (.int (nI 1))] [] (hp X (KM M (nI p) e (-1)) Z) Q := by
      intro d u X M Z Q e hT kk
      refine preM ?_
      refine Wp.call (u1 := 0) rfl (Nat.zero_le _) (aM _ _ X M Z _ e _ (by omega) hT (by omega) ⟨_, _, rfl, ?_⟩)
      iterate 3 refine Wp.step rfl ?_
      refine Wp.brT rfl rfl ?_
      rw [← nI_add k 1] at kk
      iterate 2 refine Wp.step rfl ?_
      refine Wp.call rfl (Nat.zero_le _) (M_look X (mA M 46 (stp (ma M 46) (128 + 2 * k) s g)) Z (MT_mA hT (by decide) (by decide)) a2 ⟨_, _, rfl, ?_⟩)
      exact kk
    have one : ∀ (f f' : Nat → Int32) (B : Nat) (C : Nat → Int32), C (2 * k) = s → C (2 * k + 1) = g → (∀ j, j < B + 2 * (k + 1) → f' j = stp f (B + 2 * k) s g j) → ∀ j, 2 * k ≤ j → j < 2 * (k + 1) → f' (B + j) = C j := by
      intro f f' B C h1 h2 h3 j h4 h5
      have h6 : j = 2 * k ∨ j = 2 * k + 1 := by omega
      rcases h6 with rfl | rfl
      · rw [h3 _ (by omega), h1]
        unfold stp
        rw [pk_un (by omega), pk_us]
      · rw [h3 _ (by omega), h2]
        unfold stp
        rw [show B + (2 * k + 1) = B + 2 * k + 1 by omega, pk_us]
    by_cases h59 : ch t n (lk t n q1) = nI 59
    · have hlt : lk t n q1 < n := ch_ne h59 (by decide)
      by_cases hlast : k + 1 = 16
      · refine Or.inr ⟨lk t n q1, by omega, hqn, ?_, ?_⟩
        · intro d u X M Z Q e nn hd hT hnn h24 hQ
          obtain ⟨d, rfl⟩ : ∃ d0, d = d0 + 10 := ⟨d - 10, by omega⟩
          refine stX hT hnn h24 ?_
          rw [h59]
          refine Wp.step rfl ?_
          refine Wp.brF rfl (fun q => q rfl) ?_
          iterate 3 refine Wp.step rfl ?_
          refine Wp.ldX (k := nn) rfl rfl rfl (by omega) (by decide) ?_
          rw [show xa (PX (xA (xA X 23 (stp (xa X 23) (32 * nn + 2 * k) s g)) 24 (upd (xa X 24) nn (nI (k + 1)))) (lk t n q1) e) 24 nn = nI (k + 1) from pk_us]
          refine Wp.step rfl ?_
          refine Wp.brT rfl (by rw [hlast]; exact nI_le (Nat.le_refl _) (by decide)) ?_
          iterate 3 refine Wp.step rfl ?_
          refine Wp.brT rfl rfl ?_
          refine Wp.step rfl ?_
          refine Wp.brT rfl rfl ?_
          iterate 2 refine Wp.step rfl ?_
          refine Wp.call rfl (Nat.zero_le _) (X_look (xA (xA X 23 (stp (xa X 23) (32 * nn + 2 * k) s g)) 24 (upd (xa X 24) nn (nI (k + 1)))) M Z hT hqn ⟨_, _, rfl, ?_⟩)
          rw [lk_lk t a2, h59]
          refine Wp.step rfl ?_
          refine Wp.brT rfl (by decide) ?_
          refine Wp.step rfl ?_
          refine Wp.callF rfl rfl (Nat.zero_le _) (X_need0 _ M Z (Or.inr ⟨_, _, rfl, hQ _ (fun j hj => lowf _ _ _ _ _ (by omega)) _ (fun j hj => pk_un hj)⟩))
        · intro d u X M Z Q e hd hT hQ
          obtain ⟨d, rfl⟩ : ∃ d0, d = d0 + 10 := ⟨d - 10, by omega⟩
          refine stM hT ?_
          rw [h59]
          refine Wp.step rfl ?_
          refine Wp.brF rfl (fun q => q rfl) ?_
          iterate 4 refine Wp.step rfl ?_
          refine Wp.brF rfl (by decide) ?_
          iterate 2 refine Wp.step rfl ?_
          refine Wp.brF rfl (by rw [hlast]; exact fun q => q rfl) ?_
          refine Wp.step rfl ?_
          refine Wp.call rfl (Nat.zero_le _) (M_fails0 X (mA M 46 (stp (ma M 46) (128 + 2 * k) s g)) Z ⟨_, _, rfl, ?_⟩)
          refine Wp.step rfl ?_
          have h9 := hQ (stp (ma M 46) (128 + 2 * k) s g) (fun j hj => lowf _ _ _ _ _ (by omega)) (ma M 47) (fun _ _ => rfl)
          rw [show mA (mA M 46 (stp (ma M 46) (128 + 2 * k) s g)) 47 (ma M 47) = mA M 46 (stp (ma M 46) (128 + 2 * k) s g) from mA_self _ 47] at h9
          exact Wp.fin rfl trivial h9
      have nxX : ∀ {d u : Nat} {X : pmXs} {M : pmMs} {Z : pmZs} {Q : pmO → Prop} {e nn : Nat}, XT X t n → nn ≤ 4 → xa X 24 nn = nI k → Wp (d + 10) u 93 14 [some (.ref 14), some (.int (nI nn)), some (.int (nI 1))] [] (hp (PX (xA (xA X 23 (stp (xa X 23) (32 * nn + 2 * k) s g)) 24 (upd (xa X 24) nn (nI (k + 1)))) (lk t n q1 + 1) e) M Z) Q → Wp (d + 10) u 93 14 [some (.ref 14), some (.int (nI nn)), some (.int (nI 1))] [] (hp (PX X p e) M Z) Q := by
        intro d u X M Z Q e nn hT hnn h24 kk
        refine stX hT hnn h24 ?_
        rw [h59]
        refine Wp.step rfl ?_
        refine Wp.brF rfl (fun q => q rfl) ?_
        iterate 3 refine Wp.step rfl ?_
        refine Wp.ldX (k := nn) rfl rfl rfl (by omega) (by decide) ?_
        rw [show xa (PX (xA (xA X 23 (stp (xa X 23) (32 * nn + 2 * k) s g)) 24 (upd (xa X 24) nn (nI (k + 1)))) (lk t n q1) e) 24 nn = nI (k + 1) from pk_us]
        refine Wp.step rfl ?_
        refine Wp.brF rfl (nI_ge (by omega) (by decide)) ?_
        iterate 4 refine Wp.step rfl ?_
        refine Wp.brF rfl (by decide) ?_
        iterate 5 refine Wp.step rfl ?_
        refine Wp.putX rfl rfl rfl ?_
        rw [PX_inc]
        refine Wp.step rfl ?_
        exact kk
      have nxM : ∀ {d u : Nat} {X : pmXs} {M : pmMs} {Z : pmZs} {Q : pmO → Prop} {e : Int32}, MT M t n → Wp (d + 10) u 171 17 [some (.ref 35), some (.int (nI (k + 1))), some (.int (nI 1))] [] (hp X (KM (mA M 46 (stp (ma M 46) (128 + 2 * k) s g)) (nI (lk t n q1 + 1)) e (-1)) Z) Q → Wp (d + 10) u 171 17 [some (.ref 35), some (.int (nI k)), some (.int (nI 1))] [] (hp X (KM M (nI p) e (-1)) Z) Q := by
        intro d u X M Z Q e hT kk
        refine stM hT ?_
        rw [h59]
        refine Wp.step rfl ?_
        refine Wp.brF rfl (fun q => q rfl) ?_
        iterate 4 refine Wp.step rfl ?_
        refine Wp.brF rfl (by decide) ?_
        iterate 2 refine Wp.step rfl ?_
        refine Wp.brT rfl (fun q => absurd ((nI_eq (by omega) (by decide)).mp q) (by omega)) ?_
        refine Wp.step rfl ?_
        refine Wp.brF rfl (by decide) ?_
        iterate 5 refine Wp.step rfl ?_
        refine Wp.putM rfl rfl rfl ?_
        rw [KM_inc]
        refine Wp.step rfl ?_
        exact kk
      rcases ih (k + 1) (lk t n q1 + 1) (by omega) (by omega) (by omega) with ⟨q, L, C, b1, b2, b3, b4, bX, bM⟩ | ⟨q, b1, b2, bX, bM⟩
      · refine Or.inl ⟨q, L, fun j => if j = 2 * k then s else if j = 2 * k + 1 then g else C j, by omega, b2, by omega, b4, ?_, ?_⟩
        · intro d u X M Z Q e nn hd hT hnn h24 hQ
          obtain ⟨d, rfl⟩ : ∃ d0, d = d0 + 10 := ⟨d - 10, by omega⟩
          refine nxX hT hnn h24 ?_
          refine bX _ _ (xA (xA X 23 (stp (xa X 23) (32 * nn + 2 * k) s g)) 24 (upd (xa X 24) nn (nI (k + 1)))) M Z Q e nn hd hT hnn pk_us (fun f' y1 y2 g' y3 y4 => ?_)
          have h9 := hQ f' ?_ (fun j hj => (y2 j (by omega)).trans (lowf _ _ _ _ _ (by omega))) g' y3 (fun j hj => (y4 j hj).trans (pk_un hj))
          · rw [show xA (xA (xA (xA X 23 (stp (xa X 23) (32 * nn + 2 * k) s g)) 24 (upd (xa X 24) nn (nI (k + 1)))) 23 f') 24 g' = xA (xA X 23 f') 24 g' from xA4 X 23 24 _ _ _ _]
            exact h9
          · intro j h1 h2
            by_cases hj : j < 2 * (k + 1)
            · exact one (xa X 23) f' (32 * nn) (fun j => if j = 2 * k then s else if j = 2 * k + 1 then g else C j) (if_pos rfl) (by rw [if_neg (by omega), if_pos rfl]) y2 j h1 hj
            · show _ = (if j = 2 * k then s else if j = 2 * k + 1 then g else C j)
              rw [if_neg (by omega), if_neg (by omega)]
              exact y1 j (by omega) h2
        · intro d u X M Z Q e hd hT hQ
          obtain ⟨d, rfl⟩ : ∃ d0, d = d0 + 10 := ⟨d - 10, by omega⟩
          refine nxM hT ?_
          refine bM _ _ X (mA M 46 (stp (ma M 46) (128 + 2 * k) s g)) Z Q e hd (MT_mA hT (by decide) (by decide)) (fun f' y1 y2 g' y3 y4 => ?_)
          rw [mA_mA]
          refine hQ f' ?_ (fun j hj => (y2 j (by omega)).trans (lowf _ _ _ _ _ (by omega))) g' y3 y4
          intro j h1 h2
          by_cases hj : j < 2 * (k + 1)
          · exact one (ma M 46) f' 128 (fun j => if j = 2 * k then s else if j = 2 * k + 1 then g else C j) (if_pos rfl) (by rw [if_neg (by omega), if_pos rfl]) y2 j h1 hj
          · show _ = (if j = 2 * k then s else if j = 2 * k + 1 then g else C j)
            rw [if_neg (by omega), if_neg (by omega)]
            exact y1 j (by omega) h2
      · refine Or.inr ⟨q, by omega, b2, ?_, ?_⟩
        · intro d u X M Z Q e nn hd hT hnn h24 hQ
          obtain ⟨d, rfl⟩ : ∃ d0, d = d0 + 10 := ⟨d - 10, by omega⟩
          refine nxX hT hnn h24 ?_
          refine bX _ _ (xA (xA X 23 (stp (xa X 23) (32 * nn + 2 * k) s g)) 24 (upd (xa X 24) nn (nI (k + 1)))) M Z Q e nn hd hT hnn pk_us (fun f' y2 g' y4 => ?_)
          rw [show xA (xA (xA (xA X 23 (stp (xa X 23) (32 * nn + 2 * k) s g)) 24 (upd (xa X 24) nn (nI (k + 1)))) 23 f') 24 g' = xA (xA X 23 f') 24 g' from xA4 X 23 24 _ _ _ _]
          exact hQ f' (fun j hj => (y2 j hj).trans (lowf _ _ _ _ _ (by omega))) g' (fun j hj => (y4 j hj).trans (pk_un hj))
        · intro d u X M Z Q e hd hT hQ
          obtain ⟨d, rfl⟩ : ∃ d0, d = d0 + 10 := ⟨d - 10, by omega⟩
          refine nxM hT ?_
          refine bM _ _ X (mA M 46 (stp (ma M 46) (128 + 2 * k) s g)) Z Q e hd (MT_mA hT (by decide) (by decide)) (fun f' y2 g' y4 => ?_)
          rw [mA_mA]
          exact hQ f' (fun j hj => (y2 j hj).trans (lowf _ _ _ _ _ (by omega))) g' y4
    -- no further step
    have exX : ∀ {d u : Nat} {X : pmXs} {M : pmMs} {Z : pmZs} {Q : pmO → Prop} {e nn : Nat}, XT X t n → nn ≤ 4 → xa X 24 nn = nI k → Wp (d + 10) u 93 93 [some (.ref 14), some (.int (nI nn)), some (.int (nI 0))] [.int (ch t n (lk t n q1)), .ref 14] (hp (PX (xA (xA X 23 (stp (xa X 23) (32 * nn + 2 * k) s g)) 24 (upd (xa X 24) nn (nI (k + 1)))) (lk t n q1) e) M Z) Q → Wp (d + 10) u 93 14 [some (.ref 14), some (.int (nI nn)), some (.int (nI 1))] [] (hp (PX X p e) M Z) Q := by
      intro d u X M Z Q e nn hT hnn h24 kk
      refine stX hT hnn h24 ?_
      refine Wp.step rfl ?_
      refine Wp.brT rfl h59 ?_
      iterate 3 refine Wp.step rfl ?_
      refine Wp.brT rfl rfl ?_
      refine Wp.step rfl ?_
      refine Wp.brT rfl rfl ?_
      iterate 2 refine Wp.step rfl ?_
      refine Wp.call rfl (Nat.zero_le _) (X_look (xA (xA X 23 (stp (xa X 23) (32 * nn + 2 * k) s g)) 24 (upd (xa X 24) nn (nI (k + 1)))) M Z hT hqn ⟨_, _, rfl, ?_⟩)
      rw [lk_lk t a2]
      exact kk
    have exM : ∀ {d u : Nat} {X : pmXs} {M : pmMs} {Z : pmZs} {Q : pmO → Prop} {e : Int32}, MT M t n → Wp (d + 10) u 171 102 [some (.ref 35), some (.int (nI (k + 1))), some (.int (nI 0))] [.int (ch t n (lk t n q1))] (hp X (KM (mA (mA M 46 (stp (ma M 46) (128 + 2 * k) s g)) 47 (upd (ma M 47) 4 (nI (k + 1)))) (nI (lk t n q1)) e (-1)) Z) Q → Wp (d + 10) u 171 17 [some (.ref 35), some (.int (nI k)), some (.int (nI 1))] [] (hp X (KM M (nI p) e (-1)) Z) Q := by
      intro d u X M Z Q e hT kk
      refine stM hT ?_
      refine Wp.step rfl ?_
      refine Wp.brT rfl h59 ?_
      iterate 3 refine Wp.step rfl ?_
      refine Wp.brT rfl rfl ?_
      refine Wp.step rfl ?_
      refine Wp.brT rfl rfl ?_
      refine Wp.step rfl ?_
      refine Wp.brT rfl rfl ?_
      iterate 4 refine Wp.step rfl ?_
      refine Wp.istM (k := 4) rfl rfl rfl rfl (by decide) (by decide) ?_
      refine Wp.step rfl ?_
      refine Wp.call rfl (Nat.zero_le _) (M_look X (mA (mA M 46 (stp (ma M 46) (128 + 2 * k) s g)) 47 (upd (ma M 47) 4 (nI (k + 1)))) Z (MT_mA (MT_mA hT (by decide) (by decide)) (by decide) (by decide)) hqn ⟨_, _, rfl, ?_⟩)
      rw [lk_lk t a2]
      exact kk
    by_cases hend : ch t n (lk t n q1) = -1
    · refine Or.inl ⟨lk t n q1, k + 1, fun j => if j = 2 * k then s else g, by omega, hqn, by omega, by omega, ?_, ?_⟩
      · intro d u X M Z Q e nn hd hT hnn h24 hQ
        obtain ⟨d, rfl⟩ : ∃ d0, d = d0 + 10 := ⟨d - 10, by omega⟩
        refine exX hT hnn h24 ?_
        rw [hend]
        refine Wp.step rfl ?_
        refine Wp.brF rfl (fun q => q rfl) ?_
        iterate 2 refine Wp.step rfl ?_
        refine Wp.call rfl (Nat.zero_le _) (X_need1 ⟨_, _, rfl, ?_⟩)
        refine Wp.fin rfl trivial (hQ _ ?_ (fun j hj => lowf _ _ _ _ _ (by omega)) _ pk_us (fun j hj => pk_un hj))
        exact one (xa X 23) _ (32 * nn) (fun j => if j = 2 * k then s else g) (if_pos rfl) (if_neg (by omega)) (fun j _ => rfl)
      · intro d u X M Z Q e hd hT hQ
        obtain ⟨d, rfl⟩ : ∃ d0, d = d0 + 10 := ⟨d - 10, by omega⟩
        refine exM hT ?_
        rw [hend]
        refine Wp.step rfl ?_
        refine Wp.brT rfl rfl ?_
        refine Wp.fin rfl trivial (hQ _ ?_ (fun j hj => lowf _ _ _ _ _ (by omega)) _ pk_us (fun j hj => pk_un hj))
        exact one (ma M 46) _ 128 (fun j => if j = 2 * k then s else g) (if_pos rfl) (if_neg (by omega)) (fun j _ => rfl)
    · refine Or.inr ⟨lk t n q1, by omega, hqn, ?_, ?_⟩
      · intro d u X M Z Q e nn hd hT hnn h24 hQ
        obtain ⟨d, rfl⟩ : ∃ d0, d = d0 + 10 := ⟨d - 10, by omega⟩
        refine exX hT hnn h24 ?_
        refine Wp.step rfl ?_
        refine Wp.brT rfl hend ?_
        refine Wp.step rfl ?_
        refine Wp.callF rfl rfl (Nat.zero_le _) (X_need0 _ M Z (Or.inr ⟨_, _, rfl, hQ _ (fun j hj => lowf _ _ _ _ _ (by omega)) _ (fun j hj => pk_un hj)⟩))
      · intro d u X M Z Q e hd hT hQ
        obtain ⟨d, rfl⟩ : ∃ d0, d = d0 + 10 := ⟨d - 10, by omega⟩
        refine exM hT ?_
        refine Wp.step rfl ?_
        refine Wp.brF rfl hend ?_
        refine Wp.step rfl ?_
        refine Wp.call rfl (Nat.zero_le _) (M_fails0 X (mA (mA M 46 (stp (ma M 46) (128 + 2 * k) s g)) 47 (upd (ma M 47) 4 (nI (k + 1)))) Z ⟨_, _, rfl, ?_⟩)
        refine Wp.step rfl ?_
        exact Wp.fin rfl trivial (hQ _ (fun j hj => lowf _ _ _ _ _ (by omega)) _ (fun j hj => pk_un hj))
