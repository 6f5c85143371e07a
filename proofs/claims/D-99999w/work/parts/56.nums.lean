/-! NUMBERS of a realm, in both: printed by tools/realm.py -/
def hasB (G k : Int32) : Prop := (G >>> (k &&& 31)) &&& nI 1 = nI 1
theorem X_has {d u : Nat} {h : pmH} {Q : pmO → Prop} (G k : Int32) (h1 : hasB G k → Q (.inl (some (.int 1)), h)) (h0 : ¬ hasB G k → Q (.inl (some (.int 0)), h)) : Wp d u 97 0 (pm_entry 97 [.int G, .int k]) [] h Q := by
  iterate 6 refine Wp.step rfl ?_
  refine Wp.br rfl (fun q => ?_) (fun q => ?_)
  · refine Wp.step rfl ?_
    exact Wp.finZ rfl (Or.inl rfl) (h0 q)
  · iterate 2 refine Wp.step rfl ?_
    exact Wp.finZ rfl (Or.inr rfl) (h1 (Classical.not_not.mp q))
theorem M_has {d u : Nat} {h : pmH} {Q : pmO → Prop} (G k : Int32) (h1 : hasB G k → Q (.inl (some (.int 1)), h)) (h0 : ¬ hasB G k → Q (.inl (some (.int 0)), h)) : Wp d u 186 0 (pm_entry 186 [.int G, .int k]) [] h Q := by
  iterate 6 refine Wp.step rfl ?_
  refine Wp.br rfl (fun q => ?_) (fun q => ?_)
  · refine Wp.step rfl ?_
    exact Wp.finZ rfl (Or.inl rfl) (h0 q)
  · iterate 2 refine Wp.step rfl ?_
    exact Wp.finZ rfl (Or.inr rfl) (h1 (Classical.not_not.mp q))
theorem X_byteHere {d u : Nat} (X : pmXs) (M : pmMs) (Z : pmZs) {t : Nat → Int32} {n p e : Nat} (hT : XT X t n) {Q : pmO → Prop} (hQ : Q (.inl (some (.int (ch t n p))), hp (PX X p e) M Z)) (hp' : p ≤ n) : Wp d u 111 0 (pm_entry 111 [.ref 14]) [] (hp (PX X p e) M Z) Q := by
  obtain ⟨h1, h2, h3⟩ := hT
  iterate 4 refine Wp.step rfl ?_
  by_cases h : p < n
  · refine Wp.brF rfl (by rw [PX_2, PX_3, h1]; exact nI_ge h (by omega)) ?_
    repeat (first | refine Wp.putX rfl rfl rfl ?_ | refine Wp.putM rfl rfl rfl ?_ | refine Wp.step rfl ?_)
    try dsimp only
    refine Wp.bldX (k := p) rfl rfl rfl (by omega) (by decide) ?_
    rw [PX_a, h3 p h]
    repeat (first | refine Wp.putX rfl rfl rfl ?_ | refine Wp.putM rfl rfl rfl ?_ | refine Wp.step rfl ?_)
    try dsimp only
    rw [show ch t n p = t p &&& nI 255 from if_pos h] at hQ
    exact Wp.fin rfl rfl hQ
  · refine Wp.brT rfl (by rw [PX_2, PX_3, h1]; exact nI_le (by omega) (by omega)) ?_
    refine Wp.step rfl ?_
    rw [show ch t n p = -1 from if_neg h] at hQ
    exact Wp.fin rfl rfl hQ
theorem M_here {d u : Nat} (X : pmXs) (M : pmMs) (Z : pmZs) {t : Nat → Int32} {n p : Nat} {e f : Int32} (hT : MT M t n) {Q : pmO → Prop} (hQ : Q (.inl (some (.int (ch t n p))), hp X (KM M (nI p) e f) Z)) (hp' : p ≤ n) : Wp d u 224 0 (pm_entry 224 [.ref 35]) [] (hp X (KM M (nI p) e f) Z) Q := by
  have h1 := MT_n hT
  have h2 := MT_le hT
  iterate 4 refine Wp.step rfl ?_
  by_cases h : p < n
  · refine Wp.brF rfl (show ¬ M.1 9 ≤ nI p by rw [h1]; exact nI_ge h (by omega)) ?_
    repeat (first | refine Wp.putX rfl rfl rfl ?_ | refine Wp.putM rfl rfl rfl ?_ | refine Wp.step rfl ?_)
    try dsimp only
    refine Wp.bldT (M := M) (p := p) rfl hT h ?_
    repeat (first | refine Wp.putX rfl rfl rfl ?_ | refine Wp.putM rfl rfl rfl ?_ | refine Wp.step rfl ?_)
    try dsimp only
    rw [show ch t n p = t p &&& nI 255 from if_pos h] at hQ
    exact Wp.fin rfl rfl hQ
  · refine Wp.brT rfl (show M.1 9 ≤ nI p by rw [h1]; exact nI_le (by omega) (by omega)) ?_
    refine Wp.step rfl ?_
    rw [show ch t n p = -1 from if_neg h] at hQ
    exact Wp.fin rfl rfl hQ
theorem isD_nI {c : Int32} (h : isD c) : ∃ a, a ≤ 9 ∧ c = nI (48 + a) := by
  obtain ⟨h1, h2⟩ := h
  have e1 : (nI 48).toInt = 48 := rfl
  have e2 : (nI 57).toInt = 57 := rfl
  rw [Int32.le_iff_toInt_le, e1] at h1
  rw [Int32.le_iff_toInt_le, e2] at h2
  refine ⟨(c.toInt - 48).toNat, by omega, Int32.toInt_inj.mp ?_⟩
  rw [nI_toInt (by omega)]
  omega
/-- a number of one or two digits -/
theorem num_pk {t : Nat → Int32} {n : Nat} (hB : ∀ j, j < n → isB (t j)) {p hi : Nat} (hp' : p ≤ n) (hhi : hi ≤ 99) :
    (∃ q v, lk t n p < q ∧ q ≤ n ∧ v ≤ hi ∧ (∀ (d u : Nat) (X : pmXs) (M : pmMs) (Z : pmZs) (Q : pmO → Prop) (e : Nat), 4 ≤ d → XT X t n → Q (.inl (some (.int (nI v))), hp (PX X q e) M Z) → Wp d u 114 0 (pm_entry 114 [.ref 14, .int (nI 0), .int (nI hi)]) [] (hp (PX X p e) M Z) Q) ∧ (∀ (d u : Nat) (X : pmXs) (M : pmMs) (Z : pmZs) (Q : pmO → Prop) (e : Int32), 4 ≤ d → MT M t n → Q (.inl (some (.int (nI v))), hp X (KM M (nI q) e (-1)) Z) → Wp d u 220 0 (pm_entry 220 [.ref 35, .int (nI hi)]) [] (hp X (KM M (nI p) e (-1)) Z) Q)) ∨
    (∃ q, lk t n p ≤ q ∧ q ≤ n ∧ (∀ (d u : Nat) (X : pmXs) (M : pmMs) (Z : pmZs) (Q : pmO → Prop) (e : Nat), 4 ≤ d → XT X t n → Q (.inr 2, hp (PX X q e) M Z) → Wp d u 114 0 (pm_entry 114 [.ref 14, .int (nI 0), .int (nI hi)]) [] (hp (PX X p e) M Z) Q) ∧ (∀ (d u : Nat) (X : pmXs) (M : pmMs) (Z : pmZs) (Q : pmO → Prop) (e : Int32), 4 ≤ d → MT M t n → (∀ w a, Q (.inl (some (.int w)), hp X (KM M a e (nI q)) Z)) → Wp d u 220 0 (pm_entry 220 [.ref 35, .int (nI hi)]) [] (hp X (KM M (nI p) e (-1)) Z) Q)) := by
  have hge := lk_ge t hp'
  have hln := lk_n t hp'
  by_cases hd : ¬ dg t n (lk t n p)
  · refine Or.inr ⟨lk t n p, Nat.le_refl _, hln, ?_, ?_⟩
    · intro d u X M Z Q e h4 hT hQ
      obtain ⟨d, rfl⟩ : ∃ d0, d = d0 + 4 := ⟨d - 4, by omega⟩
      iterate 2 refine Wp.step rfl ?_
      refine Wp.call rfl (Nat.zero_le _) (X_look X M Z hT hp' ⟨_, _, rfl, ?_⟩)
      refine Wp.call rfl (Nat.zero_le _) (X_isDigit _ ⟨_, _, rfl, ?_⟩)
      rw [show bI (isD (ch t n (lk t n p))) = 0 from if_neg (fun q => hd ((dg_ch hB).mp q))]
      refine Wp.callF rfl rfl (Nat.zero_le _) (X_need0 _ M Z (Or.inr ⟨_, _, rfl, hQ⟩))
    · intro d u X M Z Q e h4 hT hQ
      obtain ⟨d, rfl⟩ : ∃ d0, d = d0 + 4 := ⟨d - 4, by omega⟩
      refine Wp.step rfl ?_
      refine Wp.call rfl (Nat.zero_le _) (M_look X M Z hT hp' ⟨_, _, rfl, ?_⟩)
      iterate 2 refine Wp.step rfl ?_
      refine Wp.call rfl (Nat.zero_le _) (M_isDigit0 X M Z hT hln hd ⟨_, _, rfl, ?_⟩)
      refine Wp.brF rfl (fun q => q rfl) ?_
      refine Wp.step rfl ?_
      refine Wp.call rfl (Nat.zero_le _) (M_fails0 X M Z ⟨_, _, rfl, ?_⟩)
      iterate 2 refine Wp.step rfl ?_
      exact Wp.fin rfl rfl (hQ _ _)
  have hd := Classical.not_not.mp hd
  obtain ⟨a, ha, hca⟩ := isD_nI ((dg_ch hB).mpr hd)
  have hlt := hd.1
  have keyX : ∀ {d u : Nat} {X : pmXs} {M : pmMs} {Z : pmZs} {Q : pmO → Prop} {e : Nat}, 4 ≤ d → XT X t n → Wp d u 114 29 [some (.ref 14), some (.int (nI 0)), some (.int (nI hi)), some (.int (nI a))] [] (hp (PX X (lk t n p + 1) e) M Z) Q → Wp d u 114 0 (pm_entry 114 [.ref 14, .int (nI 0), .int (nI hi)]) [] (hp (PX X p e) M Z) Q := by
    intro d u X M Z Q e h4 hT kk
    obtain ⟨d, rfl⟩ : ∃ d0, d = d0 + 4 := ⟨d - 4, by omega⟩
    iterate 2 refine Wp.step rfl ?_
    refine Wp.call rfl (Nat.zero_le _) (X_look X M Z hT hp' ⟨_, _, rfl, ?_⟩)
    refine Wp.call rfl (Nat.zero_le _) (X_isDigit _ ⟨_, _, rfl, ?_⟩)
    rw [show bI (isD (ch t n (lk t n p))) = 1 from if_pos ((dg_ch hB).mpr hd)]
    refine Wp.call rfl (Nat.zero_le _) (X_need1 ⟨_, _, rfl, ?_⟩)
    refine Wp.step rfl ?_
    refine Wp.call rfl (Nat.zero_le _) (X_byteHere X M Z hT ⟨_, _, rfl, ?_⟩ hln)
    rw [hca]
    rw [show nI a = nI (48 + a) - nI 48 by rw [pk_sub (by omega), Nat.add_sub_cancel_left]] at kk
    iterate 8 refine Wp.step rfl ?_
    refine Wp.putX rfl rfl rfl ?_
    rw [PX_inc]
    exact kk
  have keyM : ∀ {d u : Nat} {X : pmXs} {M : pmMs} {Z : pmZs} {Q : pmO → Prop} {e : Int32}, 4 ≤ d → MT M t n → Wp d u 220 34 [some (.ref 35), some (.int (nI hi)), some (.int (nI (48 + a))), some (.int (nI a))] [] (hp X (KM M (nI (lk t n p + 1)) e (-1)) Z) Q → Wp d u 220 0 (pm_entry 220 [.ref 35, .int (nI hi)]) [] (hp X (KM M (nI p) e (-1)) Z) Q := by
    intro d u X M Z Q e h4 hT kk
    obtain ⟨d, rfl⟩ : ∃ d0, d = d0 + 4 := ⟨d - 4, by omega⟩
    refine Wp.step rfl ?_
    refine Wp.call rfl (Nat.zero_le _) (M_look X M Z hT hp' ⟨_, _, rfl, ?_⟩)
    rw [hca]
    iterate 2 refine Wp.step rfl ?_
    refine Wp.call rfl (Nat.zero_le _) (M_isDigit1 X M Z hT hd ⟨_, _, rfl, ?_⟩)
    refine Wp.brT rfl (by decide) ?_
    rw [show nI a = nI (48 + a) - nI 48 by rw [pk_sub (by omega), Nat.add_sub_cancel_left]] at kk
    iterate 9 refine Wp.step rfl ?_
    refine Wp.putM rfl rfl rfl ?_
    rw [KM_inc]
    exact kk
  -- behind the digits: at place q with value v
  have tail : ∀ (q v : Nat), lk t n p < q → q ≤ n → v ≤ 99 →
      ((∀ {d u : Nat} {X : pmXs} {M : pmMs} {Z : pmZs} {Q : pmO → Prop} {e : Nat}, 4 ≤ d → XT X t n → Wp d u 114 62 [some (.ref 14), some (.int (nI 0)), some (.int (nI hi)), some (.int (nI v))] [] (hp (PX X q e) M Z) Q → Wp d u 114 0 (pm_entry 114 [.ref 14, .int (nI 0), .int (nI hi)]) [] (hp (PX X p e) M Z) Q)) →
      ((∀ {d u : Nat} {X : pmXs} {M : pmMs} {Z : pmZs} {Q : pmO → Prop} {e : Int32}, 4 ≤ d → MT M t n → Wp d u 220 64 [some (.ref 35), some (.int (nI hi)), some (.int (nI (48 + a))), some (.int (nI v))] [] (hp X (KM M (nI q) e (-1)) Z) Q → Wp d u 220 0 (pm_entry 220 [.ref 35, .int (nI hi)]) [] (hp X (KM M (nI p) e (-1)) Z) Q)) →
      (∃ q v, lk t n p < q ∧ q ≤ n ∧ v ≤ hi ∧ (∀ (d u : Nat) (X : pmXs) (M : pmMs) (Z : pmZs) (Q : pmO → Prop) (e : Nat), 4 ≤ d → XT X t n → Q (.inl (some (.int (nI v))), hp (PX X q e) M Z) → Wp d u 114 0 (pm_entry 114 [.ref 14, .int (nI 0), .int (nI hi)]) [] (hp (PX X p e) M Z) Q) ∧ (∀ (d u : Nat) (X : pmXs) (M : pmMs) (Z : pmZs) (Q : pmO → Prop) (e : Int32), 4 ≤ d → MT M t n → Q (.inl (some (.int (nI v))), hp X (KM M (nI q) e (-1)) Z) → Wp d u 220 0 (pm_entry 220 [.ref 35, .int (nI hi)]) [] (hp X (KM M (nI p) e (-1)) Z) Q)) ∨
      (∃ q, lk t n p ≤ q ∧ q ≤ n ∧ (∀ (d u : Nat) (X : pmXs) (M : pmMs) (Z : pmZs) (Q : pmO → Prop) (e : Nat), 4 ≤ d → XT X t n → Q (.inr 2, hp (PX X q e) M Z) → Wp d u 114 0 (pm_entry 114 [.ref 14, .int (nI 0), .int (nI hi)]) [] (hp (PX X p e) M Z) Q) ∧ (∀ (d u : Nat) (X : pmXs) (M : pmMs) (Z : pmZs) (Q : pmO → Prop) (e : Int32), 4 ≤ d → MT M t n → (∀ w a, Q (.inl (some (.int w)), hp X (KM M a e (nI q)) Z)) → Wp d u 220 0 (pm_entry 220 [.ref 35, .int (nI hi)]) [] (hp X (KM M (nI p) e (-1)) Z) Q)) := by
    intro q v hq hqn hv kX kM
    by_cases hd2 : dg t n q
    · refine Or.inr ⟨q, by omega, hqn, ?_, ?_⟩
      · intro d u X M Z Q e h4 hT hQ
        refine kX h4 hT ?_
        obtain ⟨d, rfl⟩ : ∃ d0, d = d0 + 4 := ⟨d - 4, by omega⟩
        iterate 2 refine Wp.step rfl ?_
        refine Wp.call rfl (Nat.zero_le _) (X_byteHere X M Z hT ⟨_, _, rfl, ?_⟩ hqn)
        refine Wp.call rfl (Nat.zero_le _) (X_isDigit _ ⟨_, _, rfl, ?_⟩)
        rw [show bI (isD (ch t n q)) = 1 from if_pos ((dg_ch hB).mpr hd2)]
        refine Wp.brT rfl (by decide) ?_
        refine Wp.step rfl ?_
        refine Wp.callF rfl rfl (Nat.zero_le _) (X_need0 _ M Z (Or.inr ⟨_, _, rfl, hQ⟩))
      · intro d u X M Z Q e h4 hT hQ
        refine kM h4 hT ?_
        obtain ⟨d, rfl⟩ : ∃ d0, d = d0 + 4 := ⟨d - 4, by omega⟩
        refine Wp.step rfl ?_
        refine Wp.call rfl (Nat.zero_le _) (M_isDigit1 X M Z hT hd2 ⟨_, _, rfl, ?_⟩)
        refine Wp.brF rfl (by decide) ?_
        refine Wp.step rfl ?_
        refine Wp.call rfl (Nat.zero_le _) (M_fails0 X M Z ⟨_, _, rfl, ?_⟩)
        iterate 2 refine Wp.step rfl ?_
        exact Wp.fin rfl rfl (hQ _ _)
    have kX2 : ∀ {d u : Nat} {X : pmXs} {M : pmMs} {Z : pmZs} {Q : pmO → Prop} {e : Nat}, 4 ≤ d → XT X t n → Wp d u 114 84 [some (.ref 14), some (.int (nI 0)), some (.int (nI hi)), some (.int (nI v))] [.int (nI hi), .int (nI 0), .int (nI v)] (hp (PX X q e) M Z) Q → Wp d u 114 0 (pm_entry 114 [.ref 14, .int (nI 0), .int (nI hi)]) [] (hp (PX X p e) M Z) Q := by
      intro d u X M Z Q e h4 hT kk
      refine kX h4 hT ?_
      obtain ⟨d, rfl⟩ : ∃ d0, d = d0 + 4 := ⟨d - 4, by omega⟩
      iterate 2 refine Wp.step rfl ?_
      refine Wp.call rfl (Nat.zero_le _) (X_byteHere X M Z hT ⟨_, _, rfl, ?_⟩ hqn)
      refine Wp.call rfl (Nat.zero_le _) (X_isDigit _ ⟨_, _, rfl, ?_⟩)
      rw [show bI (isD (ch t n q)) = 0 from if_neg (fun z => hd2 ((dg_ch hB).mp z))]
      refine Wp.brF rfl (fun z => z rfl) ?_
      iterate 2 refine Wp.step rfl ?_
      refine Wp.call rfl (Nat.zero_le _) (X_need1 ⟨_, _, rfl, ?_⟩)
      iterate 3 refine Wp.step rfl ?_
      exact kk
    have kM2 : ∀ {d u : Nat} {X : pmXs} {M : pmMs} {Z : pmZs} {Q : pmO → Prop} {e : Int32}, 4 ≤ d → MT M t n → Wp d u 220 80 [some (.ref 35), some (.int (nI hi)), some (.int (nI (48 + a))), some (.int (nI v))] [.int (nI hi), .int (nI v)] (hp X (KM M (nI q) e (-1)) Z) Q → Wp d u 220 0 (pm_entry 220 [.ref 35, .int (nI hi)]) [] (hp X (KM M (nI p) e (-1)) Z) Q := by
      intro d u X M Z Q e h4 hT kk
      refine kM h4 hT ?_
      obtain ⟨d, rfl⟩ : ∃ d0, d = d0 + 4 := ⟨d - 4, by omega⟩
      refine Wp.step rfl ?_
      refine Wp.call rfl (Nat.zero_le _) (M_isDigit0 X M Z hT hqn hd2 ⟨_, _, rfl, ?_⟩)
      refine Wp.brT rfl (by decide) ?_
      iterate 2 refine Wp.step rfl ?_
      exact kk
    by_cases hvh : v ≤ hi
    · refine Or.inl ⟨q, v, hq, hqn, hvh, ?_, ?_⟩
      · intro d u X M Z Q e h4 hT hQ
        refine kX2 h4 hT ?_
        obtain ⟨d, rfl⟩ : ∃ d0, d = d0 + 4 := ⟨d - 4, by omega⟩
        refine Wp.call rfl (Nat.zero_le _) (X_in _ _ _ ⟨_, _, rfl, ?_⟩)
        rw [show bI (nI 0 ≤ nI v ∧ nI v ≤ nI hi) = 1 from if_pos ⟨nI_le (by omega) (by omega), nI_le hvh (by omega)⟩]
        refine Wp.brT rfl (by decide) ?_
        refine Wp.step rfl ?_
        exact Wp.fin rfl rfl hQ
      · intro d u X M Z Q e h4 hT hQ
        refine kM2 h4 hT ?_
        refine Wp.brT rfl (nI_le hvh (by omega)) ?_
        refine Wp.step rfl ?_
        exact Wp.fin rfl rfl hQ
    · refine Or.inr ⟨q - 1, by omega, by omega, ?_, ?_⟩
      · intro d u X M Z Q e h4 hT hQ
        have := hT.2.1
        refine kX2 h4 hT ?_
        obtain ⟨d, rfl⟩ : ∃ d0, d = d0 + 4 := ⟨d - 4, by omega⟩
        refine Wp.call rfl (Nat.zero_le _) (X_in _ _ _ ⟨_, _, rfl, ?_⟩)
        rw [show bI (nI 0 ≤ nI v ∧ nI v ≤ nI hi) = 0 from if_neg (fun z => absurd z.2 (nI_ge (by omega) (by omega)))]
        refine Wp.brF rfl (fun z => z rfl) ?_
        iterate 5 refine Wp.step rfl ?_
        refine Wp.putX rfl rfl rfl ?_
        rw [show xI (PX X q e) 3 ((PX X q e).1 3 - nI 1) = PX X (q - 1) e by rw [PX_3, pk_sub (by omega), PX_p]]
        iterate 2 refine Wp.step rfl ?_
        exact Wp.thr (ci := 2) rfl hQ
      · intro d u X M Z Q e h4 hT hQ
        refine kM2 h4 hT ?_
        obtain ⟨d, rfl⟩ : ∃ d0, d = d0 + 4 := ⟨d - 4, by omega⟩
        refine Wp.brF rfl (nI_ge (by omega) (by omega)) ?_
        iterate 5 refine Wp.step rfl ?_
        refine Wp.putM rfl rfl rfl ?_
        rw [show mI (KM M (nI q) e (-1)) 10 ((KM M (nI q) e (-1)).1 10 - nI 1) = KM M (nI (q - 1)) e (-1) by rw [KM_10, pk_sub (by omega), KM_p]]
        refine Wp.step rfl ?_
        refine Wp.call rfl (Nat.zero_le _) (M_fails0 X M Z ⟨_, _, rfl, ?_⟩)
        iterate 2 refine Wp.step rfl ?_
        exact Wp.fin rfl rfl (hQ _ _)
  by_cases hd1 : dg t n (lk t n p + 1)
  · obtain ⟨b, hb, hcb⟩ := isD_nI ((dg_ch hB).mpr hd1)
    have hlt1 := hd1.1
    refine tail (lk t n p + 2) (10 * a + b) (by omega) (by omega) (by omega) ?_ ?_
    · intro d u X M Z Q e h4 hT kk
      refine keyX h4 hT ?_
      obtain ⟨d, rfl⟩ : ∃ d0, d = d0 + 4 := ⟨d - 4, by omega⟩
      refine Wp.step rfl ?_
      refine Wp.call rfl (Nat.zero_le _) (X_byteHere X M Z hT ⟨_, _, rfl, ?_⟩ (by omega))
      refine Wp.call rfl (Nat.zero_le _) (X_isDigit _ ⟨_, _, rfl, ?_⟩)
      rw [show bI (isD (ch t n (lk t n p + 1))) = 1 from if_pos ((dg_ch hB).mpr hd1)]
      refine Wp.brF rfl (by decide) ?_
      iterate 4 refine Wp.step rfl ?_
      refine Wp.call rfl (Nat.zero_le _) (X_byteHere X M Z hT ⟨_, _, rfl, ?_⟩ (by omega))
      rw [hcb]
      rw [show nI (10 * a + b) = nI 10 * nI a + nI (48 + b) - nI 48 by rw [pk_mul, nI_add, pk_sub (by omega)]; congr 1; omega] at kk
      iterate 9 refine Wp.step rfl ?_
      refine Wp.putX rfl rfl rfl ?_
      rw [PX_inc]
      exact kk
    · intro d u X M Z Q e h4 hT kk
      refine keyM h4 hT ?_
      obtain ⟨d, rfl⟩ : ∃ d0, d = d0 + 4 := ⟨d - 4, by omega⟩
      refine Wp.step rfl ?_
      refine Wp.call rfl (Nat.zero_le _) (M_isDigit1 X M Z hT hd1 ⟨_, _, rfl, ?_⟩)
      refine Wp.brF rfl (by decide) ?_
      iterate 4 refine Wp.step rfl ?_
      refine Wp.call rfl (Nat.zero_le _) (M_here X M Z hT ⟨_, _, rfl, ?_⟩ (by omega))
      rw [hcb]
      rw [show nI (10 * a + b) = nI 10 * nI a + nI (48 + b) - nI 48 by rw [pk_mul, nI_add, pk_sub (by omega)]; congr 1; omega] at kk
      iterate 9 refine Wp.step rfl ?_
      refine Wp.putM rfl rfl rfl ?_
      rw [KM_inc]
      exact kk
  · refine tail (lk t n p + 1) a (by omega) (by omega) (by omega) ?_ ?_
    · intro d u X M Z Q e h4 hT kk
      refine keyX h4 hT ?_
      obtain ⟨d, rfl⟩ : ∃ d0, d = d0 + 4 := ⟨d - 4, by omega⟩
      refine Wp.step rfl ?_
      refine Wp.call rfl (Nat.zero_le _) (X_byteHere X M Z hT ⟨_, _, rfl, ?_⟩ (by omega))
      refine Wp.call rfl (Nat.zero_le _) (X_isDigit _ ⟨_, _, rfl, ?_⟩)
      rw [show bI (isD (ch t n (lk t n p + 1))) = 0 from if_neg (fun z => hd1 ((dg_ch hB).mp z))]
      exact Wp.brT rfl (by decide) kk
    · intro d u X M Z Q e h4 hT kk
      refine keyM h4 hT ?_
      obtain ⟨d, rfl⟩ : ∃ d0, d = d0 + 4 := ⟨d - 4, by omega⟩
      refine Wp.step rfl ?_
      refine Wp.call rfl (Nat.zero_le _) (M_isDigit0 X M Z hT (by omega) hd1 ⟨_, _, rfl, ?_⟩)
      exact Wp.brT rfl (by decide) kk
theorem X_usual_115_0 {d u : Nat} {h : pmH} {Q : pmO → Prop} (hQ : Q (.inl (some (.int (nI 1))), h)) : Wp d u 104 0 (pm_entry 104 [.int (nI 115), .int (nI 0)]) [] h Q := by
  repeat (first | refine Wp.step rfl ?_ | refine Wp.brT rfl (by decide) ?_ | refine Wp.brF rfl (by decide) ?_)
  exact Wp.fin rfl rfl hQ
theorem X_usual_115_1 {d u : Nat} {h : pmH} {Q : pmO → Prop} (hQ : Q (.inl (some (.int (nI 20))), h)) : Wp d u 104 0 (pm_entry 104 [.int (nI 115), .int (nI 1)]) [] h Q := by
  repeat (first | refine Wp.step rfl ?_ | refine Wp.brT rfl (by decide) ?_ | refine Wp.brF rfl (by decide) ?_)
  exact Wp.fin rfl rfl hQ
theorem M_usual_115_0 {d u : Nat} {h : pmH} {Q : pmO → Prop} (hQ : Q (.inl (some (.int (nI 1))), h)) : Wp d u 200 0 (pm_entry 200 [.int (nI 115), .int (nI 0)]) [] h Q := by
  repeat (first | refine Wp.step rfl ?_ | refine Wp.brT rfl (by decide) ?_ | refine Wp.brF rfl (by decide) ?_)
  exact Wp.fin rfl rfl hQ
theorem M_usual_115_1 {d u : Nat} {h : pmH} {Q : pmO → Prop} (hQ : Q (.inl (some (.int (nI 20))), h)) : Wp d u 200 0 (pm_entry 200 [.int (nI 115), .int (nI 1)]) [] h Q := by
  repeat (first | refine Wp.step rfl ?_ | refine Wp.brT rfl (by decide) ?_ | refine Wp.brF rfl (by decide) ?_)
  exact Wp.fin rfl rfl hQ
theorem X_usual_107_0 {d u : Nat} {h : pmH} {Q : pmO → Prop} (hQ : Q (.inl (some (.int (nI 8))), h)) : Wp d u 104 0 (pm_entry 104 [.int (nI 107), .int (nI 0)]) [] h Q := by
  repeat (first | refine Wp.step rfl ?_ | refine Wp.brT rfl (by decide) ?_ | refine Wp.brF rfl (by decide) ?_)
  exact Wp.fin rfl rfl hQ
theorem X_usual_107_1 {d u : Nat} {h : pmH} {Q : pmO → Prop} (hQ : Q (.inl (some (.int (nI 2))), h)) : Wp d u 104 0 (pm_entry 104 [.int (nI 107), .int (nI 1)]) [] h Q := by
  repeat (first | refine Wp.step rfl ?_ | refine Wp.brT rfl (by decide) ?_ | refine Wp.brF rfl (by decide) ?_)
  exact Wp.fin rfl rfl hQ
theorem X_usual_107_2 {d u : Nat} {h : pmH} {Q : pmO → Prop} (hQ : Q (.inl (some (.int (nI 3))), h)) : Wp d u 104 0 (pm_entry 104 [.int (nI 107), .int (nI 2)]) [] h Q := by
  repeat (first | refine Wp.step rfl ?_ | refine Wp.brT rfl (by decide) ?_ | refine Wp.brF rfl (by decide) ?_)
  exact Wp.fin rfl rfl hQ
theorem M_usual_107_0 {d u : Nat} {h : pmH} {Q : pmO → Prop} (hQ : Q (.inl (some (.int (nI 8))), h)) : Wp d u 200 0 (pm_entry 200 [.int (nI 107), .int (nI 0)]) [] h Q := by
  repeat (first | refine Wp.step rfl ?_ | refine Wp.brT rfl (by decide) ?_ | refine Wp.brF rfl (by decide) ?_)
  exact Wp.fin rfl rfl hQ
theorem M_usual_107_1 {d u : Nat} {h : pmH} {Q : pmO → Prop} (hQ : Q (.inl (some (.int (nI 2))), h)) : Wp d u 200 0 (pm_entry 200 [.int (nI 107), .int (nI 1)]) [] h Q := by
  repeat (first | refine Wp.step rfl ?_ | refine Wp.brT rfl (by decide) ?_ | refine Wp.brF rfl (by decide) ?_)
  exact Wp.fin rfl rfl hQ
theorem M_usual_107_2 {d u : Nat} {h : pmH} {Q : pmO → Prop} (hQ : Q (.inl (some (.int (nI 3))), h)) : Wp d u 200 0 (pm_entry 200 [.int (nI 107), .int (nI 2)]) [] h Q := by
  repeat (first | refine Wp.step rfl ?_ | refine Wp.brT rfl (by decide) ?_ | refine Wp.brF rfl (by decide) ?_)
  exact Wp.fin rfl rfl hQ
theorem X_usual_102_0 {d u : Nat} {h : pmH} {Q : pmO → Prop} (hQ : Q (.inl (some (.int (nI 0))), h)) : Wp d u 104 0 (pm_entry 104 [.int (nI 102), .int (nI 0)]) [] h Q := by
  repeat (first | refine Wp.step rfl ?_ | refine Wp.brT rfl (by decide) ?_ | refine Wp.brF rfl (by decide) ?_)
  exact Wp.fin rfl rfl hQ
theorem X_usual_102_1 {d u : Nat} {h : pmH} {Q : pmO → Prop} (hQ : Q (.inl (some (.int (nI 1))), h)) : Wp d u 104 0 (pm_entry 104 [.int (nI 102), .int (nI 1)]) [] h Q := by
  repeat (first | refine Wp.step rfl ?_ | refine Wp.brT rfl (by decide) ?_ | refine Wp.brF rfl (by decide) ?_)
  exact Wp.fin rfl rfl hQ
theorem X_usual_102_2 {d u : Nat} {h : pmH} {Q : pmO → Prop} (hQ : Q (.inl (some (.int (nI 0))), h)) : Wp d u 104 0 (pm_entry 104 [.int (nI 102), .int (nI 2)]) [] h Q := by
  repeat (first | refine Wp.step rfl ?_ | refine Wp.brT rfl (by decide) ?_ | refine Wp.brF rfl (by decide) ?_)
  exact Wp.fin rfl rfl hQ
theorem X_usual_102_3 {d u : Nat} {h : pmH} {Q : pmO → Prop} (hQ : Q (.inl (some (.int (nI 7))), h)) : Wp d u 104 0 (pm_entry 104 [.int (nI 102), .int (nI 3)]) [] h Q := by
  repeat (first | refine Wp.step rfl ?_ | refine Wp.brT rfl (by decide) ?_ | refine Wp.brF rfl (by decide) ?_)
  exact Wp.fin rfl rfl hQ
theorem M_usual_102_0 {d u : Nat} {h : pmH} {Q : pmO → Prop} (hQ : Q (.inl (some (.int (nI 0))), h)) : Wp d u 200 0 (pm_entry 200 [.int (nI 102), .int (nI 0)]) [] h Q := by
  repeat (first | refine Wp.step rfl ?_ | refine Wp.brT rfl (by decide) ?_ | refine Wp.brF rfl (by decide) ?_)
  exact Wp.fin rfl rfl hQ
theorem M_usual_102_1 {d u : Nat} {h : pmH} {Q : pmO → Prop} (hQ : Q (.inl (some (.int (nI 1))), h)) : Wp d u 200 0 (pm_entry 200 [.int (nI 102), .int (nI 1)]) [] h Q := by
  repeat (first | refine Wp.step rfl ?_ | refine Wp.brT rfl (by decide) ?_ | refine Wp.brF rfl (by decide) ?_)
  exact Wp.fin rfl rfl hQ
theorem M_usual_102_2 {d u : Nat} {h : pmH} {Q : pmO → Prop} (hQ : Q (.inl (some (.int (nI 0))), h)) : Wp d u 200 0 (pm_entry 200 [.int (nI 102), .int (nI 2)]) [] h Q := by
  repeat (first | refine Wp.step rfl ?_ | refine Wp.brT rfl (by decide) ?_ | refine Wp.brF rfl (by decide) ?_)
  exact Wp.fin rfl rfl hQ
theorem M_usual_102_3 {d u : Nat} {h : pmH} {Q : pmO → Prop} (hQ : Q (.inl (some (.int (nI 7))), h)) : Wp d u 200 0 (pm_entry 200 [.int (nI 102), .int (nI 3)]) [] h Q := by
  repeat (first | refine Wp.step rfl ?_ | refine Wp.brT rfl (by decide) ?_ | refine Wp.brF rfl (by decide) ?_)
  exact Wp.fin rfl rfl hQ
theorem X_hi_115_0 {d u : Nat} {h : pmH} {Q : pmO → Prop} (hQ : Q (.inl (some (.int (nI 9))), h)) : Wp d u 113 0 (pm_entry 113 [.int (nI 115), .int (nI 0)]) [] h Q := by
  repeat (first | refine Wp.step rfl ?_ | refine Wp.brT rfl (by decide) ?_ | refine Wp.brF rfl (by decide) ?_)
  exact Wp.fin rfl rfl hQ
theorem X_hi_115_1 {d u : Nat} {h : pmH} {Q : pmO → Prop} (hQ : Q (.inl (some (.int (nI 99))), h)) : Wp d u 113 0 (pm_entry 113 [.int (nI 115), .int (nI 1)]) [] h Q := by
  repeat (first | refine Wp.step rfl ?_ | refine Wp.brT rfl (by decide) ?_ | refine Wp.brF rfl (by decide) ?_)
  exact Wp.fin rfl rfl hQ
theorem X_hi_115 {d u j : Nat} {h : pmH} {Q : pmO → Prop} (hj : j < 2) (hQ : Q (.inl (some (.int (nI (([9, 99] : List Nat).getD j 0)))), h)) : Wp d u 113 0 (pm_entry 113 [.int (nI 115), .int (nI j)]) [] h Q := by
  have hj2 : j = 0 ∨ j = 1 := by omega
  rcases hj2 with rfl | rfl
  · exact X_hi_115_0 hQ
  · exact X_hi_115_1 hQ
theorem M_hi_115_0 {d u : Nat} {h : pmH} {Q : pmO → Prop} (hQ : Q (.inl (some (.int (nI 9))), h)) : Wp d u 219 0 (pm_entry 219 [.int (nI 115), .int (nI 0)]) [] h Q := by
  repeat (first | refine Wp.step rfl ?_ | refine Wp.brT rfl (by decide) ?_ | refine Wp.brF rfl (by decide) ?_)
  exact Wp.fin rfl rfl hQ
theorem M_hi_115_1 {d u : Nat} {h : pmH} {Q : pmO → Prop} (hQ : Q (.inl (some (.int (nI 99))), h)) : Wp d u 219 0 (pm_entry 219 [.int (nI 115), .int (nI 1)]) [] h Q := by
  repeat (first | refine Wp.step rfl ?_ | refine Wp.brT rfl (by decide) ?_ | refine Wp.brF rfl (by decide) ?_)
  exact Wp.fin rfl rfl hQ
theorem M_hi_115 {d u j : Nat} {h : pmH} {Q : pmO → Prop} (hj : j < 2) (hQ : Q (.inl (some (.int (nI (([9, 99] : List Nat).getD j 0)))), h)) : Wp d u 219 0 (pm_entry 219 [.int (nI 115), .int (nI j)]) [] h Q := by
  have hj2 : j = 0 ∨ j = 1 := by omega
  rcases hj2 with rfl | rfl
  · exact M_hi_115_0 hQ
  · exact M_hi_115_1 hQ
theorem X_hi_107_0 {d u : Nat} {h : pmH} {Q : pmO → Prop} (hQ : Q (.inl (some (.int (nI 30))), h)) : Wp d u 113 0 (pm_entry 113 [.int (nI 107), .int (nI 0)]) [] h Q := by
  repeat (first | refine Wp.step rfl ?_ | refine Wp.brT rfl (by decide) ?_ | refine Wp.brF rfl (by decide) ?_)
  exact Wp.fin rfl rfl hQ
theorem X_hi_107_1 {d u : Nat} {h : pmH} {Q : pmO → Prop} (hQ : Q (.inl (some (.int (nI 9))), h)) : Wp d u 113 0 (pm_entry 113 [.int (nI 107), .int (nI 1)]) [] h Q := by
  repeat (first | refine Wp.step rfl ?_ | refine Wp.brT rfl (by decide) ?_ | refine Wp.brF rfl (by decide) ?_)
  exact Wp.fin rfl rfl hQ
theorem X_hi_107_2 {d u : Nat} {h : pmH} {Q : pmO → Prop} (hQ : Q (.inl (some (.int (nI 9))), h)) : Wp d u 113 0 (pm_entry 113 [.int (nI 107), .int (nI 2)]) [] h Q := by
  repeat (first | refine Wp.step rfl ?_ | refine Wp.brT rfl (by decide) ?_ | refine Wp.brF rfl (by decide) ?_)
  exact Wp.fin rfl rfl hQ
theorem X_hi_107 {d u j : Nat} {h : pmH} {Q : pmO → Prop} (hj : j < 3) (hQ : Q (.inl (some (.int (nI (([30, 9, 9] : List Nat).getD j 0)))), h)) : Wp d u 113 0 (pm_entry 113 [.int (nI 107), .int (nI j)]) [] h Q := by
  have hj2 : j = 0 ∨ j = 1 ∨ j = 2 := by omega
  rcases hj2 with rfl | rfl | rfl
  · exact X_hi_107_0 hQ
  · exact X_hi_107_1 hQ
  · exact X_hi_107_2 hQ
theorem M_hi_107_0 {d u : Nat} {h : pmH} {Q : pmO → Prop} (hQ : Q (.inl (some (.int (nI 30))), h)) : Wp d u 219 0 (pm_entry 219 [.int (nI 107), .int (nI 0)]) [] h Q := by
  repeat (first | refine Wp.step rfl ?_ | refine Wp.brT rfl (by decide) ?_ | refine Wp.brF rfl (by decide) ?_)
  exact Wp.fin rfl rfl hQ
theorem M_hi_107_1 {d u : Nat} {h : pmH} {Q : pmO → Prop} (hQ : Q (.inl (some (.int (nI 9))), h)) : Wp d u 219 0 (pm_entry 219 [.int (nI 107), .int (nI 1)]) [] h Q := by
  repeat (first | refine Wp.step rfl ?_ | refine Wp.brT rfl (by decide) ?_ | refine Wp.brF rfl (by decide) ?_)
  exact Wp.fin rfl rfl hQ
theorem M_hi_107_2 {d u : Nat} {h : pmH} {Q : pmO → Prop} (hQ : Q (.inl (some (.int (nI 9))), h)) : Wp d u 219 0 (pm_entry 219 [.int (nI 107), .int (nI 2)]) [] h Q := by
  repeat (first | refine Wp.step rfl ?_ | refine Wp.brT rfl (by decide) ?_ | refine Wp.brF rfl (by decide) ?_)
  exact Wp.fin rfl rfl hQ
theorem M_hi_107 {d u j : Nat} {h : pmH} {Q : pmO → Prop} (hj : j < 3) (hQ : Q (.inl (some (.int (nI (([30, 9, 9] : List Nat).getD j 0)))), h)) : Wp d u 219 0 (pm_entry 219 [.int (nI 107), .int (nI j)]) [] h Q := by
  have hj2 : j = 0 ∨ j = 1 ∨ j = 2 := by omega
  rcases hj2 with rfl | rfl | rfl
  · exact M_hi_107_0 hQ
  · exact M_hi_107_1 hQ
  · exact M_hi_107_2 hQ
theorem X_hi_102_0 {d u : Nat} {h : pmH} {Q : pmO → Prop} (hQ : Q (.inl (some (.int (nI 3))), h)) : Wp d u 113 0 (pm_entry 113 [.int (nI 102), .int (nI 0)]) [] h Q := by
  repeat (first | refine Wp.step rfl ?_ | refine Wp.brT rfl (by decide) ?_ | refine Wp.brF rfl (by decide) ?_)
  exact Wp.fin rfl rfl hQ
theorem X_hi_102_1 {d u : Nat} {h : pmH} {Q : pmO → Prop} (hQ : Q (.inl (some (.int (nI 3))), h)) : Wp d u 113 0 (pm_entry 113 [.int (nI 102), .int (nI 1)]) [] h Q := by
  repeat (first | refine Wp.step rfl ?_ | refine Wp.brT rfl (by decide) ?_ | refine Wp.brF rfl (by decide) ?_)
  exact Wp.fin rfl rfl hQ
theorem X_hi_102_2 {d u : Nat} {h : pmH} {Q : pmO → Prop} (hQ : Q (.inl (some (.int (nI 9))), h)) : Wp d u 113 0 (pm_entry 113 [.int (nI 102), .int (nI 2)]) [] h Q := by
  repeat (first | refine Wp.step rfl ?_ | refine Wp.brT rfl (by decide) ?_ | refine Wp.brF rfl (by decide) ?_)
  exact Wp.fin rfl rfl hQ
theorem X_hi_102_3 {d u : Nat} {h : pmH} {Q : pmO → Prop} (hQ : Q (.inl (some (.int (nI 20))), h)) : Wp d u 113 0 (pm_entry 113 [.int (nI 102), .int (nI 3)]) [] h Q := by
  repeat (first | refine Wp.step rfl ?_ | refine Wp.brT rfl (by decide) ?_ | refine Wp.brF rfl (by decide) ?_)
  exact Wp.fin rfl rfl hQ
theorem X_hi_102 {d u j : Nat} {h : pmH} {Q : pmO → Prop} (hj : j < 4) (hQ : Q (.inl (some (.int (nI (([3, 3, 9, 20] : List Nat).getD j 0)))), h)) : Wp d u 113 0 (pm_entry 113 [.int (nI 102), .int (nI j)]) [] h Q := by
  have hj2 : j = 0 ∨ j = 1 ∨ j = 2 ∨ j = 3 := by omega
  rcases hj2 with rfl | rfl | rfl | rfl
  · exact X_hi_102_0 hQ
  · exact X_hi_102_1 hQ
  · exact X_hi_102_2 hQ
  · exact X_hi_102_3 hQ
theorem M_hi_102_0 {d u : Nat} {h : pmH} {Q : pmO → Prop} (hQ : Q (.inl (some (.int (nI 3))), h)) : Wp d u 219 0 (pm_entry 219 [.int (nI 102), .int (nI 0)]) [] h Q := by
  repeat (first | refine Wp.step rfl ?_ | refine Wp.brT rfl (by decide) ?_ | refine Wp.brF rfl (by decide) ?_)
  exact Wp.fin rfl rfl hQ
theorem M_hi_102_1 {d u : Nat} {h : pmH} {Q : pmO → Prop} (hQ : Q (.inl (some (.int (nI 3))), h)) : Wp d u 219 0 (pm_entry 219 [.int (nI 102), .int (nI 1)]) [] h Q := by
  repeat (first | refine Wp.step rfl ?_ | refine Wp.brT rfl (by decide) ?_ | refine Wp.brF rfl (by decide) ?_)
  exact Wp.fin rfl rfl hQ
theorem M_hi_102_2 {d u : Nat} {h : pmH} {Q : pmO → Prop} (hQ : Q (.inl (some (.int (nI 9))), h)) : Wp d u 219 0 (pm_entry 219 [.int (nI 102), .int (nI 2)]) [] h Q := by
  repeat (first | refine Wp.step rfl ?_ | refine Wp.brT rfl (by decide) ?_ | refine Wp.brF rfl (by decide) ?_)
  exact Wp.fin rfl rfl hQ
theorem M_hi_102_3 {d u : Nat} {h : pmH} {Q : pmO → Prop} (hQ : Q (.inl (some (.int (nI 20))), h)) : Wp d u 219 0 (pm_entry 219 [.int (nI 102), .int (nI 3)]) [] h Q := by
  repeat (first | refine Wp.step rfl ?_ | refine Wp.brT rfl (by decide) ?_ | refine Wp.brF rfl (by decide) ?_)
  exact Wp.fin rfl rfl hQ
theorem M_hi_102 {d u j : Nat} {h : pmH} {Q : pmO → Prop} (hj : j < 4) (hQ : Q (.inl (some (.int (nI (([3, 3, 9, 20] : List Nat).getD j 0)))), h)) : Wp d u 219 0 (pm_entry 219 [.int (nI 102), .int (nI j)]) [] h Q := by
  have hj2 : j = 0 ∨ j = 1 ∨ j = 2 ∨ j = 3 := by omega
  rcases hj2 with rfl | rfl | rfl | rfl
  · exact M_hi_102_0 hQ
  · exact M_hi_102_1 hQ
  · exact M_hi_102_2 hQ
  · exact M_hi_102_3 hQ
