/-! ATOMS of both parsers -/
abbrev isB (b : Int32) : Prop := -128 ≤ b.toInt ∧ b.toInt < 128
theorem ch_rng (t : Nat → Int32) (n p : Nat) : (ch t n p = -1 ∧ n ≤ p) ∨ (p < n ∧ ∃ m, m < 256 ∧ ch t n p = nI m) := by
  unfold ch
  by_cases h : p < n
  · obtain ⟨m, h1, h2⟩ := pk_andE (t p) (m := nI 255) 8 (by decide)
    rw [if_pos h]
    exact Or.inr ⟨h, m, h1, h2⟩
  · rw [if_neg h]
    exact Or.inl ⟨rfl, by omega⟩
theorem ch_lt {t : Nat → Int32} {n p : Nat} (h : ch t n p ≠ -1) : p < n := by
  rcases ch_rng t n p with h1 | h1
  · exact absurd h1.1 h
  · exact h1.1
theorem and255_low : ∀ k, k < 128 → nI k &&& nI 255 = nI k := by decide +kernel
theorem and255_neg : ∀ k, k < 128 → ¬ isD (-(nI (k + 1)) &&& nI 255) := by decide +kernel
theorem negs_low : ∀ k, k < 128 → ¬ nI 48 ≤ -(nI (k + 1)) := by decide +kernel
theorem isB_cases {b : Int32} (h : isB b) : (∃ k, k < 128 ∧ b = nI k) ∨ (∃ k, k < 128 ∧ b = -(nI (k + 1))) := by
  by_cases h0 : 0 ≤ b.toInt
  · refine Or.inl ⟨b.toInt.toNat, by omega, Int32.toInt_inj.mp ?_⟩
    rw [nI_toInt (by omega)]
    omega
  · refine Or.inr ⟨(-b.toInt - 1).toNat, by omega, Int32.toInt_inj.mp ?_⟩
    have h2 : (nI ((-b.toInt - 1).toNat + 1)).toInt = -b.toInt := by
      rw [nI_toInt (by omega)]
      omega
    rw [Int32.toInt_neg, h2, Int.bmod_eq_of_le] <;> omega
theorem dg_ch {t : Nat → Int32} {n p : Nat} (hB : ∀ j, j < n → isB (t j)) : isD (ch t n p) ↔ dg t n p := by
  unfold ch dg
  by_cases h : p < n
  · rw [if_pos h]
    rcases isB_cases (hB p h) with ⟨k, h1, h2⟩ | ⟨k, h1, h2⟩
    · rw [h2, and255_low k h1]
      exact ⟨fun q => ⟨h, q.1, q.2⟩, fun q => ⟨q.2.1, q.2.2⟩⟩
    · rw [h2]
      refine ⟨fun q => absurd q (and255_neg k h1), fun q => absurd q.2.1 ?_⟩
      exact negs_low k h1
  · rw [if_neg h]
    exact ⟨fun q => absurd q (by decide), fun q => absurd q.1 h⟩
theorem isD_dg {t : Nat → Int32} {n p : Nat} (hp' : p < n) : isD (t p) ↔ dg t n p := ⟨fun q => ⟨hp', q.1, q.2⟩, fun q => ⟨q.2.1, q.2.2⟩⟩
/-- letters -/
def LB : List Int32 := [109, 103, 115, 112, 119, 100]
theorem SB4 (X : pmXs) (M : pmMs) (Z : pmZs) : SB (hp X M Z) 4 LB := ⟨rfl, rfl, by decide, by decide⟩
theorem SA4 : SA LB := by
  intro b hb
  simp only [LB, List.mem_cons, List.not_mem_nil, or_false] at hb
  rcases hb with rfl | rfl | rfl | rfl | rfl | rfl <;> exact ⟨by decide, by rfl, by decide, by decide⟩
theorem fnd_not {c : Int32} : ∀ (l : List Int32) (i : Nat), c ∉ l → fnd c i l = -1 := by
  intro l
  induction l with
  | nil => intro i _; rfl
  | cons b l ih =>
    intro i h
    rw [show fnd c i (b :: l) = fnd c (i + 1) l from if_neg (fun q => h (by rw [q]; exact List.mem_cons_self))]
    exact ih _ (fun q => h (List.mem_cons_of_mem _ q))
theorem fnd_in {c : Int32} : ∀ (l : List Int32) (i : Nat), c ∈ l → ∃ j, i ≤ j ∧ j < i + l.length ∧ fnd c i l = nI j := by
  intro l
  induction l with
  | nil => intro i h; cases h
  | cons b l ih =>
    intro i h
    by_cases hb : b = c
    · exact ⟨i, Nat.le_refl _, by simp, if_pos hb⟩
    · rw [show fnd c i (b :: l) = fnd c (i + 1) l from if_neg hb]
      have : c ∈ l := by
        rcases List.mem_cons.mp h with q | q
        · exact absurd q.symm hb
        · exact q
      obtain ⟨j, h1, h2, h3⟩ := ih (i + 1) this
      exact ⟨j, by omega, by simp at h2 ⊢; omega, h3⟩
theorem low_LB : ∀ m, m < 256 → ∀ b ∈ LB, (b = (nI m).toInt8.toInt32 ↔ b = nI m) := by decide +kernel
theorem LB_lt : ∀ b ∈ LB, ∃ m, m < 128 ∧ b = nI m := by
  intro b hb
  simp only [LB, List.mem_cons, List.not_mem_nil, or_false] at hb
  rcases hb with rfl | rfl | rfl | rfl | rfl | rfl
  · exact ⟨109, by decide, rfl⟩
  · exact ⟨103, by decide, rfl⟩
  · exact ⟨115, by decide, rfl⟩
  · exact ⟨112, by decide, rfl⟩
  · exact ⟨119, by decide, rfl⟩
  · exact ⟨100, by decide, rfl⟩
theorem PX_inc (X : pmXs) (p e : Nat) : xI (PX X p e) 3 ((PX X p e).1 3 + nI 1) = PX X (p + 1) e := by rw [PX_3, nI_add, PX_p]
theorem KM_inc (M : pmMs) (p : Nat) (e f : Int32) : mI (KM M (nI p) e f) 10 ((KM M (nI p) e f).1 10 + nI 1) = KM M (nI (p + 1)) e f := by rw [KM_10, nI_add, KM_p]
/-- a new constant -/
theorem X_const {d u : Nat} (X : pmXs) (M : pmMs) (Z : pmZs) {Q : pmO → Prop} {l1 l3 : Option Value} (v : Int32) (hd : 2 ≤ d) (hu : 2 ≤ u) (hQ : ∀ N, Ext Z.2.2.length Z.2.2 N → DenS 0 Z.2.2.length N.length Z.2.2.length (fun _ => v) N → Q (.inl (some (.ref (Z.2.2.length + 59))), hp X M (zN Z N))) : Wp d u 118 146 [some (.ref 14), l1, some (.int v), l3] [] (hp X M Z) Q := by
  obtain ⟨d, rfl⟩ : ∃ d0, d = d0 + 2 := ⟨d - 2, by omega⟩
  refine Wp.newZ rfl rfl hu ?_
  iterate 2 refine Wp.step rfl ?_
  refine Wp.call (u1 := 0) rfl (Nat.zero_le _) (Constant_init (w := 0) nth_end ⟨_, _, rfl, ?_⟩)
  refine Wp.fin rfl trivial (hQ _ (Ext.trans (Ext.app (Nat.le_refl _)) (Ext.set (Nat.le_refl _))) ?_)
  have h1 : pm_nth (pm_set (Z.2.2 ++ [.inr (5, pm_def 5)]) Z.2.2.length (.inr (5, [.int v]))) Z.2.2.length = some (.inr (5, [.int v])) := nth_set (by rw [len_end]; omega)
  exact DenS.mono (DenS_const h1) (Nat.le_refl _) (Nat.le_refl _) (by simp only [zN, len_set, len_end]; omega) (Nat.le_refl _) (fun _ _ _ => rfl)
theorem digits {t : Nat → Int32} {n e : Nat} (hB : ∀ j, j < n → isB (t j)) : ∀ m k, k + m = 4 → ∀ (p : Nat) (v : Int32), p ≤ n →
    (∃ q w, p ≤ q ∧ q ≤ n ∧ (dg t n p → p < q) ∧ (∀ (d u : Nat) (X : pmXs) (M : pmMs) (Z : pmZs) (Q : pmO → Prop) (l1 : Int32), 2 ≤ d → 2 ≤ u → XT X t n → (∀ N, Ext Z.2.2.length Z.2.2 N → DenS 0 Z.2.2.length N.length Z.2.2.length (fun _ => w) N → Q (.inl (some (.ref (Z.2.2.length + 59))), hp (PX X q e) M (zN Z N))) → Wp d u 118 72 [some (.ref 14), some (.int l1), some (.int v), some (.int (nI k))] [] (hp (PX X p e) M Z) Q) ∧ (∀ (d u : Nat) (X : pmXs) (M : pmMs) (Z : pmZs) (Q : pmO → Prop) (l1 : Int32), 2 ≤ d → MT M t n → Q (.inl (some (.int w)), hp X (KM M (nI q) (nI e) (-1)) Z) → Wp d u 227 90 [some (.ref 35), some (.int l1), some (.int v), some (.int (nI k))] [] (hp X (KM M (nI p) (nI e) (-1)) Z) Q)) ∨
    (∃ q, p ≤ q ∧ q ≤ n ∧ (∀ (d u : Nat) (X : pmXs) (M : pmMs) (Z : pmZs) (Q : pmO → Prop) (l1 : Int32), 2 ≤ d → XT X t n → Q (.inr 2, hp (PX X q e) M Z) → Wp d u 118 72 [some (.ref 14), some (.int l1), some (.int v), some (.int (nI k))] [] (hp (PX X p e) M Z) Q) ∧ (∀ (d u : Nat) (X : pmXs) (M : pmMs) (Z : pmZs) (Q : pmO → Prop) (l1 : Int32), 2 ≤ d → MT M t n → (∀ w, Q (.inl (some (.int w)), hp X (KM M (nI q) (nI e) (nI q)) Z)) → Wp d u 227 90 [some (.ref 35), some (.int l1), some (.int v), some (.int (nI k))] [] (hp X (KM M (nI p) (nI e) (-1)) Z) Q)) := by
  intro m
  induction m with
  | zero =>
    intro k hk p v hp
    obtain rfl : k = 4 := by omega
    by_cases hd : dg t n p
    · refine Or.inr ⟨p, Nat.le_refl _, hp, ?_, ?_⟩
      · intro d u X M Z Q l1 h2 hT hQ
        obtain ⟨d, rfl⟩ : ∃ d0, d = d0 + 2 := ⟨d - 2, by omega⟩
        iterate 4 refine Wp.step rfl ?_
        refine Wp.brF rfl (by rw [PX_3, PX_2, hT.1]; exact nI_ge hd.1 (by have := hT.2.1; omega)) ?_
        repeat (first | refine Wp.putX rfl rfl rfl ?_ | refine Wp.putM rfl rfl rfl ?_ | refine Wp.step rfl ?_)
        try dsimp only
        refine Wp.bldX (k := p) rfl rfl rfl (by have := hd.1; have := hT.2.1; omega) (by decide) ?_
        rw [PX_a, hT.2.2 p hd.1]
        refine Wp.call rfl (Nat.zero_le _) (X_isDigit _ ⟨_, _, rfl, ?_⟩)
        refine Wp.brF rfl (by rw [show bI (isD (t p)) = 1 from if_pos ((isD_dg hd.1).mpr hd)]; decide) ?_
        iterate 3 refine Wp.step rfl ?_
        refine Wp.brT rfl (by decide) ?_
        refine Wp.step rfl ?_
        refine Wp.callF rfl rfl (Nat.zero_le _) (X_need0 _ M Z (Or.inr ⟨_, _, rfl, hQ⟩))
      · intro d u X M Z Q l1 h2 hT hQ
        obtain ⟨d, rfl⟩ : ∃ d0, d = d0 + 2 := ⟨d - 2, by omega⟩
        refine Wp.step rfl ?_
        refine Wp.call rfl (Nat.zero_le _) (M_isDigit1 X M Z hT hd ⟨_, _, rfl, ?_⟩)
        refine Wp.brF rfl (by decide) ?_
        iterate 3 refine Wp.step rfl ?_
        refine Wp.brF rfl (fun q => q rfl) ?_
        iterate 2 refine Wp.step rfl ?_
        refine Wp.brF rfl (fun q => q rfl) ?_
        refine Wp.step rfl ?_
        refine Wp.call rfl (Nat.zero_le _) (M_fails0 X M Z ⟨_, _, rfl, ?_⟩)
        iterate 2 refine Wp.step rfl ?_
        exact Wp.fin rfl rfl (hQ _)
    · refine Or.inl ⟨p, v, Nat.le_refl _, hp, fun q => absurd q hd, ?_, ?_⟩
      · intro d u X M Z Q l1 h2 hu hT hQ
        obtain ⟨d, rfl⟩ : ∃ d0, d = d0 + 2 := ⟨d - 2, by omega⟩
        iterate 4 refine Wp.step rfl ?_
        by_cases hn : p < n
        · refine Wp.brF rfl (by rw [PX_3, PX_2, hT.1]; exact nI_ge hn (by have := hT.2.1; omega)) ?_
          repeat (first | refine Wp.putX rfl rfl rfl ?_ | refine Wp.putM rfl rfl rfl ?_ | refine Wp.step rfl ?_)
          try dsimp only
          refine Wp.bldX (k := p) rfl rfl rfl (by have := hT.2.1; omega) (by decide) ?_
          rw [PX_a, hT.2.2 p hn]
          refine Wp.call rfl (Nat.zero_le _) (X_isDigit _ ⟨_, _, rfl, ?_⟩)
          refine Wp.brT rfl (if_neg (fun q => hd ((isD_dg hn).mp q))) ?_
          exact X_const _ M Z v h2 hu hQ
        · refine Wp.brT rfl (by rw [PX_3, PX_2, hT.1]; exact nI_le (by omega) (by have := hT.2.1; omega)) ?_
          exact X_const _ M Z v h2 hu hQ
      · intro d u X M Z Q l1 h2 hT hQ
        obtain ⟨d, rfl⟩ : ∃ d0, d = d0 + 2 := ⟨d - 2, by omega⟩
        refine Wp.step rfl ?_
        refine Wp.call rfl (Nat.zero_le _) (M_isDigit0 X M Z hT hp hd ⟨_, _, rfl, ?_⟩)
        refine Wp.brT rfl (by decide) ?_
        refine Wp.step rfl ?_
        exact Wp.fin rfl rfl hQ
  | succ m ih =>
    intro k hk p v hp
    by_cases hd : dg t n p
    · have hn := hd.1
      rcases ih (k + 1) (by omega) (p + 1) (nI 10 * v + t p - nI 48) (by omega) with ⟨q, w, h1, h2, _, hX, hM⟩ | ⟨q, h1, h2, hX, hM⟩
      · refine Or.inl ⟨q, w, by omega, h2, fun _ => by omega, ?_, ?_⟩
        · intro d u X M Z Q l1 h2 hu hT hQ
          have k9 := hX d u X M Z Q l1 h2 hu hT hQ
          obtain ⟨d, rfl⟩ : ∃ d0, d = d0 + 2 := ⟨d - 2, by omega⟩
          rw [← PX_p X p e (p + 1), ← nI_add p 1, ← nI_add k 1] at k9
          iterate 4 refine Wp.step rfl ?_
          refine Wp.brF rfl (by rw [PX_3, PX_2, hT.1]; exact nI_ge hn (by have := hT.2.1; omega)) ?_
          repeat (first | refine Wp.putX rfl rfl rfl ?_ | refine Wp.putM rfl rfl rfl ?_ | refine Wp.step rfl ?_)
          try dsimp only
          refine Wp.bldX (k := p) rfl rfl rfl (by have := hT.2.1; omega) (by decide) ?_
          rw [PX_a, hT.2.2 p hn]
          refine Wp.call rfl (Nat.zero_le _) (X_isDigit _ ⟨_, _, rfl, ?_⟩)
          refine Wp.brF rfl (by rw [show bI (isD (t p)) = 1 from if_pos ((isD_dg hn).mpr hd)]; decide) ?_
          iterate 3 refine Wp.step rfl ?_
          refine Wp.brF rfl (nI_ge (by omega) (by decide)) ?_
          iterate 2 refine Wp.step rfl ?_
          refine Wp.call rfl (Nat.zero_le _) (X_need1 ⟨_, _, rfl, ?_⟩)
          repeat (first | refine Wp.putX rfl rfl rfl ?_ | refine Wp.putM rfl rfl rfl ?_ | refine Wp.step rfl ?_)
          try dsimp only
          refine Wp.bldX (k := p) rfl rfl rfl (by have := hT.2.1; omega) (by decide) ?_
          rw [PX_a, hT.2.2 p hn]
          repeat (first | exact k9 | refine Wp.putX rfl rfl rfl ?_ | refine Wp.putM rfl rfl rfl ?_ | refine Wp.step rfl ?_)
        · intro d u X M Z Q l1 h2 hT hQ
          have k9 := hM d u X M Z Q l1 h2 hT hQ
          obtain ⟨d, rfl⟩ : ∃ d0, d = d0 + 2 := ⟨d - 2, by omega⟩
          rw [← KM_p M (nI p) (nI e) (-1) (nI (p + 1)), ← nI_add p 1, ← nI_add k 1] at k9
          refine Wp.step rfl ?_
          refine Wp.call rfl (Nat.zero_le _) (M_isDigit1 X M Z hT hd ⟨_, _, rfl, ?_⟩)
          refine Wp.brF rfl (by decide) ?_
          iterate 3 refine Wp.step rfl ?_
          refine Wp.brF rfl (fun q => q rfl) ?_
          iterate 2 refine Wp.step rfl ?_
          refine Wp.brT rfl (fun q => absurd ((nI_eq (by omega) (by decide)).mp q) (by omega)) ?_
          repeat (first | refine Wp.putX rfl rfl rfl ?_ | refine Wp.putM rfl rfl rfl ?_ | refine Wp.step rfl ?_)
          try dsimp only
          refine Wp.bldT (M := M) (p := p) rfl hT hn ?_
          repeat (first | exact k9 | refine Wp.putX rfl rfl rfl ?_ | refine Wp.putM rfl rfl rfl ?_ | refine Wp.step rfl ?_)
      · refine Or.inr ⟨q, by omega, h2, ?_, ?_⟩
        · intro d u X M Z Q l1 h2 hT hQ
          have k9 := hX d u X M Z Q l1 h2 hT hQ
          obtain ⟨d, rfl⟩ : ∃ d0, d = d0 + 2 := ⟨d - 2, by omega⟩
          rw [← PX_p X p e (p + 1), ← nI_add p 1, ← nI_add k 1] at k9
          iterate 4 refine Wp.step rfl ?_
          refine Wp.brF rfl (by rw [PX_3, PX_2, hT.1]; exact nI_ge hn (by have := hT.2.1; omega)) ?_
          repeat (first | refine Wp.putX rfl rfl rfl ?_ | refine Wp.putM rfl rfl rfl ?_ | refine Wp.step rfl ?_)
          try dsimp only
          refine Wp.bldX (k := p) rfl rfl rfl (by have := hT.2.1; omega) (by decide) ?_
          rw [PX_a, hT.2.2 p hn]
          refine Wp.call rfl (Nat.zero_le _) (X_isDigit _ ⟨_, _, rfl, ?_⟩)
          refine Wp.brF rfl (by rw [show bI (isD (t p)) = 1 from if_pos ((isD_dg hn).mpr hd)]; decide) ?_
          iterate 3 refine Wp.step rfl ?_
          refine Wp.brF rfl (nI_ge (by omega) (by decide)) ?_
          iterate 2 refine Wp.step rfl ?_
          refine Wp.call rfl (Nat.zero_le _) (X_need1 ⟨_, _, rfl, ?_⟩)
          repeat (first | refine Wp.putX rfl rfl rfl ?_ | refine Wp.putM rfl rfl rfl ?_ | refine Wp.step rfl ?_)
          try dsimp only
          refine Wp.bldX (k := p) rfl rfl rfl (by have := hT.2.1; omega) (by decide) ?_
          rw [PX_a, hT.2.2 p hn]
          repeat (first | exact k9 | refine Wp.putX rfl rfl rfl ?_ | refine Wp.putM rfl rfl rfl ?_ | refine Wp.step rfl ?_)
        · intro d u X M Z Q l1 h2 hT hQ
          have k9 := hM d u X M Z Q l1 h2 hT hQ
          obtain ⟨d, rfl⟩ : ∃ d0, d = d0 + 2 := ⟨d - 2, by omega⟩
          rw [← KM_p M (nI p) (nI e) (-1) (nI (p + 1)), ← nI_add p 1, ← nI_add k 1] at k9
          refine Wp.step rfl ?_
          refine Wp.call rfl (Nat.zero_le _) (M_isDigit1 X M Z hT hd ⟨_, _, rfl, ?_⟩)
          refine Wp.brF rfl (by decide) ?_
          iterate 3 refine Wp.step rfl ?_
          refine Wp.brF rfl (fun q => q rfl) ?_
          iterate 2 refine Wp.step rfl ?_
          refine Wp.brT rfl (fun q => absurd ((nI_eq (by omega) (by decide)).mp q) (by omega)) ?_
          repeat (first | refine Wp.putX rfl rfl rfl ?_ | refine Wp.putM rfl rfl rfl ?_ | refine Wp.step rfl ?_)
          try dsimp only
          refine Wp.bldT (M := M) (p := p) rfl hT hn ?_
          repeat (first | exact k9 | refine Wp.putX rfl rfl rfl ?_ | refine Wp.putM rfl rfl rfl ?_ | refine Wp.step rfl ?_)
    · refine Or.inl ⟨p, v, Nat.le_refl _, hp, fun q => absurd q hd, ?_, ?_⟩
      · intro d u X M Z Q l1 h2 hu hT hQ
        obtain ⟨d, rfl⟩ : ∃ d0, d = d0 + 2 := ⟨d - 2, by omega⟩
        iterate 4 refine Wp.step rfl ?_
        by_cases hn : p < n
        · refine Wp.brF rfl (by rw [PX_3, PX_2, hT.1]; exact nI_ge hn (by have := hT.2.1; omega)) ?_
          repeat (first | refine Wp.putX rfl rfl rfl ?_ | refine Wp.putM rfl rfl rfl ?_ | refine Wp.step rfl ?_)
          try dsimp only
          refine Wp.bldX (k := p) rfl rfl rfl (by have := hT.2.1; omega) (by decide) ?_
          rw [PX_a, hT.2.2 p hn]
          refine Wp.call rfl (Nat.zero_le _) (X_isDigit _ ⟨_, _, rfl, ?_⟩)
          refine Wp.brT rfl (if_neg (fun q => hd ((isD_dg hn).mp q))) ?_
          exact X_const _ M Z v h2 hu hQ
        · refine Wp.brT rfl (by rw [PX_3, PX_2, hT.1]; exact nI_le (by omega) (by have := hT.2.1; omega)) ?_
          exact X_const _ M Z v h2 hu hQ
      · intro d u X M Z Q l1 h2 hT hQ
        obtain ⟨d, rfl⟩ : ∃ d0, d = d0 + 2 := ⟨d - 2, by omega⟩
        refine Wp.step rfl ?_
        refine Wp.call rfl (Nat.zero_le _) (M_isDigit0 X M Z hT hp hd ⟨_, _, rfl, ?_⟩)
        refine Wp.brT rfl (by decide) ?_
        refine Wp.step rfl ?_
        exact Wp.fin rfl rfl hQ
