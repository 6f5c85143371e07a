/-! LOOPS of sums: printed by tools/loops.py from tools/loops.tpl -/
def OpenS (K lo : Nat) (s row : Value) (F0 : (Nat → Int32) → Int32) (N : List va_E) : Prop := (row = .null ∧ ∃ r, s = .ref (r + 59) ∧ DenS K lo N.length r F0 N) ∨ (∃ r last, row = .ref (r + 59) ∧ (∃ r0, s = .ref (r0 + 59)) ∧ OC (K + 2) lo N.length r last F0 N)
/-! LOOP of 116 and its like in M -/
theorem Xterm_step {t : Nat → Int32} {n p q e D K d u lo : Nat} {X : pmXs} {M : pmMs} {Z : pmZs} {Q : pmO → Prop} {F0 F1 : (Nat → Int32) → Int32} {s row : Value} {c : Int32} (hA : XokS t n 118 D K (lk t n p + 1) e q F1) (hd : D + 1 ≤ d) (hD : 4 ≤ d) (hq : lk t n p + 1 < q) (hqn : q ≤ n) (hc : c = nI 42 ∨ c = nI 47) (hT : XT X t n) (hu : 12 * (q - lk t n p) ≤ u) (hlo : lo ≤ Z.2.2.length) (hO : OpenS K lo s row F0 Z.2.2)
    (kk : ∀ N s row, Ext lo Z.2.2 N → OpenS K lo s row (fun l => opS c (F0 l) (F1 l)) N → Wp d (u - 12 * (q - lk t n p)) 116 12 [some (.ref 14), some s, some row, some (.int (ch t n (lk t n q)))] [] (hp (PX X (lk t n q) e) M (zN Z N)) Q) : Wp d u 116 12 [some (.ref 14), some s, some row, some (.int c)] [] (hp (PX X (lk t n p) e) M Z) Q := by
  suffices h24 : Wp d u 116 24 [some (.ref 14), some s, some row, some (.int c)] [] (hp (PX X (lk t n p) e) M Z) Q by
    rcases hc with rfl | rfl
    · iterate 2 refine Wp.step rfl ?_
      exact Wp.brT rfl rfl h24
    · iterate 2 refine Wp.step rfl ?_
      refine Wp.brF rfl (by decide) ?_
      iterate 2 refine Wp.step rfl ?_
      exact Wp.brF rfl (fun q => q rfl) h24
  obtain ⟨d, rfl⟩ : ∃ d0, d = d0 + 4 := ⟨d - 4, by omega⟩
  iterate 5 refine Wp.step rfl ?_
  refine Wp.putX rfl rfl rfl ?_
  rw [PX_inc]
  rcases hO with ⟨rfl, r0, rfl, hS⟩ | ⟨r, last, rfl, ⟨r0, rfl⟩, hO⟩
  · refine Wp.step rfl ?_
    refine Wp.step rfl ?_
    refine Wp.newZ rfl rfl (by omega) ?_
    iterate 2 refine Wp.step rfl ?_
    refine Wp.call (u1 := 0) rfl (Nat.zero_le _) (Chain_init (s := r0) (a := .null) (b := .null) (c := .null) nth_end ⟨_, _, rfl, ?_⟩)
    iterate 4 refine Wp.step rfl ?_
    have hl1 : (pm_set (Z.2.2 ++ [.inr (6, pm_def 6)]) Z.2.2.length (.inr (6, [.ref (r0 + 59), .null, .null]))).length = Z.2.2.length + 1 := by rw [len_set, len_end]
    have hr1 : pm_nth (pm_set (Z.2.2 ++ [.inr (6, pm_def 6)]) Z.2.2.length (.inr (6, [.ref (r0 + 59), .null, .null]))) Z.2.2.length = some (.inr (6, [.ref (r0 + 59), .null, .null])) := nth_set (by rw [len_end]; omega)
    refine Wp.call (u1 := 12 * (q - (lk t n p + 1))) rfl (by omega) (hA _ _ X M _ _ (by omega) (Nat.le_refl _) hT (fun N2 r2 hE hD2 => ⟨_, _, rfl, ?_⟩))
    have hE0 : Ext (pm_set (Z.2.2 ++ [.inr (6, pm_def 6)]) Z.2.2.length (.inr (6, [.ref (r0 + 59), .null, .null]))).length (pm_set (Z.2.2 ++ [.inr (6, pm_def 6)]) Z.2.2.length (.inr (6, [.ref (r0 + 59), .null, .null]))) N2 := hE
    rw [hl1] at hE0
    have hE' : ∀ i, i < Z.2.2.length + 1 → pm_nth N2 i = pm_nth (pm_set (Z.2.2 ++ [.inr (6, pm_def 6)]) Z.2.2.length (.inr (6, [.ref (r0 + 59), .null, .null]))) i := hE0.2
    have hr2 : pm_nth N2 Z.2.2.length = some (.inr (6, [.ref (r0 + 59), .null, .null])) := (hE' _ (by omega)).trans hr1
    have hD3 : DenS K (Z.2.2.length + 1) N2.length r2 F1 N2 := hl1 ▸ hD2
    refine Wp.call (u1 := 4) (pm_call_v rfl rfl (show pm_nth (hp _ _ _) (_ + 59) = _ from hr2) rfl rfl) (by omega) (Chain_add1 hr2 (Nat.le_refl _) (fun N5 g1 g2 g3 g4 => ⟨_, _, rfl, ?_⟩))
    refine Wp.step rfl ?_
    refine Wp.call rfl (Nat.zero_le _) (X_look X M _ hT hqn ⟨_, _, rfl, ?_⟩)
    iterate 2 refine Wp.step rfl ?_
    have hEx : Ext lo Z.2.2 N5 := by
      have := hE0.1
      refine ⟨by rw [g1]; show _ ≤ N2.length + 1; omega, fun i hi => ?_⟩
      rw [g4 i (by show i < N2.length; omega) (by omega)]
      show pm_nth N2 i = _
      rw [hE' i (by omega), nth_setne (by omega), nth_app (by omega)]
    have hOC : OC (K + 2) lo N5.length Z.2.2.length N2.length (fun l => opS c (F0 l) (F1 l)) N5 := by
      rw [show N5.length = N2.length + 1 from g1]
      exact OC.first hS (Nat.le_refl _) hD3 hlo g2 g3 g4 (fun i hi => by rw [hE' i (by omega), nth_setne (by omega), nth_app hi])
    exact (kk N5 _ _ hEx (Or.inr ⟨_, _, rfl, ⟨_, rfl⟩, hOC⟩)).mono (Nat.le_refl _) (by omega)
  · refine Wp.step rfl ?_
    have hO' := hO
    obtain ⟨g1, g2, g3, g4, g5, g6, v1, v2, sg0, sm0, h7, h8, -⟩ := hO'
    iterate 4 refine Wp.step rfl ?_
    refine Wp.call (u1 := 12 * (q - (lk t n p + 1))) rfl (by omega) (hA _ _ X M _ _ (by omega) (Nat.le_refl _) hT (fun N2 r2 hE hD2 => ⟨_, _, rfl, ?_⟩))
    have hr2 : pm_nth N2 r = some (.inr (6, [v1, v2, .ref (last + 59)])) := (hE.2 _ (by omega)).trans h7
    have hl2 : pm_nth N2 last = some (.inr (7, [.int sg0, sm0, .null])) := (hE.2 _ (by omega)).trans h8
    refine Wp.call (u1 := 4) (pm_call_v rfl rfl (show pm_nth (hp _ _ _) (_ + 59) = _ from hr2) rfl rfl) (by omega) (Chain_add2 hr2 hl2 g6 (Nat.le_refl _) (fun N5 k1 k2 k3 k4 k5 => ⟨_, _, rfl, ?_⟩))
    refine Wp.step rfl ?_
    refine Wp.call rfl (Nat.zero_le _) (X_look X M _ hT hqn ⟨_, _, rfl, ?_⟩)
    iterate 2 refine Wp.step rfl ?_
    have hEx : Ext lo Z.2.2 N5 := by
      have := hE.1
      refine ⟨by rw [k1]; show _ ≤ N2.length + 1; omega, fun i hi => ?_⟩
      rw [k5 i (by show i < N2.length; omega) (by omega) (by omega)]
      exact hE.2 i (by omega)
    have hOC : OC (K + 2) lo N5.length r N2.length (fun l => opS c (F0 l) (F1 l)) N5 := by
      rw [show N5.length = N2.length + 1 from k1]
      exact OC.more hO hE.1 hD2 h7 h8 k2 k3 k4 k5 hE.2
    exact (kk N5 _ _ hEx (Or.inr ⟨_, _, rfl, ⟨_, rfl⟩, hOC⟩)).mono (Nat.le_refl _) (by omega)
theorem Xterm_fault {t : Nat → Int32} {n p q e D d u lo K : Nat} {X : pmXs} {M : pmMs} {Z : pmZs} {Q : pmO → Prop} {F0 : (Nat → Int32) → Int32} {s row : Value} {c : Int32} (hA : XflS t n 118 D (lk t n p + 1) e q) (hd : D + 1 ≤ d) (hD : 4 ≤ d) (hq : lk t n p + 1 ≤ q) (hc : c = nI 42 ∨ c = nI 47) (hT : XT X t n) (hu : 12 * (q - lk t n p) + 12 ≤ u) (hlo : lo ≤ Z.2.2.length) (hO : OpenS K lo s row F0 Z.2.2)
    (kk : ∀ N e', Ext lo Z.2.2 N → Q (.inr 2, hp (PX X q e') M (zN Z N))) : Wp d u 116 12 [some (.ref 14), some s, some row, some (.int c)] [] (hp (PX X (lk t n p) e) M Z) Q := by
  suffices h24 : Wp d u 116 24 [some (.ref 14), some s, some row, some (.int c)] [] (hp (PX X (lk t n p) e) M Z) Q by
    rcases hc with rfl | rfl
    · iterate 2 refine Wp.step rfl ?_
      exact Wp.brT rfl rfl h24
    · iterate 2 refine Wp.step rfl ?_
      refine Wp.brF rfl (by decide) ?_
      iterate 2 refine Wp.step rfl ?_
      exact Wp.brF rfl (fun q => q rfl) h24
  obtain ⟨d, rfl⟩ : ∃ d0, d = d0 + 4 := ⟨d - 4, by omega⟩
  iterate 5 refine Wp.step rfl ?_
  refine Wp.putX rfl rfl rfl ?_
  rw [PX_inc]
  rcases hO with ⟨rfl, r0, rfl, hS⟩ | ⟨r, last, rfl, ⟨r0, rfl⟩, hO⟩
  · refine Wp.step rfl ?_
    refine Wp.step rfl ?_
    refine Wp.newZ rfl rfl (by omega) ?_
    iterate 2 refine Wp.step rfl ?_
    refine Wp.call (u1 := 0) rfl (Nat.zero_le _) (Chain_init (s := r0) (a := .null) (b := .null) (c := .null) nth_end ⟨_, _, rfl, ?_⟩)
    iterate 4 refine Wp.step rfl ?_
    have hl1 : (pm_set (Z.2.2 ++ [.inr (6, pm_def 6)]) Z.2.2.length (.inr (6, [.ref (r0 + 59), .null, .null]))).length = Z.2.2.length + 1 := by rw [len_set, len_end]
    refine Wp.callF (u1 := 12 * (q - (lk t n p + 1)) + 12) rfl rfl (by omega) (hA _ _ X M _ _ (by omega) (Nat.le_refl _) hT (fun N2 e' hE => Or.inr ⟨_, _, rfl, kk N2 e' ?_⟩))
    have hE0 : Ext (pm_set (Z.2.2 ++ [.inr (6, pm_def 6)]) Z.2.2.length (.inr (6, [.ref (r0 + 59), .null, .null]))).length (pm_set (Z.2.2 ++ [.inr (6, pm_def 6)]) Z.2.2.length (.inr (6, [.ref (r0 + 59), .null, .null]))) N2 := hE
    rw [hl1] at hE0
    have := hE0.1
    refine ⟨by omega, fun i hi => ?_⟩
    rw [hE0.2 i (by omega), nth_setne (by omega), nth_app (by omega)]
  · refine Wp.step rfl ?_
    iterate 4 refine Wp.step rfl ?_
    refine Wp.callF (u1 := 12 * (q - (lk t n p + 1)) + 12) rfl rfl (by omega) (hA _ _ X M _ _ (by omega) (Nat.le_refl _) hT (fun N2 e' hE => Or.inr ⟨_, _, rfl, kk N2 e' (hE.less hlo)⟩))
theorem Xterm_end {t : Nat → Int32} {n p e d u lo K : Nat} {X : pmXs} {M : pmMs} {Z : pmZs} {Q : pmO → Prop} {F0 : (Nat → Int32) → Int32} {s row : Value} {c : Int32} (h1 : c ≠ nI 42) (h2 : c ≠ nI 47) (hO : OpenS K lo s row F0 Z.2.2) (kk : ∀ r, DenS (K + 2) lo Z.2.2.length r F0 Z.2.2 → Q (.inl (some (.ref (r + 59))), hp (PX X p e) M Z)) : Wp d u 116 12 [some (.ref 14), some s, some row, some (.int c)] [] (hp (PX X p e) M Z) Q := by
  iterate 2 refine Wp.step rfl ?_
  refine Wp.brF rfl h1 ?_
  iterate 2 refine Wp.step rfl ?_
  refine Wp.brT rfl h2 ?_
  rcases hO with ⟨rfl, r0, rfl, hS⟩ | ⟨r, last, rfl, ⟨r0, rfl⟩, hO⟩
  · refine Wp.step rfl ?_
    iterate 3 refine Wp.step rfl ?_
    exact Wp.fin rfl trivial (kk _ (hS.mono (by omega) (Nat.le_refl _) (Nat.le_refl _) hS.2.2.1 (fun _ _ _ => rfl)))
  · refine Wp.step rfl ?_
    iterate 2 refine Wp.step rfl ?_
    exact Wp.fin rfl trivial (kk _ hO.close)
theorem Mterm_step {t : Nat → Int32} {n p q e D d u : Nat} {X : pmXs} {M : pmMs} {Z : pmZs} {Q : pmO → Prop} {F1 : (Nat → Int32) → Int32} {v c : Int32} {l2 l3 l4 : Option Value} (hA : MokS t n 227 D (lk t n p + 1) e q F1) (hd : D + 1 ≤ d) (hD : 4 ≤ d) (hp' : p ≤ n) (hc : c = nI 42 ∨ c = nI 47) (hch : ch t n (lk t n p) = c) (hT : MT M t n)
    (kk : ∀ l2 l3 l4, Wp d u 222 5 [some (.ref 35), some (.int (opS c v (F1 (ma M 39)))), l2, l3, l4] [] (hp X (KM M (nI q) (nI e) (-1)) Z) Q) : Wp d u 222 5 [some (.ref 35), some (.int v), l2, l3, l4] [] (hp X (KM M (nI p) (nI e) (-1)) Z) Q := by
  obtain ⟨d, rfl⟩ : ∃ d0, d = d0 + 4 := ⟨d - 4, by omega⟩
  have hn := lk_n t hp'
  iterate 3 refine Wp.step rfl ?_
  refine Wp.brF rfl (fun q => q rfl) ?_
  refine Wp.step rfl ?_
  refine Wp.call rfl (Nat.zero_le _) (M_look X M Z hT hp' ⟨_, _, rfl, ?_⟩)
  rw [hch]
  refine Wp.step rfl ?_
  rcases hc with rfl | rfl
  · refine Wp.brT rfl rfl ?_
    refine Wp.step rfl ?_
    refine Wp.call rfl (Nat.zero_le _) (M_look X M Z hT hn ⟨_, _, rfl, ?_⟩)
    rw [lk_lk t hp', hch]
    refine Wp.step rfl ?_
    refine Wp.brF rfl (fun q => q rfl) ?_
    iterate 8 refine Wp.step rfl ?_
    refine Wp.putM rfl rfl rfl ?_
    rw [KM_inc]
    refine Wp.step rfl ?_
    refine Wp.call (u1 := 0) rfl (Nat.zero_le _) (hA _ _ X M Z _ (by omega) hT ⟨_, _, rfl, ?_⟩)
    iterate 3 refine Wp.step rfl ?_
    refine Wp.brF rfl (by decide) ?_
    iterate 5 refine Wp.step rfl ?_
    refine Wp.call rfl (Nat.zero_le _) (M_within _ ⟨_, _, rfl, ?_⟩)
    iterate 2 refine Wp.step rfl ?_
    exact kk _ _ _
  · refine Wp.brF rfl (by decide) ?_
    refine Wp.step rfl ?_
    refine Wp.call rfl (Nat.zero_le _) (M_look X M Z hT hn ⟨_, _, rfl, ?_⟩)
    rw [lk_lk t hp', hch]
    refine Wp.step rfl ?_
    refine Wp.brF rfl (fun q => q rfl) ?_
    refine Wp.step rfl ?_
    refine Wp.call rfl (Nat.zero_le _) (M_look X M Z hT hn ⟨_, _, rfl, ?_⟩)
    rw [lk_lk t hp', hch]
    refine Wp.step rfl ?_
    refine Wp.brT rfl (by decide) ?_
    iterate 7 refine Wp.step rfl ?_
    refine Wp.putM rfl rfl rfl ?_
    rw [KM_inc]
    refine Wp.step rfl ?_
    refine Wp.call (u1 := 0) rfl (Nat.zero_le _) (hA _ _ X M Z _ (by omega) hT ⟨_, _, rfl, ?_⟩)
    iterate 3 refine Wp.step rfl ?_
    refine Wp.brT rfl (by decide) ?_
    iterate 2 refine Wp.step rfl ?_
    iterate 1 refine Wp.step rfl ?_
    by_cases hb : (F1 (ma M 39)).toInt64 = 0
    · refine Wp.brF rfl (fun q => q ((lg_cmp_eq _ _).mpr hb)) ?_
      have k9 := fun l2 l3 l4 => kk l2 l3 l4
      rw [show opS (nI 47) v (F1 (ma M 39)) = (clampL 0).toInt32 by unfold opS onL; rw [if_neg (by decide), if_neg (by decide), if_neg (by decide), if_pos hb]] at k9
      iterate 2 refine Wp.step rfl ?_
      refine Wp.call rfl (Nat.zero_le _) (M_within _ ⟨_, _, rfl, ?_⟩)
      iterate 2 refine Wp.step rfl ?_
      exact k9 _ _ _
    · refine Wp.brT rfl (fun q => hb ((lg_cmp_eq _ _).mp q)) ?_
      have k9 := fun l2 l3 l4 => kk l2 l3 l4
      rw [show opS (nI 47) v (F1 (ma M 39)) = (clampL (v.toInt64 / (F1 (ma M 39)).toInt64)).toInt32 by unfold opS onL; rw [if_neg (by decide), if_neg (by decide), if_neg (by decide), if_neg hb]] at k9
      iterate 3 refine Wp.step rfl ?_
      refine Wp.stepP rfl hb ?_
      refine Wp.call rfl (Nat.zero_le _) (M_within _ ⟨_, _, rfl, ?_⟩)
      iterate 2 refine Wp.step rfl ?_
      exact k9 _ _ _
theorem Mterm_fault {t : Nat → Int32} {n p q e D d u : Nat} {X : pmXs} {M : pmMs} {Z : pmZs} {Q : pmO → Prop} {v c : Int32} {l2 l3 l4 : Option Value} (hA : MflS t n 227 D (lk t n p + 1) e q) (hd : D + 1 ≤ d) (hD : 4 ≤ d) (hp' : p ≤ n) (hqn : q ≤ n) (hc : c = nI 42 ∨ c = nI 47) (hch : ch t n (lk t n p) = c) (hT : MT M t n)
    (kk : ∀ v a e', Q (.inl (some (.int v)), hp X (KM M a e' (nI q)) Z)) : Wp d u 222 5 [some (.ref 35), some (.int v), l2, l3, l4] [] (hp X (KM M (nI p) (nI e) (-1)) Z) Q := by
  obtain ⟨d, rfl⟩ : ∃ d0, d = d0 + 4 := ⟨d - 4, by omega⟩
  have hn := lk_n t hp'
  have h240 := MT_le hT
  have fin : ∀ (v : Int32) (a e' : Int32) (l2 l3 l4 : Option Value), Wp (d + 4) u 222 5 [some (.ref 35), some (.int v), l2, l3, l4] [] (hp X (KM M a e' (nI q)) Z) Q := by
    intro v a e' l2 l3 l4
    iterate 3 refine Wp.step rfl ?_
    refine Wp.brT rfl (nI_m1 (by omega)) ?_
    refine Wp.step rfl ?_
    exact Wp.fin rfl rfl (kk _ _ _)
  iterate 3 refine Wp.step rfl ?_
  refine Wp.brF rfl (fun q => q rfl) ?_
  refine Wp.step rfl ?_
  refine Wp.call rfl (Nat.zero_le _) (M_look X M Z hT hp' ⟨_, _, rfl, ?_⟩)
  rw [hch]
  refine Wp.step rfl ?_
  rcases hc with rfl | rfl
  · refine Wp.brT rfl rfl ?_
    refine Wp.step rfl ?_
    refine Wp.call rfl (Nat.zero_le _) (M_look X M Z hT hn ⟨_, _, rfl, ?_⟩)
    rw [lk_lk t hp', hch]
    refine Wp.step rfl ?_
    refine Wp.brF rfl (fun q => q rfl) ?_
    iterate 8 refine Wp.step rfl ?_
    refine Wp.putM rfl rfl rfl ?_
    rw [KM_inc]
    refine Wp.step rfl ?_
    refine Wp.call (u1 := 0) rfl (Nat.zero_le _) (hA _ _ X M Z _ (by omega) hT (fun w a e' => ⟨_, _, rfl, ?_⟩))
    iterate 3 refine Wp.step rfl ?_
    refine Wp.brF rfl (by decide) ?_
    iterate 5 refine Wp.step rfl ?_
    refine Wp.call rfl (Nat.zero_le _) (M_within _ ⟨_, _, rfl, ?_⟩)
    iterate 2 refine Wp.step rfl ?_
    exact fin _ _ _ _ _ _
  · refine Wp.brF rfl (by decide) ?_
    refine Wp.step rfl ?_
    refine Wp.call rfl (Nat.zero_le _) (M_look X M Z hT hn ⟨_, _, rfl, ?_⟩)
    rw [lk_lk t hp', hch]
    refine Wp.step rfl ?_
    refine Wp.brF rfl (fun q => q rfl) ?_
    refine Wp.step rfl ?_
    refine Wp.call rfl (Nat.zero_le _) (M_look X M Z hT hn ⟨_, _, rfl, ?_⟩)
    rw [lk_lk t hp', hch]
    refine Wp.step rfl ?_
    refine Wp.brT rfl (by decide) ?_
    iterate 7 refine Wp.step rfl ?_
    refine Wp.putM rfl rfl rfl ?_
    rw [KM_inc]
    refine Wp.step rfl ?_
    refine Wp.call (u1 := 0) rfl (Nat.zero_le _) (hA _ _ X M Z _ (by omega) hT (fun w a e' => ⟨_, _, rfl, ?_⟩))
    iterate 3 refine Wp.step rfl ?_
    refine Wp.brT rfl (by decide) ?_
    iterate 3 refine Wp.step rfl ?_
    by_cases hb : w.toInt64 = 0
    · refine Wp.brF rfl (fun q => q ((lg_cmp_eq _ _).mpr hb)) ?_
      iterate 2 refine Wp.step rfl ?_
      refine Wp.call rfl (Nat.zero_le _) (M_within _ ⟨_, _, rfl, ?_⟩)
      iterate 2 refine Wp.step rfl ?_
      exact fin _ _ _ _ _ _
    · refine Wp.brT rfl (fun q => hb ((lg_cmp_eq _ _).mp q)) ?_
      iterate 3 refine Wp.step rfl ?_
      refine Wp.stepP rfl hb ?_
      refine Wp.call rfl (Nat.zero_le _) (M_within _ ⟨_, _, rfl, ?_⟩)
      iterate 2 refine Wp.step rfl ?_
      exact fin _ _ _ _ _ _
theorem Mterm_end {t : Nat → Int32} {n p e d u : Nat} {X : pmXs} {M : pmMs} {Z : pmZs} {Q : pmO → Prop} {v : Int32} {l2 l3 l4 : Option Value} (hD : 4 ≤ d) (hp' : p ≤ n) (h1 : ch t n (lk t n p) ≠ nI 42) (h2 : ch t n (lk t n p) ≠ nI 47) (hT : MT M t n) (kk : Q (.inl (some (.int v)), hp X (KM M (nI (lk t n p)) (nI e) (-1)) Z)) : Wp d u 222 5 [some (.ref 35), some (.int v), l2, l3, l4] [] (hp X (KM M (nI p) (nI e) (-1)) Z) Q := by
  obtain ⟨d, rfl⟩ : ∃ d0, d = d0 + 4 := ⟨d - 4, by omega⟩
  have hn := lk_n t hp'
  iterate 3 refine Wp.step rfl ?_
  refine Wp.brF rfl (fun q => q rfl) ?_
  refine Wp.step rfl ?_
  refine Wp.call rfl (Nat.zero_le _) (M_look X M Z hT hp' ⟨_, _, rfl, ?_⟩)
  refine Wp.step rfl ?_
  refine Wp.brF rfl h1 ?_
  refine Wp.step rfl ?_
  refine Wp.call rfl (Nat.zero_le _) (M_look X M Z hT hn ⟨_, _, rfl, ?_⟩)
  rw [lk_lk t hp']
  refine Wp.step rfl ?_
  refine Wp.brT rfl h2 ?_
  refine Wp.step rfl ?_
  exact Wp.fin rfl rfl kk
/-- the loop's package -/
theorem termLoop_pk {t : Nat → Int32} {n e D K D' : Nat} (hA : ∀ p, p ≤ n → PS t n 118 227 D K p e) (hD : D + 1 ≤ D') (h4 : 4 ≤ D') : ∀ m p, n - p ≤ m → p ≤ n →
    (∃ (q : Nat) (T : (Nat → Int32) → Int32 → Int32), lk t n p ≤ q ∧ q ≤ n ∧
      (∀ (d u : Nat) (X : pmXs) (M : pmMs) (Z : pmZs) (Q : pmO → Prop) (lo : Nat) (s row : Value) (F0 : (Nat → Int32) → Int32), D' ≤ d → 12 * (q - lk t n p) ≤ u → XT X t n → lo ≤ Z.2.2.length → OpenS K lo s row F0 Z.2.2 → (∀ N r, Ext lo Z.2.2 N → DenS (K + 2) lo N.length r (fun l => T l (F0 l)) N → Q (.inl (some (.ref (r + 59))), hp (PX X q e) M (zN Z N))) → Wp d u 116 12 [some (.ref 14), some s, some row, some (.int (ch t n (lk t n p)))] [] (hp (PX X (lk t n p) e) M Z) Q) ∧
      (∀ (d u : Nat) (X : pmXs) (M : pmMs) (Z : pmZs) (Q : pmO → Prop) (v : Int32) (l2 l3 l4 : Option Value), D' ≤ d → MT M t n → Q (.inl (some (.int (T (ma M 39) v))), hp X (KM M (nI q) (nI e) (-1)) Z) → Wp d u 222 5 [some (.ref 35), some (.int v), l2, l3, l4] [] (hp X (KM M (nI p) (nI e) (-1)) Z) Q)) ∨
    (∃ q, lk t n p ≤ q ∧ q ≤ n ∧
      (∀ (d u : Nat) (X : pmXs) (M : pmMs) (Z : pmZs) (Q : pmO → Prop) (lo : Nat) (s row : Value) (F0 : (Nat → Int32) → Int32), D' ≤ d → 12 * (q - lk t n p) + 12 ≤ u → XT X t n → lo ≤ Z.2.2.length → OpenS K lo s row F0 Z.2.2 → (∀ N e', Ext lo Z.2.2 N → Q (.inr 2, hp (PX X q e') M (zN Z N))) → Wp d u 116 12 [some (.ref 14), some s, some row, some (.int (ch t n (lk t n p)))] [] (hp (PX X (lk t n p) e) M Z) Q) ∧
      (∀ (d u : Nat) (X : pmXs) (M : pmMs) (Z : pmZs) (Q : pmO → Prop) (v : Int32) (l2 l3 l4 : Option Value), D' ≤ d → MT M t n → (∀ v a e', Q (.inl (some (.int v)), hp X (KM M a e' (nI q)) Z)) → Wp d u 222 5 [some (.ref 35), some (.int v), l2, l3, l4] [] (hp X (KM M (nI p) (nI e) (-1)) Z) Q)) := by
  intro m
  induction m with
  | zero =>
    intro p hm hp'
    obtain rfl : p = n := by omega
    have e1 : lk t p p = p := lk_stop (by omega)
    have e2 : ch t p p = -1 := if_neg (by omega)
    refine Or.inl ⟨p, fun _ v => v, by omega, by omega, ?_, ?_⟩
    · intro d u X M Z Q lo s row F0 hd hu hT hlo hO kk
      rw [e1, e2]
      exact Xterm_end (t := t) (n := p) (by decide) (by decide) hO (fun r a => kk Z.2.2 r (Ext.refl _ _) a)
    · intro d u X M Z Q v l2 l3 l4 hd hT kk
      refine Mterm_end (by omega) hp' (by rw [e1, e2]; decide) (by rw [e1, e2]; decide) hT ?_
      rw [e1]
      exact kk
  | succ m ih =>
    intro p hm hp'
    have hge := lk_ge t hp'
    have hn := lk_n t hp'
    by_cases hc : ch t n (lk t n p) = nI 42 ∨ ch t n (lk t n p) = nI 47
    · have hlt : lk t n p < n := ch_lt (by rcases hc with h | h <;> rw [h] <;> decide)
      rcases hA (lk t n p + 1) (by omega) with ⟨q1, F1, a1, a2, aX, aM⟩ | ⟨q1, a1, a2, aX, aM⟩
      · have hq1 := lk_ge t a2
        rcases ih q1 (by omega) a2 with ⟨q, T, b1, b2, bX, bM⟩ | ⟨q, b1, b2, bX, bM⟩
        · refine Or.inl ⟨q, fun l v => T l (opS (ch t n (lk t n p)) v (F1 l)), by omega, b2, ?_, ?_⟩
          · intro d u X M Z Q lo s row F0 hd hu hT hlo hO kk
            refine Xterm_step aX (by omega) (by omega) a1 a2 hc hT (by omega) hlo hO (fun N s row hE hO' => ?_)
            exact bX d _ X M (zN Z N) Q lo s row _ hd (by omega) hT (Nat.le_trans hlo hE.1) hO' (fun N' r hE' hD' => kk N' r (hE.trans hE') hD')
          · intro d u X M Z Q v l2 l3 l4 hd hT kk
            exact Mterm_step aM (by omega) (by omega) hp' hc rfl hT (fun l2 l3 l4 => bM d u X M Z Q _ l2 l3 l4 hd hT kk)
        · refine Or.inr ⟨q, by omega, b2, ?_, ?_⟩
          · intro d u X M Z Q lo s row F0 hd hu hT hlo hO kk
            refine Xterm_step aX (by omega) (by omega) a1 a2 hc hT (by omega) hlo hO (fun N s row hE hO' => ?_)
            exact bX d _ X M (zN Z N) Q lo s row _ hd (by omega) hT (Nat.le_trans hlo hE.1) hO' (fun N' e' hE' => kk N' e' (hE.trans hE'))
          · intro d u X M Z Q v l2 l3 l4 hd hT kk
            exact Mterm_step aM (by omega) (by omega) hp' hc rfl hT (fun l2 l3 l4 => bM d u X M Z Q _ l2 l3 l4 hd hT kk)
      · refine Or.inr ⟨q1, by omega, a2, ?_, ?_⟩
        · intro d u X M Z Q lo s row F0 hd hu hT hlo hO kk
          exact Xterm_fault aX (by omega) (by omega) a1 hc hT (by omega) hlo hO kk
        · intro d u X M Z Q v l2 l3 l4 hd hT kk
          exact Mterm_fault aM (by omega) (by omega) hp' a2 hc rfl hT kk
    · refine Or.inl ⟨lk t n p, fun _ v => v, Nat.le_refl _, hn, ?_, ?_⟩
      · intro d u X M Z Q lo s row F0 hd hu hT hlo hO kk
        exact Xterm_end (t := t) (n := n) (fun q => hc (Or.inl q)) (fun q => hc (Or.inr q)) hO (fun r a => kk Z.2.2 r (Ext.refl _ _) a)
      · intro d u X M Z Q v l2 l3 l4 hd hT kk
        exact Mterm_end (by omega) hp' (fun q => hc (Or.inl q)) (fun q => hc (Or.inr q)) hT kk
/-- 116's package -/
theorem term_pk {t : Nat → Int32} {n p e D K D' : Nat} (hA : ∀ p, p ≤ n → PS t n 118 227 D K p e) (hD : D + 1 ≤ D') (h4 : 4 ≤ D') (hp' : p ≤ n) : PS t n 116 222 D' (K + 2) p e := by
  rcases hA p hp' with ⟨q1, F1, a1, a2, aX, aM⟩ | ⟨q1, a1, a2, aX, aM⟩
  · have hq1 := lk_ge t a2
    rcases termLoop_pk hA hD h4 (n - q1) q1 (Nat.le_refl _) a2 with ⟨q, T, b1, b2, bX, bM⟩ | ⟨q, b1, b2, bX, bM⟩
    · refine Or.inl ⟨q, fun l => T l (F1 l), by omega, b2, ?_, ?_⟩
      · intro d u X M Z Q hd hu hT hQ
        have hd' := hd
        obtain ⟨d, rfl⟩ : ∃ d0, d = d0 + 4 := ⟨d - 4, by omega⟩
        refine Wp.step rfl ?_
        refine Wp.call (u1 := 12 * (q1 - p)) rfl (by omega) (aX _ _ X M Z _ (by omega) (Nat.le_refl _) hT (fun N r a b => ⟨_, _, rfl, ?_⟩))
        iterate 4 refine Wp.step rfl ?_
        refine Wp.call rfl (Nat.zero_le _) (X_look X M _ hT a2 ⟨_, _, rfl, ?_⟩)
        refine Wp.step rfl ?_
        exact bX _ _ X M (zN Z N) Q Z.2.2.length _ _ F1 hd' (by omega) hT a.1 (Or.inl ⟨rfl, r, rfl, b⟩) (fun N' r' a' b' => hQ N' r' (a.trans a') b')
      · intro d u X M Z Q hd hT hQ
        have hd' := hd
        obtain ⟨d, rfl⟩ : ∃ d0, d = d0 + 4 := ⟨d - 4, by omega⟩
        refine Wp.step rfl ?_
        refine Wp.call (u1 := 0) rfl (Nat.zero_le _) (aM _ _ X M Z _ (by omega) hT ⟨_, _, rfl, ?_⟩)
        refine Wp.step rfl ?_
        exact bM _ _ X M Z Q _ _ _ _ hd' hT hQ
    · refine Or.inr ⟨q, by omega, b2, ?_, ?_⟩
      · intro d u X M Z Q hd hu hT hQ
        have hd' := hd
        obtain ⟨d, rfl⟩ : ∃ d0, d = d0 + 4 := ⟨d - 4, by omega⟩
        refine Wp.step rfl ?_
        refine Wp.call (u1 := 12 * (q1 - p)) rfl (by omega) (aX _ _ X M Z _ (by omega) (Nat.le_refl _) hT (fun N r a b => ⟨_, _, rfl, ?_⟩))
        iterate 4 refine Wp.step rfl ?_
        refine Wp.call rfl (Nat.zero_le _) (X_look X M _ hT a2 ⟨_, _, rfl, ?_⟩)
        refine Wp.step rfl ?_
        exact bX _ _ X M (zN Z N) Q Z.2.2.length _ _ F1 hd' (by omega) hT a.1 (Or.inl ⟨rfl, r, rfl, b⟩) (fun N' e' a' => hQ N' e' (a.trans a'))
      · intro d u X M Z Q hd hT hQ
        have hd' := hd
        obtain ⟨d, rfl⟩ : ∃ d0, d = d0 + 4 := ⟨d - 4, by omega⟩
        refine Wp.step rfl ?_
        refine Wp.call (u1 := 0) rfl (Nat.zero_le _) (aM _ _ X M Z _ (by omega) hT ⟨_, _, rfl, ?_⟩)
        refine Wp.step rfl ?_
        exact bM _ _ X M Z Q _ _ _ _ hd' hT hQ
  · refine Or.inr ⟨q1, a1, a2, ?_, ?_⟩
    · intro d u X M Z Q hd hu hT hQ
      obtain ⟨d, rfl⟩ : ∃ d0, d = d0 + 4 := ⟨d - 4, by omega⟩
      refine Wp.step rfl ?_
      refine Wp.callF (u1 := u) rfl rfl (Nat.le_refl _) (aX _ _ X M Z _ (by omega) hu hT (fun N e' a => Or.inr ⟨_, _, rfl, hQ N e' a⟩))
    · intro d u X M Z Q hd hT hQ
      have h240 := MT_le hT
      obtain ⟨d, rfl⟩ : ∃ d0, d = d0 + 4 := ⟨d - 4, by omega⟩
      refine Wp.step rfl ?_
      refine Wp.call (u1 := 0) rfl (Nat.zero_le _) (aM _ _ X M Z _ (by omega) hT (fun w a e' => ⟨_, _, rfl, ?_⟩))
      iterate 4 refine Wp.step rfl ?_
      refine Wp.brT rfl (nI_m1 (by omega)) ?_
      refine Wp.step rfl ?_
      exact Wp.fin rfl rfl (hQ _ _ _)
/-! LOOP of 108 and its like in M -/
theorem Xsum_step {t : Nat → Int32} {n p q e D K d u lo : Nat} {X : pmXs} {M : pmMs} {Z : pmZs} {Q : pmO → Prop} {F0 F1 : (Nat → Int32) → Int32} {s row : Value} {c : Int32} (hA : XokS t n 116 D K (lk t n p + 1) e q F1) (hd : D + 1 ≤ d) (hD : 4 ≤ d) (hq : lk t n p + 1 < q) (hqn : q ≤ n) (hc : c = nI 43 ∨ c = nI 45) (hT : XT X t n) (hu : 12 * (q - lk t n p) ≤ u) (hlo : lo ≤ Z.2.2.length) (hO : OpenS K lo s row F0 Z.2.2)
    (kk : ∀ N s row, Ext lo Z.2.2 N → OpenS K lo s row (fun l => opS c (F0 l) (F1 l)) N → Wp d (u - 12 * (q - lk t n p)) 108 12 [some (.ref 14), some s, some row, some (.int (ch t n (lk t n q)))] [] (hp (PX X (lk t n q) e) M (zN Z N)) Q) : Wp d u 108 12 [some (.ref 14), some s, some row, some (.int c)] [] (hp (PX X (lk t n p) e) M Z) Q := by
  suffices h24 : Wp d u 108 24 [some (.ref 14), some s, some row, some (.int c)] [] (hp (PX X (lk t n p) e) M Z) Q by
    rcases hc with rfl | rfl
    · iterate 2 refine Wp.step rfl ?_
      exact Wp.brT rfl rfl h24
    · iterate 2 refine Wp.step rfl ?_
      refine Wp.brF rfl (by decide) ?_
      iterate 2 refine Wp.step rfl ?_
      exact Wp.brF rfl (fun q => q rfl) h24
  obtain ⟨d, rfl⟩ : ∃ d0, d = d0 + 4 := ⟨d - 4, by omega⟩
  iterate 5 refine Wp.step rfl ?_
  refine Wp.putX rfl rfl rfl ?_
  rw [PX_inc]
  rcases hO with ⟨rfl, r0, rfl, hS⟩ | ⟨r, last, rfl, ⟨r0, rfl⟩, hO⟩
  · refine Wp.step rfl ?_
    refine Wp.step rfl ?_
    refine Wp.newZ rfl rfl (by omega) ?_
    iterate 2 refine Wp.step rfl ?_
    refine Wp.call (u1 := 0) rfl (Nat.zero_le _) (Chain_init (s := r0) (a := .null) (b := .null) (c := .null) nth_end ⟨_, _, rfl, ?_⟩)
    iterate 4 refine Wp.step rfl ?_
    have hl1 : (pm_set (Z.2.2 ++ [.inr (6, pm_def 6)]) Z.2.2.length (.inr (6, [.ref (r0 + 59), .null, .null]))).length = Z.2.2.length + 1 := by rw [len_set, len_end]
    have hr1 : pm_nth (pm_set (Z.2.2 ++ [.inr (6, pm_def 6)]) Z.2.2.length (.inr (6, [.ref (r0 + 59), .null, .null]))) Z.2.2.length = some (.inr (6, [.ref (r0 + 59), .null, .null])) := nth_set (by rw [len_end]; omega)
    refine Wp.call (u1 := 12 * (q - (lk t n p + 1))) rfl (by omega) (hA _ _ X M _ _ (by omega) (Nat.le_refl _) hT (fun N2 r2 hE hD2 => ⟨_, _, rfl, ?_⟩))
    have hE0 : Ext (pm_set (Z.2.2 ++ [.inr (6, pm_def 6)]) Z.2.2.length (.inr (6, [.ref (r0 + 59), .null, .null]))).length (pm_set (Z.2.2 ++ [.inr (6, pm_def 6)]) Z.2.2.length (.inr (6, [.ref (r0 + 59), .null, .null]))) N2 := hE
    rw [hl1] at hE0
    have hE' : ∀ i, i < Z.2.2.length + 1 → pm_nth N2 i = pm_nth (pm_set (Z.2.2 ++ [.inr (6, pm_def 6)]) Z.2.2.length (.inr (6, [.ref (r0 + 59), .null, .null]))) i := hE0.2
    have hr2 : pm_nth N2 Z.2.2.length = some (.inr (6, [.ref (r0 + 59), .null, .null])) := (hE' _ (by omega)).trans hr1
    have hD3 : DenS K (Z.2.2.length + 1) N2.length r2 F1 N2 := hl1 ▸ hD2
    refine Wp.call (u1 := 4) (pm_call_v rfl rfl (show pm_nth (hp _ _ _) (_ + 59) = _ from hr2) rfl rfl) (by omega) (Chain_add1 hr2 (Nat.le_refl _) (fun N5 g1 g2 g3 g4 => ⟨_, _, rfl, ?_⟩))
    refine Wp.step rfl ?_
    refine Wp.call rfl (Nat.zero_le _) (X_look X M _ hT hqn ⟨_, _, rfl, ?_⟩)
    iterate 2 refine Wp.step rfl ?_
    have hEx : Ext lo Z.2.2 N5 := by
      have := hE0.1
      refine ⟨by rw [g1]; show _ ≤ N2.length + 1; omega, fun i hi => ?_⟩
      rw [g4 i (by show i < N2.length; omega) (by omega)]
      show pm_nth N2 i = _
      rw [hE' i (by omega), nth_setne (by omega), nth_app (by omega)]
    have hOC : OC (K + 2) lo N5.length Z.2.2.length N2.length (fun l => opS c (F0 l) (F1 l)) N5 := by
      rw [show N5.length = N2.length + 1 from g1]
      exact OC.first hS (Nat.le_refl _) hD3 hlo g2 g3 g4 (fun i hi => by rw [hE' i (by omega), nth_setne (by omega), nth_app hi])
    exact (kk N5 _ _ hEx (Or.inr ⟨_, _, rfl, ⟨_, rfl⟩, hOC⟩)).mono (Nat.le_refl _) (by omega)
  · refine Wp.step rfl ?_
    have hO' := hO
    obtain ⟨g1, g2, g3, g4, g5, g6, v1, v2, sg0, sm0, h7, h8, -⟩ := hO'
    iterate 4 refine Wp.step rfl ?_
    refine Wp.call (u1 := 12 * (q - (lk t n p + 1))) rfl (by omega) (hA _ _ X M _ _ (by omega) (Nat.le_refl _) hT (fun N2 r2 hE hD2 => ⟨_, _, rfl, ?_⟩))
    have hr2 : pm_nth N2 r = some (.inr (6, [v1, v2, .ref (last + 59)])) := (hE.2 _ (by omega)).trans h7
    have hl2 : pm_nth N2 last = some (.inr (7, [.int sg0, sm0, .null])) := (hE.2 _ (by omega)).trans h8
    refine Wp.call (u1 := 4) (pm_call_v rfl rfl (show pm_nth (hp _ _ _) (_ + 59) = _ from hr2) rfl rfl) (by omega) (Chain_add2 hr2 hl2 g6 (Nat.le_refl _) (fun N5 k1 k2 k3 k4 k5 => ⟨_, _, rfl, ?_⟩))
    refine Wp.step rfl ?_
    refine Wp.call rfl (Nat.zero_le _) (X_look X M _ hT hqn ⟨_, _, rfl, ?_⟩)
    iterate 2 refine Wp.step rfl ?_
    have hEx : Ext lo Z.2.2 N5 := by
      have := hE.1
      refine ⟨by rw [k1]; show _ ≤ N2.length + 1; omega, fun i hi => ?_⟩
      rw [k5 i (by show i < N2.length; omega) (by omega) (by omega)]
      exact hE.2 i (by omega)
    have hOC : OC (K + 2) lo N5.length r N2.length (fun l => opS c (F0 l) (F1 l)) N5 := by
      rw [show N5.length = N2.length + 1 from k1]
      exact OC.more hO hE.1 hD2 h7 h8 k2 k3 k4 k5 hE.2
    exact (kk N5 _ _ hEx (Or.inr ⟨_, _, rfl, ⟨_, rfl⟩, hOC⟩)).mono (Nat.le_refl _) (by omega)
theorem Xsum_fault {t : Nat → Int32} {n p q e D d u lo K : Nat} {X : pmXs} {M : pmMs} {Z : pmZs} {Q : pmO → Prop} {F0 : (Nat → Int32) → Int32} {s row : Value} {c : Int32} (hA : XflS t n 116 D (lk t n p + 1) e q) (hd : D + 1 ≤ d) (hD : 4 ≤ d) (hq : lk t n p + 1 ≤ q) (hc : c = nI 43 ∨ c = nI 45) (hT : XT X t n) (hu : 12 * (q - lk t n p) + 12 ≤ u) (hlo : lo ≤ Z.2.2.length) (hO : OpenS K lo s row F0 Z.2.2)
    (kk : ∀ N e', Ext lo Z.2.2 N → Q (.inr 2, hp (PX X q e') M (zN Z N))) : Wp d u 108 12 [some (.ref 14), some s, some row, some (.int c)] [] (hp (PX X (lk t n p) e) M Z) Q := by
  suffices h24 : Wp d u 108 24 [some (.ref 14), some s, some row, some (.int c)] [] (hp (PX X (lk t n p) e) M Z) Q by
    rcases hc with rfl | rfl
    · iterate 2 refine Wp.step rfl ?_
      exact Wp.brT rfl rfl h24
    · iterate 2 refine Wp.step rfl ?_
      refine Wp.brF rfl (by decide) ?_
      iterate 2 refine Wp.step rfl ?_
      exact Wp.brF rfl (fun q => q rfl) h24
  obtain ⟨d, rfl⟩ : ∃ d0, d = d0 + 4 := ⟨d - 4, by omega⟩
  iterate 5 refine Wp.step rfl ?_
  refine Wp.putX rfl rfl rfl ?_
  rw [PX_inc]
  rcases hO with ⟨rfl, r0, rfl, hS⟩ | ⟨r, last, rfl, ⟨r0, rfl⟩, hO⟩
  · refine Wp.step rfl ?_
    refine Wp.step rfl ?_
    refine Wp.newZ rfl rfl (by omega) ?_
    iterate 2 refine Wp.step rfl ?_
    refine Wp.call (u1 := 0) rfl (Nat.zero_le _) (Chain_init (s := r0) (a := .null) (b := .null) (c := .null) nth_end ⟨_, _, rfl, ?_⟩)
    iterate 4 refine Wp.step rfl ?_
    have hl1 : (pm_set (Z.2.2 ++ [.inr (6, pm_def 6)]) Z.2.2.length (.inr (6, [.ref (r0 + 59), .null, .null]))).length = Z.2.2.length + 1 := by rw [len_set, len_end]
    refine Wp.callF (u1 := 12 * (q - (lk t n p + 1)) + 12) rfl rfl (by omega) (hA _ _ X M _ _ (by omega) (Nat.le_refl _) hT (fun N2 e' hE => Or.inr ⟨_, _, rfl, kk N2 e' ?_⟩))
    have hE0 : Ext (pm_set (Z.2.2 ++ [.inr (6, pm_def 6)]) Z.2.2.length (.inr (6, [.ref (r0 + 59), .null, .null]))).length (pm_set (Z.2.2 ++ [.inr (6, pm_def 6)]) Z.2.2.length (.inr (6, [.ref (r0 + 59), .null, .null]))) N2 := hE
    rw [hl1] at hE0
    have := hE0.1
    refine ⟨by omega, fun i hi => ?_⟩
    rw [hE0.2 i (by omega), nth_setne (by omega), nth_app (by omega)]
  · refine Wp.step rfl ?_
    iterate 4 refine Wp.step rfl ?_
    refine Wp.callF (u1 := 12 * (q - (lk t n p + 1)) + 12) rfl rfl (by omega) (hA _ _ X M _ _ (by omega) (Nat.le_refl _) hT (fun N2 e' hE => Or.inr ⟨_, _, rfl, kk N2 e' (hE.less hlo)⟩))
theorem Xsum_end {t : Nat → Int32} {n p e d u lo K : Nat} {X : pmXs} {M : pmMs} {Z : pmZs} {Q : pmO → Prop} {F0 : (Nat → Int32) → Int32} {s row : Value} {c : Int32} (h1 : c ≠ nI 43) (h2 : c ≠ nI 45) (hO : OpenS K lo s row F0 Z.2.2) (kk : ∀ r, DenS (K + 2) lo Z.2.2.length r F0 Z.2.2 → Q (.inl (some (.ref (r + 59))), hp (PX X p e) M Z)) : Wp d u 108 12 [some (.ref 14), some s, some row, some (.int c)] [] (hp (PX X p e) M Z) Q := by
  iterate 2 refine Wp.step rfl ?_
  refine Wp.brF rfl h1 ?_
  iterate 2 refine Wp.step rfl ?_
  refine Wp.brT rfl h2 ?_
  rcases hO with ⟨rfl, r0, rfl, hS⟩ | ⟨r, last, rfl, ⟨r0, rfl⟩, hO⟩
  · refine Wp.step rfl ?_
    iterate 3 refine Wp.step rfl ?_
    exact Wp.fin rfl trivial (kk _ (hS.mono (by omega) (Nat.le_refl _) (Nat.le_refl _) hS.2.2.1 (fun _ _ _ => rfl)))
  · refine Wp.step rfl ?_
    iterate 2 refine Wp.step rfl ?_
    exact Wp.fin rfl trivial (kk _ hO.close)
theorem Msum_step {t : Nat → Int32} {n p q e D d u : Nat} {X : pmXs} {M : pmMs} {Z : pmZs} {Q : pmO → Prop} {F1 : (Nat → Int32) → Int32} {v c : Int32} {l2 l3 l4 : Option Value} (hA : MokS t n 222 D (lk t n p + 1) e q F1) (hd : D + 1 ≤ d) (hD : 4 ≤ d) (hp' : p ≤ n) (hc : c = nI 43 ∨ c = nI 45) (hch : ch t n (lk t n p) = c) (hT : MT M t n)
    (kk : ∀ l2 l3 l4, Wp d u 215 5 [some (.ref 35), some (.int (opS c v (F1 (ma M 39)))), l2, l3, l4] [] (hp X (KM M (nI q) (nI e) (-1)) Z) Q) : Wp d u 215 5 [some (.ref 35), some (.int v), l2, l3, l4] [] (hp X (KM M (nI p) (nI e) (-1)) Z) Q := by
  obtain ⟨d, rfl⟩ : ∃ d0, d = d0 + 4 := ⟨d - 4, by omega⟩
  have hn := lk_n t hp'
  iterate 3 refine Wp.step rfl ?_
  refine Wp.brF rfl (fun q => q rfl) ?_
  refine Wp.step rfl ?_
  refine Wp.call rfl (Nat.zero_le _) (M_look X M Z hT hp' ⟨_, _, rfl, ?_⟩)
  rw [hch]
  refine Wp.step rfl ?_
  rcases hc with rfl | rfl
  · refine Wp.brT rfl rfl ?_
    refine Wp.step rfl ?_
    refine Wp.call rfl (Nat.zero_le _) (M_look X M Z hT hn ⟨_, _, rfl, ?_⟩)
    rw [lk_lk t hp', hch]
    refine Wp.step rfl ?_
    refine Wp.brF rfl (fun q => q rfl) ?_
    iterate 8 refine Wp.step rfl ?_
    refine Wp.putM rfl rfl rfl ?_
    rw [KM_inc]
    refine Wp.step rfl ?_
    refine Wp.call (u1 := 0) rfl (Nat.zero_le _) (hA _ _ X M Z _ (by omega) hT ⟨_, _, rfl, ?_⟩)
    iterate 3 refine Wp.step rfl ?_
    refine Wp.brF rfl (by decide) ?_
    iterate 5 refine Wp.step rfl ?_
    refine Wp.call rfl (Nat.zero_le _) (M_within _ ⟨_, _, rfl, ?_⟩)
    iterate 2 refine Wp.step rfl ?_
    exact kk _ _ _
  · refine Wp.brF rfl (by decide) ?_
    refine Wp.step rfl ?_
    refine Wp.call rfl (Nat.zero_le _) (M_look X M Z hT hn ⟨_, _, rfl, ?_⟩)
    rw [lk_lk t hp', hch]
    refine Wp.step rfl ?_
    refine Wp.brF rfl (fun q => q rfl) ?_
    refine Wp.step rfl ?_
    refine Wp.call rfl (Nat.zero_le _) (M_look X M Z hT hn ⟨_, _, rfl, ?_⟩)
    rw [lk_lk t hp', hch]
    refine Wp.step rfl ?_
    refine Wp.brT rfl (by decide) ?_
    iterate 7 refine Wp.step rfl ?_
    refine Wp.putM rfl rfl rfl ?_
    rw [KM_inc]
    refine Wp.step rfl ?_
    refine Wp.call (u1 := 0) rfl (Nat.zero_le _) (hA _ _ X M Z _ (by omega) hT ⟨_, _, rfl, ?_⟩)
    iterate 3 refine Wp.step rfl ?_
    refine Wp.brT rfl (by decide) ?_
    iterate 4 refine Wp.step rfl ?_
    refine Wp.call rfl (Nat.zero_le _) (M_within _ ⟨_, _, rfl, ?_⟩)
    iterate 2 refine Wp.step rfl ?_
    exact kk _ _ _
theorem Msum_fault {t : Nat → Int32} {n p q e D d u : Nat} {X : pmXs} {M : pmMs} {Z : pmZs} {Q : pmO → Prop} {v c : Int32} {l2 l3 l4 : Option Value} (hA : MflS t n 222 D (lk t n p + 1) e q) (hd : D + 1 ≤ d) (hD : 4 ≤ d) (hp' : p ≤ n) (hqn : q ≤ n) (hc : c = nI 43 ∨ c = nI 45) (hch : ch t n (lk t n p) = c) (hT : MT M t n)
    (kk : ∀ v a e', Q (.inl (some (.int v)), hp X (KM M a e' (nI q)) Z)) : Wp d u 215 5 [some (.ref 35), some (.int v), l2, l3, l4] [] (hp X (KM M (nI p) (nI e) (-1)) Z) Q := by
  obtain ⟨d, rfl⟩ : ∃ d0, d = d0 + 4 := ⟨d - 4, by omega⟩
  have hn := lk_n t hp'
  have h240 := MT_le hT
  have fin : ∀ (v : Int32) (a e' : Int32) (l2 l3 l4 : Option Value), Wp (d + 4) u 215 5 [some (.ref 35), some (.int v), l2, l3, l4] [] (hp X (KM M a e' (nI q)) Z) Q := by
    intro v a e' l2 l3 l4
    iterate 3 refine Wp.step rfl ?_
    refine Wp.brT rfl (nI_m1 (by omega)) ?_
    refine Wp.step rfl ?_
    exact Wp.fin rfl rfl (kk _ _ _)
  iterate 3 refine Wp.step rfl ?_
  refine Wp.brF rfl (fun q => q rfl) ?_
  refine Wp.step rfl ?_
  refine Wp.call rfl (Nat.zero_le _) (M_look X M Z hT hp' ⟨_, _, rfl, ?_⟩)
  rw [hch]
  refine Wp.step rfl ?_
  rcases hc with rfl | rfl
  · refine Wp.brT rfl rfl ?_
    refine Wp.step rfl ?_
    refine Wp.call rfl (Nat.zero_le _) (M_look X M Z hT hn ⟨_, _, rfl, ?_⟩)
    rw [lk_lk t hp', hch]
    refine Wp.step rfl ?_
    refine Wp.brF rfl (fun q => q rfl) ?_
    iterate 8 refine Wp.step rfl ?_
    refine Wp.putM rfl rfl rfl ?_
    rw [KM_inc]
    refine Wp.step rfl ?_
    refine Wp.call (u1 := 0) rfl (Nat.zero_le _) (hA _ _ X M Z _ (by omega) hT (fun w a e' => ⟨_, _, rfl, ?_⟩))
    iterate 3 refine Wp.step rfl ?_
    refine Wp.brF rfl (by decide) ?_
    iterate 5 refine Wp.step rfl ?_
    refine Wp.call rfl (Nat.zero_le _) (M_within _ ⟨_, _, rfl, ?_⟩)
    iterate 2 refine Wp.step rfl ?_
    exact fin _ _ _ _ _ _
  · refine Wp.brF rfl (by decide) ?_
    refine Wp.step rfl ?_
    refine Wp.call rfl (Nat.zero_le _) (M_look X M Z hT hn ⟨_, _, rfl, ?_⟩)
    rw [lk_lk t hp', hch]
    refine Wp.step rfl ?_
    refine Wp.brF rfl (fun q => q rfl) ?_
    refine Wp.step rfl ?_
    refine Wp.call rfl (Nat.zero_le _) (M_look X M Z hT hn ⟨_, _, rfl, ?_⟩)
    rw [lk_lk t hp', hch]
    refine Wp.step rfl ?_
    refine Wp.brT rfl (by decide) ?_
    iterate 7 refine Wp.step rfl ?_
    refine Wp.putM rfl rfl rfl ?_
    rw [KM_inc]
    refine Wp.step rfl ?_
    refine Wp.call (u1 := 0) rfl (Nat.zero_le _) (hA _ _ X M Z _ (by omega) hT (fun w a e' => ⟨_, _, rfl, ?_⟩))
    iterate 3 refine Wp.step rfl ?_
    refine Wp.brT rfl (by decide) ?_
    iterate 4 refine Wp.step rfl ?_
    refine Wp.call rfl (Nat.zero_le _) (M_within _ ⟨_, _, rfl, ?_⟩)
    iterate 2 refine Wp.step rfl ?_
    exact fin _ _ _ _ _ _
theorem Msum_end {t : Nat → Int32} {n p e d u : Nat} {X : pmXs} {M : pmMs} {Z : pmZs} {Q : pmO → Prop} {v : Int32} {l2 l3 l4 : Option Value} (hD : 4 ≤ d) (hp' : p ≤ n) (h1 : ch t n (lk t n p) ≠ nI 43) (h2 : ch t n (lk t n p) ≠ nI 45) (hT : MT M t n) (kk : Q (.inl (some (.int v)), hp X (KM M (nI (lk t n p)) (nI e) (-1)) Z)) : Wp d u 215 5 [some (.ref 35), some (.int v), l2, l3, l4] [] (hp X (KM M (nI p) (nI e) (-1)) Z) Q := by
  obtain ⟨d, rfl⟩ : ∃ d0, d = d0 + 4 := ⟨d - 4, by omega⟩
  have hn := lk_n t hp'
  iterate 3 refine Wp.step rfl ?_
  refine Wp.brF rfl (fun q => q rfl) ?_
  refine Wp.step rfl ?_
  refine Wp.call rfl (Nat.zero_le _) (M_look X M Z hT hp' ⟨_, _, rfl, ?_⟩)
  refine Wp.step rfl ?_
  refine Wp.brF rfl h1 ?_
  refine Wp.step rfl ?_
  refine Wp.call rfl (Nat.zero_le _) (M_look X M Z hT hn ⟨_, _, rfl, ?_⟩)
  rw [lk_lk t hp']
  refine Wp.step rfl ?_
  refine Wp.brT rfl h2 ?_
  refine Wp.step rfl ?_
  exact Wp.fin rfl rfl kk
/-- the loop's package -/
theorem sumLoop_pk {t : Nat → Int32} {n e D K D' : Nat} (hA : ∀ p, p ≤ n → PS t n 116 222 D K p e) (hD : D + 1 ≤ D') (h4 : 4 ≤ D') : ∀ m p, n - p ≤ m → p ≤ n →
    (∃ (q : Nat) (T : (Nat → Int32) → Int32 → Int32), lk t n p ≤ q ∧ q ≤ n ∧
      (∀ (d u : Nat) (X : pmXs) (M : pmMs) (Z : pmZs) (Q : pmO → Prop) (lo : Nat) (s row : Value) (F0 : (Nat → Int32) → Int32), D' ≤ d → 12 * (q - lk t n p) ≤ u → XT X t n → lo ≤ Z.2.2.length → OpenS K lo s row F0 Z.2.2 → (∀ N r, Ext lo Z.2.2 N → DenS (K + 2) lo N.length r (fun l => T l (F0 l)) N → Q (.inl (some (.ref (r + 59))), hp (PX X q e) M (zN Z N))) → Wp d u 108 12 [some (.ref 14), some s, some row, some (.int (ch t n (lk t n p)))] [] (hp (PX X (lk t n p) e) M Z) Q) ∧
      (∀ (d u : Nat) (X : pmXs) (M : pmMs) (Z : pmZs) (Q : pmO → Prop) (v : Int32) (l2 l3 l4 : Option Value), D' ≤ d → MT M t n → Q (.inl (some (.int (T (ma M 39) v))), hp X (KM M (nI q) (nI e) (-1)) Z) → Wp d u 215 5 [some (.ref 35), some (.int v), l2, l3, l4] [] (hp X (KM M (nI p) (nI e) (-1)) Z) Q)) ∨
    (∃ q, lk t n p ≤ q ∧ q ≤ n ∧
      (∀ (d u : Nat) (X : pmXs) (M : pmMs) (Z : pmZs) (Q : pmO → Prop) (lo : Nat) (s row : Value) (F0 : (Nat → Int32) → Int32), D' ≤ d → 12 * (q - lk t n p) + 12 ≤ u → XT X t n → lo ≤ Z.2.2.length → OpenS K lo s row F0 Z.2.2 → (∀ N e', Ext lo Z.2.2 N → Q (.inr 2, hp (PX X q e') M (zN Z N))) → Wp d u 108 12 [some (.ref 14), some s, some row, some (.int (ch t n (lk t n p)))] [] (hp (PX X (lk t n p) e) M Z) Q) ∧
      (∀ (d u : Nat) (X : pmXs) (M : pmMs) (Z : pmZs) (Q : pmO → Prop) (v : Int32) (l2 l3 l4 : Option Value), D' ≤ d → MT M t n → (∀ v a e', Q (.inl (some (.int v)), hp X (KM M a e' (nI q)) Z)) → Wp d u 215 5 [some (.ref 35), some (.int v), l2, l3, l4] [] (hp X (KM M (nI p) (nI e) (-1)) Z) Q)) := by
  intro m
  induction m with
  | zero =>
    intro p hm hp'
    obtain rfl : p = n := by omega
    have e1 : lk t p p = p := lk_stop (by omega)
    have e2 : ch t p p = -1 := if_neg (by omega)
    refine Or.inl ⟨p, fun _ v => v, by omega, by omega, ?_, ?_⟩
    · intro d u X M Z Q lo s row F0 hd hu hT hlo hO kk
      rw [e1, e2]
      exact Xsum_end (t := t) (n := p) (by decide) (by decide) hO (fun r a => kk Z.2.2 r (Ext.refl _ _) a)
    · intro d u X M Z Q v l2 l3 l4 hd hT kk
      refine Msum_end (by omega) hp' (by rw [e1, e2]; decide) (by rw [e1, e2]; decide) hT ?_
      rw [e1]
      exact kk
  | succ m ih =>
    intro p hm hp'
    have hge := lk_ge t hp'
    have hn := lk_n t hp'
    by_cases hc : ch t n (lk t n p) = nI 43 ∨ ch t n (lk t n p) = nI 45
    · have hlt : lk t n p < n := ch_lt (by rcases hc with h | h <;> rw [h] <;> decide)
      rcases hA (lk t n p + 1) (by omega) with ⟨q1, F1, a1, a2, aX, aM⟩ | ⟨q1, a1, a2, aX, aM⟩
      · have hq1 := lk_ge t a2
        rcases ih q1 (by omega) a2 with ⟨q, T, b1, b2, bX, bM⟩ | ⟨q, b1, b2, bX, bM⟩
        · refine Or.inl ⟨q, fun l v => T l (opS (ch t n (lk t n p)) v (F1 l)), by omega, b2, ?_, ?_⟩
          · intro d u X M Z Q lo s row F0 hd hu hT hlo hO kk
            refine Xsum_step aX (by omega) (by omega) a1 a2 hc hT (by omega) hlo hO (fun N s row hE hO' => ?_)
            exact bX d _ X M (zN Z N) Q lo s row _ hd (by omega) hT (Nat.le_trans hlo hE.1) hO' (fun N' r hE' hD' => kk N' r (hE.trans hE') hD')
          · intro d u X M Z Q v l2 l3 l4 hd hT kk
            exact Msum_step aM (by omega) (by omega) hp' hc rfl hT (fun l2 l3 l4 => bM d u X M Z Q _ l2 l3 l4 hd hT kk)
        · refine Or.inr ⟨q, by omega, b2, ?_, ?_⟩
          · intro d u X M Z Q lo s row F0 hd hu hT hlo hO kk
            refine Xsum_step aX (by omega) (by omega) a1 a2 hc hT (by omega) hlo hO (fun N s row hE hO' => ?_)
            exact bX d _ X M (zN Z N) Q lo s row _ hd (by omega) hT (Nat.le_trans hlo hE.1) hO' (fun N' e' hE' => kk N' e' (hE.trans hE'))
          · intro d u X M Z Q v l2 l3 l4 hd hT kk
            exact Msum_step aM (by omega) (by omega) hp' hc rfl hT (fun l2 l3 l4 => bM d u X M Z Q _ l2 l3 l4 hd hT kk)
      · refine Or.inr ⟨q1, by omega, a2, ?_, ?_⟩
        · intro d u X M Z Q lo s row F0 hd hu hT hlo hO kk
          exact Xsum_fault aX (by omega) (by omega) a1 hc hT (by omega) hlo hO kk
        · intro d u X M Z Q v l2 l3 l4 hd hT kk
          exact Msum_fault aM (by omega) (by omega) hp' a2 hc rfl hT kk
    · refine Or.inl ⟨lk t n p, fun _ v => v, Nat.le_refl _, hn, ?_, ?_⟩
      · intro d u X M Z Q lo s row F0 hd hu hT hlo hO kk
        exact Xsum_end (t := t) (n := n) (fun q => hc (Or.inl q)) (fun q => hc (Or.inr q)) hO (fun r a => kk Z.2.2 r (Ext.refl _ _) a)
      · intro d u X M Z Q v l2 l3 l4 hd hT kk
        exact Msum_end (by omega) hp' (fun q => hc (Or.inl q)) (fun q => hc (Or.inr q)) hT kk
/-- 108's package -/
theorem sum_pk {t : Nat → Int32} {n p e D K D' : Nat} (hA : ∀ p, p ≤ n → PS t n 116 222 D K p e) (hD : D + 1 ≤ D') (h4 : 4 ≤ D') (hp' : p ≤ n) : PS t n 108 215 D' (K + 2) p e := by
  rcases hA p hp' with ⟨q1, F1, a1, a2, aX, aM⟩ | ⟨q1, a1, a2, aX, aM⟩
  · have hq1 := lk_ge t a2
    rcases sumLoop_pk hA hD h4 (n - q1) q1 (Nat.le_refl _) a2 with ⟨q, T, b1, b2, bX, bM⟩ | ⟨q, b1, b2, bX, bM⟩
    · refine Or.inl ⟨q, fun l => T l (F1 l), by omega, b2, ?_, ?_⟩
      · intro d u X M Z Q hd hu hT hQ
        have hd' := hd
        obtain ⟨d, rfl⟩ : ∃ d0, d = d0 + 4 := ⟨d - 4, by omega⟩
        refine Wp.step rfl ?_
        refine Wp.call (u1 := 12 * (q1 - p)) rfl (by omega) (aX _ _ X M Z _ (by omega) (Nat.le_refl _) hT (fun N r a b => ⟨_, _, rfl, ?_⟩))
        iterate 4 refine Wp.step rfl ?_
        refine Wp.call rfl (Nat.zero_le _) (X_look X M _ hT a2 ⟨_, _, rfl, ?_⟩)
        refine Wp.step rfl ?_
        exact bX _ _ X M (zN Z N) Q Z.2.2.length _ _ F1 hd' (by omega) hT a.1 (Or.inl ⟨rfl, r, rfl, b⟩) (fun N' r' a' b' => hQ N' r' (a.trans a') b')
      · intro d u X M Z Q hd hT hQ
        have hd' := hd
        obtain ⟨d, rfl⟩ : ∃ d0, d = d0 + 4 := ⟨d - 4, by omega⟩
        refine Wp.step rfl ?_
        refine Wp.call (u1 := 0) rfl (Nat.zero_le _) (aM _ _ X M Z _ (by omega) hT ⟨_, _, rfl, ?_⟩)
        refine Wp.step rfl ?_
        exact bM _ _ X M Z Q _ _ _ _ hd' hT hQ
    · refine Or.inr ⟨q, by omega, b2, ?_, ?_⟩
      · intro d u X M Z Q hd hu hT hQ
        have hd' := hd
        obtain ⟨d, rfl⟩ : ∃ d0, d = d0 + 4 := ⟨d - 4, by omega⟩
        refine Wp.step rfl ?_
        refine Wp.call (u1 := 12 * (q1 - p)) rfl (by omega) (aX _ _ X M Z _ (by omega) (Nat.le_refl _) hT (fun N r a b => ⟨_, _, rfl, ?_⟩))
        iterate 4 refine Wp.step rfl ?_
        refine Wp.call rfl (Nat.zero_le _) (X_look X M _ hT a2 ⟨_, _, rfl, ?_⟩)
        refine Wp.step rfl ?_
        exact bX _ _ X M (zN Z N) Q Z.2.2.length _ _ F1 hd' (by omega) hT a.1 (Or.inl ⟨rfl, r, rfl, b⟩) (fun N' e' a' => hQ N' e' (a.trans a'))
      · intro d u X M Z Q hd hT hQ
        have hd' := hd
        obtain ⟨d, rfl⟩ : ∃ d0, d = d0 + 4 := ⟨d - 4, by omega⟩
        refine Wp.step rfl ?_
        refine Wp.call (u1 := 0) rfl (Nat.zero_le _) (aM _ _ X M Z _ (by omega) hT ⟨_, _, rfl, ?_⟩)
        refine Wp.step rfl ?_
        exact bM _ _ X M Z Q _ _ _ _ hd' hT hQ
  · refine Or.inr ⟨q1, a1, a2, ?_, ?_⟩
    · intro d u X M Z Q hd hu hT hQ
      obtain ⟨d, rfl⟩ : ∃ d0, d = d0 + 4 := ⟨d - 4, by omega⟩
      refine Wp.step rfl ?_
      refine Wp.callF (u1 := u) rfl rfl (Nat.le_refl _) (aX _ _ X M Z _ (by omega) hu hT (fun N e' a => Or.inr ⟨_, _, rfl, hQ N e' a⟩))
    · intro d u X M Z Q hd hT hQ
      have h240 := MT_le hT
      obtain ⟨d, rfl⟩ : ∃ d0, d = d0 + 4 := ⟨d - 4, by omega⟩
      refine Wp.step rfl ?_
      refine Wp.call (u1 := 0) rfl (Nat.zero_le _) (aM _ _ X M Z _ (by omega) hT (fun w a e' => ⟨_, _, rfl, ?_⟩))
      iterate 4 refine Wp.step rfl ?_
      refine Wp.brT rfl (nI_m1 (by omega)) ?_
      refine Wp.step rfl ?_
      exact Wp.fin rfl rfl (hQ _ _ _)
