/-! A REALM's text, in both: printed by tools/realm2.py -/
def jXr (k : Nat) : Bool := Nat.beq k 3 || Nat.beq k 4 || Nat.beq k 11 || Nat.beq k 12
def aXr (a : Nat) : Bool := Nat.beq a 18 || Nat.beq a 19 || Nat.beq a 20
def Jx (X X' : pmXs) : Prop := (∀ k, jXr k = false → X'.1 k = X.1 k) ∧ X'.2.1 = X.2.1 ∧ (∀ a, aXr a = false → xa X' a = xa X a) ∧ X'.2.2.2 = X.2.2.2
theorem Jx.refl (X : pmXs) : Jx X X := ⟨fun _ _ => rfl, rfl, fun _ _ => rfl, rfl⟩
theorem Jx.trans {A B C : pmXs} (h1 : Jx A B) (h2 : Jx B C) : Jx A C := ⟨fun k hk => (h2.1 k hk).trans (h1.1 k hk), h2.2.1.trans h1.2.1, fun a ha => (h2.2.2.1 a ha).trans (h1.2.2.1 a ha), h2.2.2.2.trans h1.2.2.2⟩
theorem Jx.xI {X X' : pmXs} (h : Jx X X') {k : Nat} (v : Int32) (hk : jXr k = true) : Jx X (xI X' k v) := by
  refine ⟨fun j hj => ?_, h.2.1, h.2.2.1, h.2.2.2⟩
  rw [xI_ne _ _ (fun q => by rw [q, hk] at hj; cases hj)]
  exact h.1 j hj
theorem Jx.xA {X X' : pmXs} (h : Jx X X') {a : Nat} (f : Nat → Int32) (ha : aXr a = true) : Jx X (xA X' a f) := by
  refine ⟨h.1, h.2.1, fun j hj => ?_, h.2.2.2⟩
  rw [xA_ne _ _ (fun q => by rw [q, ha] at hj; cases hj)]
  exact h.2.2.1 j hj
theorem Jx.PX {X X' : pmXs} (h : Jx X X') (p e : Nat) : Jx X (PX X' p e) := (h.xI (nI p) (k := 3) rfl).xI (nI e) (k := 4) rfl
theorem XT_Jx {X X' : pmXs} {t : Nat → Int32} {n : Nat} (h : XT X t n) (j : Jx X X') : XT X' t n := by
  refine ⟨(j.1 2 rfl).trans h.1, h.2.1, fun i hi => ?_⟩
  rw [j.2.2.1 16 rfl]
  exact h.2.2 i hi
def jMr (k : Nat) : Bool := Nat.beq k 28 || Nat.beq k 29 || Nat.beq k 31
def aMr (a : Nat) : Bool := Nat.beq a 41 || Nat.beq a 43 || Nat.beq a 45
def Jm (M M' : pmMs) : Prop := (∀ k, jMr k = false → M'.1 k = M.1 k) ∧ M'.2.1 = M.2.1 ∧ M'.2.2.1 = M.2.2.1 ∧ (∀ a, aMr a = false → ma M' a = ma M a) ∧ M'.2.2.2.2 = M.2.2.2.2
theorem Jm.refl (M : pmMs) : Jm M M := ⟨fun _ _ => rfl, rfl, rfl, fun _ _ => rfl, rfl⟩
theorem Jm.trans {A B C : pmMs} (h1 : Jm A B) (h2 : Jm B C) : Jm A C := ⟨fun k hk => (h2.1 k hk).trans (h1.1 k hk), h2.2.1.trans h1.2.1, h2.2.2.1.trans h1.2.2.1, fun a ha => (h2.2.2.2.1 a ha).trans (h1.2.2.2.1 a ha), h2.2.2.2.2.trans h1.2.2.2.2⟩
theorem Jm.mI {M M' : pmMs} (h : Jm M M') {k : Nat} (v : Int32) (hk : jMr k = true) : Jm M (mI M' k v) := by
  refine ⟨fun j hj => ?_, h.2.1, h.2.2.1, h.2.2.2.1, h.2.2.2.2⟩
  rw [mI_ne _ _ (fun q => by rw [q, hk] at hj; cases hj)]
  exact h.1 j hj
theorem Jm.mA {M M' : pmMs} (h : Jm M M') {a : Nat} (f : Nat → Int32) (ha : aMr a = true) : Jm M (mA M' a f) := by
  refine ⟨h.1, h.2.1, h.2.2.1, fun j hj => ?_, h.2.2.2.2⟩
  rw [mA_ne _ _ (fun q => by rw [q, ha] at hj; cases hj)]
  exact h.2.2.2.1 j hj
theorem MT_Jm {M M' : pmMs} {t : Nat → Int32} {n : Nat} (h : MT M t n) (j : Jm M M') : MT M' t n := by
  obtain ⟨b, g1, g2, g3, g4, g5⟩ := h
  refine ⟨b, by rw [j.2.2.1]; exact g1, (j.1 8 rfl).trans g2, (j.1 9 rfl).trans g3, g4, fun i hi => ?_⟩
  rw [← g5 i hi, j.2.2.1]
  rcases g1 with ⟨g, _⟩ | ⟨g, _⟩
  · rw [g, j.2.2.2.1 36 rfl]
  · rw [g, j.2.2.2.1 37 rfl]
def RB (r k f : Nat → Int32) (kk ff : Nat) : Prop := (∀ j, j < 2 → ∃ v, v ≤ H6.getD j 0 ∧ r j = nI v) ∧ (∀ i, i < kk → ∀ j, j < 3 → ∃ v, v ≤ H8.getD j 0 ∧ k (3 * i + j) = nI v) ∧ (∀ i, i < ff → ∀ j, j < 4 → ∃ v, v ≤ H10.getD j 0 ∧ f (4 * i + j) = nI v)
def XRs (X : pmXs) (kk ff : Nat) (r k f : Nat → Int32) : Prop := X.1 11 = nI kk ∧ X.1 12 = nI ff ∧ (∀ j, j < 2 → xa X 18 j = r j) ∧ (∀ j, j < 3 * kk → xa X 19 j = k j) ∧ (∀ j, j < 4 * ff → xa X 20 j = f j)
def MRs (M : pmMs) (b : Bool) (kk ff : Nat) (r k f : Nat → Int32) : Prop := M.1 28 = nI kk ∧ M.1 29 = nI ff ∧ M.1 31 = bB b ∧ (∀ j, j < 2 → ma M 41 j = r j) ∧ (∀ j, j < 3 * kk → ma M 43 j = k j) ∧ (∀ j, j < 4 * ff → ma M 45 j = f j)
section PKR
variable (t : Nat → Int32) (n : Nat)
def RPk (xpc mpc p : Nat) (b : Bool) (kk ff : Nat) (r k f : Nat → Int32) : Prop :=
  (∃ (q K F : Nat) (r' k' f' : Nat → Int32), p ≤ q ∧ q ≤ n ∧ RB r' k' f' K F ∧ WH K F f' ∧ K ≤ 4 ∧ F ≤ 8 ∧
    (∀ (d u : Nat) (X : pmXs) (M : pmMs) (Z : pmZs) (Q : pmO → Prop) (e : Nat) (c : Option Value), 12 ≤ d → XT X t n → XRs X kk ff r k f → (∀ X', Jx X X' → XRs X' K F r' k' f' → Q (.inl none, hp (PX X' q e) M Z)) → Wp d u 92 xpc [some (.ref 14), some (.int (bB b)), some (.int (nI 1)), c] [] (hp (PX X p e) M Z) Q) ∧
    (∀ (d u : Nat) (X : pmXs) (M : pmMs) (Z : pmZs) (Q : pmO → Prop) (e : Int32), 12 ≤ d → MT M t n → MRs M b kk ff r k f → (∀ M' b', Jm M M' → MRs M' b' K F r' k' f' → Q (.inl none, hp X (KM M' (nI q) e (-1)) Z)) → Wp d u 169 mpc [some (.ref 35), some (.int (nI 1))] [] (hp X (KM M (nI p) e (-1)) Z) Q)) ∨
  (∃ q, p ≤ q ∧ q ≤ n ∧
    (∀ (d u : Nat) (X : pmXs) (M : pmMs) (Z : pmZs) (Q : pmO → Prop) (e : Nat) (c : Option Value), 12 ≤ d → XT X t n → XRs X kk ff r k f → (∀ X', Jx X X' → Q (.inr 2, hp (PX X' q e) M Z)) → Wp d u 92 xpc [some (.ref 14), some (.int (bB b)), some (.int (nI 1)), c] [] (hp (PX X p e) M Z) Q) ∧
    (∀ (d u : Nat) (X : pmXs) (M : pmMs) (Z : pmZs) (Q : pmO → Prop) (e : Int32), 12 ≤ d → MT M t n → MRs M b kk ff r k f → (∀ M' a, Jm M M' → Q (.inl none, hp X (KM M' a e (nI q)) Z)) → Wp d u 169 mpc [some (.ref 35), some (.int (nI 1))] [] (hp X (KM M (nI p) e (-1)) Z) Q))
end PKR
/-- no mark ';' behind an item's letter -/
theorem X_realm_bad {t : Nat → Int32} {n q e d u : Nat} {X : pmXs} {M : pmMs} {Z : pmZs} {Q : pmO → Prop} {b : Bool} {c : Option Value} (hq : q ≤ n) (hl : lk t n q = q) (h59 : ch t n q ≠ nI 59) (h1 : ch t n q ≠ -1) (hd : 4 ≤ d) (hT : XT X t n) (hQ : Q (.inr 2, hp (PX X q e) M Z)) : Wp d u 92 194 [some (.ref 14), some (.int (bB b)), some (.int (nI 1)), c] [] (hp (PX X q e) M Z) Q := by
  obtain ⟨d, rfl⟩ : ∃ d0, d = d0 + 4 := ⟨d - 4, by omega⟩
  refine Wp.step rfl ?_
  refine Wp.call rfl (Nat.zero_le _) (X_look X M Z hT hq ⟨_, _, rfl, ?_⟩)
  rw [hl]
  refine Wp.step rfl ?_
  refine Wp.brT rfl h59 ?_
  iterate 3 refine Wp.step rfl ?_
  refine Wp.brT rfl rfl ?_
  iterate 2 refine Wp.step rfl ?_
  refine Wp.brT rfl rfl ?_
  iterate 2 refine Wp.step rfl ?_
  refine Wp.call rfl (Nat.zero_le _) (X_look X M Z hT hq ⟨_, _, rfl, ?_⟩)
  rw [hl]
  refine Wp.step rfl ?_
  refine Wp.brT rfl h1 ?_
  refine Wp.step rfl ?_
  refine Wp.callF rfl rfl (Nat.zero_le _) (X_need0 _ M Z (Or.inr ⟨_, _, rfl, hQ⟩))
theorem M_realm_bad {q d u : Nat} {X : pmXs} {M : pmMs} {Z : pmZs} {Q : pmO → Prop} {a e : Int32} (hq : q < 1000) (hQ : Q (.inl none, hp X (KM M a e (nI q)) Z)) : Wp d u 169 71 [some (.ref 35), some (.int (nI 1))] [] (hp X (KM M a e (nI q)) Z) Q := by
  iterate 3 refine Wp.step rfl ?_
  refine Wp.brT rfl (nI_m1 (by omega)) ?_
  iterate 3 refine Wp.step rfl ?_
  refine Wp.brT rfl rfl ?_
  refine Wp.step rfl ?_
  refine Wp.brT rfl rfl ?_
  iterate 3 refine Wp.step rfl ?_
  refine Wp.brT rfl (nI_m1 (by omega)) ?_
  exact Wp.fin rfl trivial hQ
/-- behind a clause -/
theorem rtail_pk {t : Nat → Int32} {n q : Nat} {b : Bool} {kk ff : Nat} {r k f : Nat → Int32} (hq : q ≤ n) (hl : lk t n q = q) (hRB : RB r k f kk ff) (hk : kk ≤ 4) (hf : ff ≤ 8) (ih : q < n → RPk t n 44 55 (q + 1) b kk ff r k f) : RPk t n 194 71 q b kk ff r k f := by
  by_cases h59 : ch t n q = nI 59
  · have hlt : q < n := ch_ne h59 (by decide)
    have kX : ∀ {d u : Nat} {X : pmXs} {M : pmMs} {Z : pmZs} {Q : pmO → Prop} {e : Nat} {c : Option Value}, 12 ≤ d → XT X t n → Wp d u 92 44 [some (.ref 14), some (.int (bB b)), some (.int (nI 1)), c] [] (hp (PX X (q + 1) e) M Z) Q → Wp d u 92 194 [some (.ref 14), some (.int (bB b)), some (.int (nI 1)), c] [] (hp (PX X q e) M Z) Q := by
      intro d u X M Z Q e c hd hT kk
      obtain ⟨d, rfl⟩ : ∃ d0, d = d0 + 4 := ⟨d - 4, by omega⟩
      refine Wp.step rfl ?_
      refine Wp.call rfl (Nat.zero_le _) (X_look X M Z hT hq ⟨_, _, rfl, ?_⟩)
      rw [hl, h59]
      refine Wp.step rfl ?_
      refine Wp.brF rfl (fun q => q rfl) ?_
      iterate 4 refine Wp.step rfl ?_
      refine Wp.brF rfl (by decide) ?_
      iterate 5 refine Wp.step rfl ?_
      refine Wp.putX rfl rfl rfl ?_
      rw [PX_inc]
      refine Wp.step rfl ?_
      exact kk
    have kM : ∀ {d u : Nat} {X : pmXs} {M : pmMs} {Z : pmZs} {Q : pmO → Prop} {e : Int32}, 12 ≤ d → MT M t n → Wp d u 169 55 [some (.ref 35), some (.int (nI 1))] [] (hp X (KM M (nI (q + 1)) e (-1)) Z) Q → Wp d u 169 71 [some (.ref 35), some (.int (nI 1))] [] (hp X (KM M (nI q) e (-1)) Z) Q := by
      intro d u X M Z Q e hd hT kk
      obtain ⟨d, rfl⟩ : ∃ d0, d = d0 + 4 := ⟨d - 4, by omega⟩
      iterate 3 refine Wp.step rfl ?_
      refine Wp.brF rfl (fun q => q rfl) ?_
      refine Wp.step rfl ?_
      refine Wp.call rfl (Nat.zero_le _) (M_look X M Z hT hq ⟨_, _, rfl, ?_⟩)
      rw [hl, h59]
      refine Wp.step rfl ?_
      refine Wp.brF rfl (fun q => q rfl) ?_
      iterate 4 refine Wp.step rfl ?_
      refine Wp.brF rfl (by decide) ?_
      iterate 5 refine Wp.step rfl ?_
      refine Wp.putM rfl rfl rfl ?_
      rw [KM_inc]
      refine Wp.step rfl ?_
      exact kk
    rcases ih hlt with ⟨q', K, F, r', k', f', a1, a2, a3, a4, a5, a6, aX, aM⟩ | ⟨q', a1, a2, aX, aM⟩
    · refine Or.inl ⟨q', K, F, r', k', f', by omega, a2, a3, a4, a5, a6, ?_, ?_⟩
      · intro d u X M Z Q e c hd hT hR hQ
        exact kX hd hT (aX d u X M Z Q e c hd hT hR hQ)
      · intro d u X M Z Q e hd hT hR hQ
        exact kM hd hT (aM d u X M Z Q e hd hT hR hQ)
    · refine Or.inr ⟨q', by omega, a2, ?_, ?_⟩
      · intro d u X M Z Q e c hd hT hR hQ
        exact kX hd hT (aX d u X M Z Q e c hd hT hR hQ)
      · intro d u X M Z Q e hd hT hR hQ
        exact kM hd hT (aM d u X M Z Q e hd hT hR hQ)
  by_cases h1 : ch t n q = -1
  · have kX : ∀ {d u : Nat} {X : pmXs} {M : pmMs} {Z : pmZs} {Q : pmO → Prop} {e : Nat} {c : Option Value}, 12 ≤ d → XT X t n → Wp d u 92 236 [some (.ref 14), some (.int (bB b)), some (.int (nI 0)), c] [.ref 14, .ref 14] (hp (PX X q e) M Z) Q → Wp d u 92 194 [some (.ref 14), some (.int (bB b)), some (.int (nI 1)), c] [] (hp (PX X q e) M Z) Q := by
      intro d u X M Z Q e c hd hT kk
      obtain ⟨d, rfl⟩ : ∃ d0, d = d0 + 4 := ⟨d - 4, by omega⟩
      refine Wp.step rfl ?_
      refine Wp.call rfl (Nat.zero_le _) (X_look X M Z hT hq ⟨_, _, rfl, ?_⟩)
      rw [hl]
      refine Wp.step rfl ?_
      refine Wp.brT rfl h59 ?_
      iterate 3 refine Wp.step rfl ?_
      refine Wp.brT rfl rfl ?_
      iterate 2 refine Wp.step rfl ?_
      refine Wp.brT rfl rfl ?_
      iterate 2 refine Wp.step rfl ?_
      refine Wp.call rfl (Nat.zero_le _) (X_look X M Z hT hq ⟨_, _, rfl, ?_⟩)
      rw [hl]
      refine Wp.step rfl ?_
      refine Wp.brF rfl (fun q => q h1) ?_
      refine Wp.step rfl ?_
      exact kk
    have kM : ∀ {d u : Nat} {X : pmXs} {M : pmMs} {Z : pmZs} {Q : pmO → Prop} {e : Int32}, 12 ≤ d → MT M t n → Wp d u 169 128 [some (.ref 35), some (.int (nI 0))] [.ref 35] (hp X (KM M (nI q) e (-1)) Z) Q → Wp d u 169 71 [some (.ref 35), some (.int (nI 1))] [] (hp X (KM M (nI q) e (-1)) Z) Q := by
      intro d u X M Z Q e hd hT kk
      obtain ⟨d, rfl⟩ : ∃ d0, d = d0 + 4 := ⟨d - 4, by omega⟩
      iterate 3 refine Wp.step rfl ?_
      refine Wp.brF rfl (fun q => q rfl) ?_
      refine Wp.step rfl ?_
      refine Wp.call rfl (Nat.zero_le _) (M_look X M Z hT hq ⟨_, _, rfl, ?_⟩)
      rw [hl]
      refine Wp.step rfl ?_
      refine Wp.brT rfl h59 ?_
      iterate 3 refine Wp.step rfl ?_
      refine Wp.brT rfl rfl ?_
      refine Wp.step rfl ?_
      refine Wp.brT rfl rfl ?_
      iterate 3 refine Wp.step rfl ?_
      refine Wp.brF rfl (fun q => q rfl) ?_
      refine Wp.step rfl ?_
      refine Wp.call rfl (Nat.zero_le _) (M_look X M Z hT hq ⟨_, _, rfl, ?_⟩)
      rw [hl]
      refine Wp.step rfl ?_
      refine Wp.brF rfl (fun q => q h1) ?_
      refine Wp.step rfl ?_
      exact kk
    by_cases hw : WH kk ff f
    · refine Or.inl ⟨q, kk, ff, r, k, f, Nat.le_refl _, hq, hRB, hw, hk, hf, ?_, ?_⟩
      · intro d u X M Z Q e c hd hT hR hQ
        refine kX hd hT ?_
        obtain ⟨d, rfl⟩ : ∃ d0, d = d0 + 4 := ⟨d - 4, by omega⟩
        refine Wp.call rfl (Nat.zero_le _) (X_isWhole (PX X q e) M Z (K := kk) (F := ff) (f := f) hR.1 hk hR.2.1 hf hR.2.2.2.2 (fun _ => ⟨_, _, rfl, ?_⟩) (fun z => absurd hw z))
        refine Wp.brF rfl (by decide) ?_
        iterate 2 refine Wp.step rfl ?_
        refine Wp.call rfl (Nat.zero_le _) (X_need1 ⟨_, _, rfl, ?_⟩)
        exact Wp.fin rfl trivial (hQ X (Jx.refl X) hR)
      · intro d u X M Z Q e hd hT hR hQ
        refine kM hd hT ?_
        obtain ⟨d, rfl⟩ : ∃ d0, d = d0 + 4 := ⟨d - 4, by omega⟩
        refine Wp.call rfl (Nat.zero_le _) (M_isWhole X (KM M (nI q) e (-1)) Z (K := kk) (F := ff) (f := f) hR.1 hk hR.2.1 hf hR.2.2.2.2.2 (fun _ => ⟨_, _, rfl, ?_⟩) (fun z => absurd hw z))
        refine Wp.brT rfl (by decide) ?_
        exact Wp.fin rfl trivial (hQ M b (Jm.refl M) hR)
    · refine Or.inr ⟨q, Nat.le_refl _, hq, ?_, ?_⟩
      · intro d u X M Z Q e c hd hT hR hQ
        refine kX hd hT ?_
        obtain ⟨d, rfl⟩ : ∃ d0, d = d0 + 4 := ⟨d - 4, by omega⟩
        refine Wp.call rfl (Nat.zero_le _) (X_isWhole (PX X q e) M Z (K := kk) (F := ff) (f := f) hR.1 hk hR.2.1 hf hR.2.2.2.2 (fun z => absurd z hw) (fun _ => ⟨_, _, rfl, ?_⟩))
        refine Wp.brT rfl rfl ?_
        refine Wp.step rfl ?_
        refine Wp.callF rfl rfl (Nat.zero_le _) (X_need0 _ M Z (Or.inr ⟨_, _, rfl, hQ X (Jx.refl X)⟩))
      · intro d u X M Z Q e hd hT hR hQ
        refine kM hd hT ?_
        obtain ⟨d, rfl⟩ : ∃ d0, d = d0 + 4 := ⟨d - 4, by omega⟩
        refine Wp.call rfl (Nat.zero_le _) (M_isWhole X (KM M (nI q) e (-1)) Z (K := kk) (F := ff) (f := f) hR.1 hk hR.2.1 hf hR.2.2.2.2.2 (fun z => absurd z hw) (fun _ => ⟨_, _, rfl, ?_⟩))
        refine Wp.brF rfl (fun z => z rfl) ?_
        refine Wp.step rfl ?_
        refine Wp.call rfl (Nat.zero_le _) (M_fails0 X M Z ⟨_, _, rfl, ?_⟩)
        refine Wp.step rfl ?_
        exact Wp.fin rfl trivial (hQ M _ (Jm.refl M))
  · refine Or.inr ⟨q, Nat.le_refl _, hq, ?_, ?_⟩
    · intro d u X M Z Q e c hd hT hR hQ
      exact X_realm_bad hq hl h59 h1 (by omega) hT (hQ X (Jx.refl X))
    · intro d u X M Z Q e hd hT hR hQ
      obtain ⟨d, rfl⟩ : ∃ d0, d = d0 + 4 := ⟨d - 4, by omega⟩
      iterate 3 refine Wp.step rfl ?_
      refine Wp.brF rfl (fun q => q rfl) ?_
      refine Wp.step rfl ?_
      refine Wp.call rfl (Nat.zero_le _) (M_look X M Z hT hq ⟨_, _, rfl, ?_⟩)
      rw [hl]
      refine Wp.step rfl ?_
      refine Wp.brT rfl h59 ?_
      iterate 3 refine Wp.step rfl ?_
      refine Wp.brT rfl rfl ?_
      refine Wp.step rfl ?_
      refine Wp.brT rfl rfl ?_
      iterate 3 refine Wp.step rfl ?_
      refine Wp.brF rfl (fun q => q rfl) ?_
      refine Wp.step rfl ?_
      refine Wp.call rfl (Nat.zero_le _) (M_look X M Z hT hq ⟨_, _, rfl, ?_⟩)
      rw [hl]
      refine Wp.step rfl ?_
      refine Wp.brT rfl h1 ?_
      refine Wp.step rfl ?_
      refine Wp.call rfl (Nat.zero_le _) (M_fails0 X M Z ⟨_, _, rfl, ?_⟩)
      refine Wp.step rfl ?_
      exact Wp.fin rfl trivial (hQ M _ (Jm.refl M))
/-- may this clause be here -/
def good (c : Int32) (b : Bool) (kk ff : Nat) : Prop := (c = nI 115 ∧ b = false) ∨ (c = nI 107 ∧ kk < 4) ∨ (c = nI 102 ∧ ff < 8)
theorem X_sel {t : Nat → Int32} {n p e d u : Nat} {X : pmXs} {M : pmMs} {Z : pmZs} {Q : pmO → Prop} {b : Bool} {c : Option Value} {kk ff : Nat} (hp' : p ≤ n) (hd : 4 ≤ d) (hT : XT X t n) (hk : X.1 11 = nI kk) (hf : X.1 12 = nI ff) (hk4 : kk ≤ 4) (hf8 : ff ≤ 8) (k1 : good (ch t n (lk t n p)) b kk ff → Wp d u 92 101 [some (.ref 14), some (.int (bB b)), some (.int (nI 1)), some (.int (ch t n (lk t n p)))] [] (hp (PX X (lk t n p) e) M Z) Q) (k0 : ¬ good (ch t n (lk t n p)) b kk ff → Q (.inr 2, hp (PX X (lk t n p) e) M Z)) : Wp d u 92 44 [some (.ref 14), some (.int (bB b)), some (.int (nI 1)), c] [] (hp (PX X p e) M Z) Q := by
  obtain ⟨d, rfl⟩ : ∃ d0, d = d0 + 4 := ⟨d - 4, by omega⟩
  refine Wp.step rfl ?_
  refine Wp.brF rfl (by decide) ?_
  refine Wp.step rfl ?_
  refine Wp.call rfl (Nat.zero_le _) (X_look X M Z hT hp' ⟨_, _, rfl, ?_⟩)
  generalize ch t n (lk t n p) = cc at k1 k0
  refine Wp.step rfl ?_
  have yes : good cc b kk ff → Wp (d + 4) u 92 93 [some (.ref 14), some (.int (bB b)), some (.int (nI 1)), some (.int cc)] [.ref 14] (hp (PX X (lk t n p) e) M Z) Q := by
    intro h
    iterate 2 refine Wp.step rfl ?_
    refine Wp.call rfl (Nat.zero_le _) (X_need1 ⟨_, _, rfl, ?_⟩)
    exact k1 h
  have no : ¬ good cc b kk ff → Wp (d + 4) u 92 97 [some (.ref 14), some (.int (bB b)), some (.int (nI 1)), some (.int cc)] [.ref 14] (hp (PX X (lk t n p) e) M Z) Q := by
    intro h
    refine Wp.step rfl ?_
    refine Wp.callF rfl rfl (Nat.zero_le _) (X_need0 _ M Z (Or.inr ⟨_, _, rfl, k0 h⟩))
  have p78 : ¬ (cc = nI 115 ∧ b = false) → ¬ (cc = nI 107 ∧ kk < 4) → Wp (d + 4) u 92 78 [some (.ref 14), some (.int (bB b)), some (.int (nI 1)), some (.int cc)] [.ref 14] (hp (PX X (lk t n p) e) M Z) Q := by
    intro n1 n2
    iterate 2 refine Wp.step rfl ?_
    by_cases h : cc = nI 102
    case neg => exact Wp.brT rfl h (no (fun q => by rcases q with q | q | q; exact n1 q; exact n2 q; exact h q.1))
    refine Wp.brF rfl (fun q => q h) ?_
    iterate 3 refine Wp.step rfl ?_
    by_cases h8 : ff < 8
    case neg => exact Wp.brT rfl (show nI 8 ≤ X.1 12 by rw [hf]; exact nI_le (by omega) (by omega)) (no (fun q => by rcases q with q | q | q; exact n1 q; exact n2 q; exact h8 q.2))
    exact Wp.brF rfl (show ¬ nI 8 ≤ X.1 12 by rw [hf]; exact nI_ge h8 (by decide)) (yes (Or.inr (Or.inr ⟨h, h8⟩)))
  have p64 : ¬ (cc = nI 115 ∧ b = false) → Wp (d + 4) u 92 64 [some (.ref 14), some (.int (bB b)), some (.int (nI 1)), some (.int cc)] [.ref 14] (hp (PX X (lk t n p) e) M Z) Q := by
    intro n1
    iterate 2 refine Wp.step rfl ?_
    by_cases h : cc = nI 107
    case neg => exact Wp.brT rfl h (p78 n1 (fun q => h q.1))
    refine Wp.brF rfl (fun q => q h) ?_
    iterate 3 refine Wp.step rfl ?_
    by_cases h4 : kk < 4
    case neg => exact Wp.brF rfl (show ¬ X.1 11 < nI 4 by rw [hk]; exact nI_nlt (by omega) (by omega)) (p78 n1 (fun q => h4 q.2))
    exact Wp.brT rfl (show X.1 11 < nI 4 by rw [hk]; exact nI_lt h4 (by decide)) (yes (Or.inr (Or.inl ⟨h, h4⟩)))
  iterate 3 refine Wp.step rfl ?_
  by_cases h : cc = nI 115
  case neg => exact Wp.brT rfl h (p64 (fun q => h q.1))
  refine Wp.brF rfl (fun q => q h) ?_
  refine Wp.step rfl ?_
  cases b
  · exact Wp.brT rfl rfl (yes (Or.inl ⟨h, rfl⟩))
  · exact Wp.brF rfl (by decide) (p64 (fun q => by cases q.2))
theorem M_sel {t : Nat → Int32} {n p d u : Nat} {e : Int32} {X : pmXs} {M : pmMs} {Z : pmZs} {Q : pmO → Prop} {b : Bool} {kk ff : Nat} (hp' : p ≤ n) (hd : 4 ≤ d) (hT : MT M t n) (hb : M.1 31 = bB b) (hk : M.1 28 = nI kk) (hf : M.1 29 = nI ff) (hk4 : kk ≤ 4) (hf8 : ff ≤ 8) (k1 : good (ch t n (lk t n p)) b kk ff → Wp d u 201 63 [some (.ref 35), some (.int (ch t n (lk t n p))), some (.int (nI 1))] [] (hp X (KM M (nI (lk t n p)) e (-1)) Z) Q) (k0 : ¬ good (ch t n (lk t n p)) b kk ff → Q (.inl none, hp X (KM M (nI (lk t n p)) e (nI (lk t n p))) Z)) : Wp d u 201 0 (pm_entry 201 [.ref 35]) [] (hp X (KM M (nI p) e (-1)) Z) Q := by
  obtain ⟨d, rfl⟩ : ∃ d0, d = d0 + 4 := ⟨d - 4, by omega⟩
  refine Wp.step rfl ?_
  refine Wp.call rfl (Nat.zero_le _) (M_look X M Z hT hp' ⟨_, _, rfl, ?_⟩)
  generalize ch t n (lk t n p) = cc at k1 k0
  refine Wp.step rfl ?_
  have yes : good cc b kk ff → Wp (d + 4) u 201 47 [some (.ref 35), some (.int cc), none] [] (hp X (KM M (nI (lk t n p)) e (-1)) Z) Q := by
    intro h
    iterate 4 refine Wp.step rfl ?_
    exact Wp.brT rfl (by decide) (k1 h)
  have no : ¬ good cc b kk ff → Wp (d + 4) u 201 51 [some (.ref 35), some (.int cc), none] [] (hp X (KM M (nI (lk t n p)) e (-1)) Z) Q := by
    intro h
    iterate 3 refine Wp.step rfl ?_
    refine Wp.brF rfl (fun q => q rfl) ?_
    refine Wp.step rfl ?_
    refine Wp.call rfl (Nat.zero_le _) (M_fails0 X M Z ⟨_, _, rfl, ?_⟩)
    refine Wp.step rfl ?_
    exact Wp.fin rfl trivial (k0 h)
  have p78 : ¬ (cc = nI 115 ∧ b = false) → ¬ (cc = nI 107 ∧ kk < 4) → Wp (d + 4) u 201 32 [some (.ref 35), some (.int cc), none] [] (hp X (KM M (nI (lk t n p)) e (-1)) Z) Q := by
    intro n1 n2
    iterate 2 refine Wp.step rfl ?_
    by_cases h : cc = nI 102
    case neg => exact Wp.brT rfl h (no (fun q => by rcases q with q | q | q; exact n1 q; exact n2 q; exact h q.1))
    refine Wp.brF rfl (fun q => q h) ?_
    iterate 3 refine Wp.step rfl ?_
    by_cases h8 : ff < 8
    case neg => exact Wp.brT rfl (show nI 8 ≤ M.1 29 by rw [hf]; exact nI_le (by omega) (by omega)) (no (fun q => by rcases q with q | q | q; exact n1 q; exact n2 q; exact h8 q.2))
    exact Wp.brF rfl (show ¬ nI 8 ≤ M.1 29 by rw [hf]; exact nI_ge h8 (by decide)) (yes (Or.inr (Or.inr ⟨h, h8⟩)))
  have p64 : ¬ (cc = nI 115 ∧ b = false) → Wp (d + 4) u 201 18 [some (.ref 35), some (.int cc), none] [] (hp X (KM M (nI (lk t n p)) e (-1)) Z) Q := by
    intro n1
    iterate 2 refine Wp.step rfl ?_
    by_cases h : cc = nI 107
    case neg => exact Wp.brT rfl h (p78 n1 (fun q => h q.1))
    refine Wp.brF rfl (fun q => q h) ?_
    iterate 3 refine Wp.step rfl ?_
    by_cases h4 : kk < 4
    case neg => exact Wp.brF rfl (show ¬ M.1 28 < nI 4 by rw [hk]; exact nI_nlt (by omega) (by omega)) (p78 n1 (fun q => h4 q.2))
    exact Wp.brT rfl (show M.1 28 < nI 4 by rw [hk]; exact nI_lt h4 (by decide)) (yes (Or.inr (Or.inl ⟨h, h4⟩)))
  iterate 2 refine Wp.step rfl ?_
  by_cases h : cc = nI 115
  case neg => exact Wp.brT rfl h (p64 (fun q => h q.1))
  refine Wp.brF rfl (fun q => q h) ?_
  iterate 2 refine Wp.step rfl ?_
  cases b
  · exact Wp.brT rfl hb (yes (Or.inl ⟨h, rfl⟩))
  · exact Wp.brF rfl (show ¬ M.1 31 = 0 by rw [hb]; decide) (p64 (fun q => by cases q.2))
