/-! CLAUSES of a realm, and the whole: printed by tools/realm3.py -/
theorem PX_xI (X : pmXs) (p e : Nat) {k : Nat} (v : Int32) (h1 : k ≠ 3) (h2 : k ≠ 4) : xI (PX X p e) k v = PX (xI X k v) p e := by
  show (upd (upd (upd X.1 3 (nI p)) 4 (nI e)) k v, X.2) = (upd (upd (upd X.1 k v) 3 (nI p)) 4 (nI e), X.2)
  congr 1
  funext j
  by_cases a : j = k
  · subst a
    rw [pk_us, pk_un h2, pk_un h1, pk_us]
  · rw [pk_un a]
    by_cases b : j = 4
    · subst b; rw [pk_us, pk_us]
    · rw [pk_un b, pk_un b]
      by_cases c : j = 3
      · subst c; rw [pk_us, pk_us]
      · rw [pk_un c, pk_un c, pk_un a]
def kx (w : Nat) (k : Nat → Int32) (kk : Nat) (r : Nat → Int32) : Nat → Int32 := fun j => if j < w * kk then k j else r (j - w * kk)
theorem kx_lo {w kk j : Nat} {k r : Nat → Int32} (h : j < w * kk) : kx w k kk r j = k j := if_pos h
theorem kx_hi {w kk j : Nat} {k r : Nat → Int32} : kx w k kk r (w * kk + j) = r j := by
  unfold kx
  rw [if_neg (by omega), Nat.add_sub_cancel_left]
/-- a row that has grown by one -/
theorem grow {w kk : Nat} {k r g g' : Nat → Int32} (h1 : ∀ j, j < w * kk → g j = k j) (h2 : ∀ j, j < w → g' (w * kk + j) = r j) (h3 : ∀ j, (j < w * kk ∨ w * kk + w ≤ j) → g' j = g j) : ∀ j, j < w * (kk + 1) → g' j = kx w k kk r j := by
  intro j hj
  rw [Nat.mul_add, Nat.mul_one] at hj
  by_cases h : j < w * kk
  · rw [kx_lo h, h3 j (Or.inl h), h1 j h]
  · obtain ⟨i, rfl⟩ : ∃ i, j = w * kk + i := ⟨j - w * kk, by omega⟩
    rw [kx_hi, h2 i (by omega)]
theorem RB_k {r k f s : Nat → Int32} {kk ff : Nat} (h : RB r k f kk ff) (hs : ∀ j, j < 3 → ∃ v, v ≤ H8.getD j 0 ∧ s j = nI v) : RB r (kx 3 k kk s) f (kk + 1) ff := by
  refine ⟨h.1, fun i hi j hj => ?_, h.2.2⟩
  by_cases q : i < kk
  · rw [kx_lo (by omega)]; exact h.2.1 i q j hj
  · obtain rfl : i = kk := by omega
    rw [kx_hi]; exact hs j hj
theorem RB_f {r k f s : Nat → Int32} {kk ff : Nat} (h : RB r k f kk ff) (hs : ∀ j, j < 4 → ∃ v, v ≤ H10.getD j 0 ∧ s j = nI v) : RB r k (kx 4 f ff s) kk (ff + 1) := by
  refine ⟨h.1, h.2.1, fun i hi j hj => ?_⟩
  by_cases q : i < ff
  · rw [kx_lo (by omega)]; exact h.2.2 i q j hj
  · obtain rfl : i = ff := by omega
    rw [kx_hi]; exact hs j hj
theorem RB_r {r k f s : Nat → Int32} {kk ff : Nat} (h : RB r k f kk ff) (hs : ∀ j, j < 2 → ∃ v, v ≤ H6.getD j 0 ∧ s j = nI v) : RB s k f kk ff := ⟨hs, h.2.1, h.2.2⟩
theorem grow0 {s g' : Nat → Int32} (h2 : ∀ j, j < 2 → g' (0 + j) = s j) : ∀ j, j < 2 → g' j = s j := by
  intro j hj
  have := h2 j hj
  rwa [Nat.zero_add] at this
theorem clause_115 {t : Nat → Int32} {n p : Nat} {b : Bool} {kk ff : Nat} {r k f : Nat → Int32} (hB : ∀ j, j < n → isB (t j)) (hp' : p ≤ n) (hc : ch t n (lk t n p) = nI 115) (hg : b = false) (hRB : RB r k f kk ff) (hk : kk ≤ 4) (hf : ff ≤ 8) (ih : ∀ q b' kk' ff' r' k' f', lk t n p < q → q ≤ n → lk t n q = q → RB r' k' f' kk' ff' → kk' ≤ 4 → ff' ≤ 8 → RPk t n 194 71 q b' kk' ff' r' k' f') : RPk t n 44 55 p b kk ff r k f := by
  have hge := lk_ge t hp'
  have hlt : lk t n p < n := ch_ne hc (by decide)
  have hgood : good (ch t n (lk t n p)) b kk ff := by rw [hc]; exact Or.inl ⟨rfl, hg⟩
  have keyX : ∀ {d u : Nat} {X : pmXs} {M : pmMs} {Z : pmZs} {Q : pmO → Prop} {e : Nat} {c : Option Value}, XT X t n → XRs X kk ff r k f →
      (∀ f1, (∀ j, j < 2 → f1 (0 + j) = U6 j) → (∀ j, (j < 0 ∨ 0 + 2 ≤ j) → f1 j = xa X 18 j) → Wp (d + 11) 0 105 31 [some (.ref 14), some (.int (nI 115)), some (.ref 18), some (.int (nI (0))), some (.int (nI 2)), some (.int (nI 0)), none] [] (hp (PX (xA X 18 f1) (lk t n p + 1) e) M Z) (fun o => (∃ h', o = (.inl none, h') ∧ Wp (d + 12) u 92 130 [some (.ref 14), some (.int (bB true)), some (.int (nI 1)), some (.int (nI 115))] [] h' Q) ∨ ∃ h', o = (.inr 2, h') ∧ Q (.inr 2, h'))) →
      Wp (d + 12) u 92 44 [some (.ref 14), some (.int (bB b)), some (.int (nI 1)), c] [] (hp (PX X p e) M Z) Q := by
    intro d u X M Z Q e c hT hR kk9
    refine X_sel hp' (by omega) hT hR.1 hR.2.1 hk hf (fun _ => ?_) (fun q => absurd hgood q)
    rw [hc]
    iterate 5 refine Wp.step rfl ?_
    refine Wp.putX rfl rfl rfl ?_
    rw [PX_inc]
    iterate 2 refine Wp.step rfl ?_
    refine Wp.brF rfl (fun q => q rfl) ?_
    iterate 8 refine Wp.step rfl ?_
    refine Wp.callF (u1 := 0) rfl rfl (Nat.zero_le _) (X_items_s115 (B := 0) (by omega) (fun f1 y1 y2 => ?_))
    refine (kk9 f1 y1 y2).conseq (fun o h => ?_)
    rcases h with ⟨h', rfl, w⟩ | ⟨h', rfl, w⟩
    · exact Or.inl ⟨_, _, rfl, w⟩
    · exact Or.inr ⟨_, _, rfl, w⟩
  have keyM : ∀ {d u : Nat} {X : pmXs} {M : pmMs} {Z : pmZs} {Q : pmO → Prop} {e : Int32}, MT M t n → MRs M b kk ff r k f →
      (∀ f1, (∀ j, j < 2 → f1 (0 + j) = U6 j) → (∀ j, (j < 0 ∨ 0 + 2 ≤ j) → f1 j = ma M 41 j) → Wp (d + 10) 0 211 45 [some (.ref 35), some (.int (nI 115)), some (.ref 41), some (.int (nI (0))), some (.ref 6), some (.int (nI 0)), some (.int (fnd (ch t n (lk t n (lk t n p + 1))) 0 L6))] [] (hp X (KM (mA (mI M 31 (nI 1)) 41 f1) (nI (lk t n (lk t n p + 1))) e (-1)) Z) (fun o => ∃ h', o = (.inl none, h') ∧ Wp (d + 12) u 169 71 [some (.ref 35), some (.int (nI 1))] [] h' Q)) →
      Wp (d + 12) u 169 55 [some (.ref 35), some (.int (nI 1))] [] (hp X (KM M (nI p) e (-1)) Z) Q := by
    intro d u X M Z Q e hT hR kk9
    refine Wp.step rfl ?_
    refine Wp.brF rfl (by decide) ?_
    iterate 3 refine Wp.step rfl ?_
    refine Wp.brF rfl (fun q => q rfl) ?_
    refine Wp.step rfl ?_
    refine Wp.call (u1 := 0) rfl (Nat.zero_le _) (M_sel hp' (by omega) hT hR.2.2.1 hR.1 hR.2.1 hk hf (fun _ => ?_) (fun q => absurd hgood q))
    rw [hc]
    iterate 5 refine Wp.step rfl ?_
    refine Wp.putM rfl rfl rfl ?_
    rw [KM_inc]
    iterate 2 refine Wp.step rfl ?_
    refine Wp.brF rfl (fun q => q rfl) ?_
    iterate 2 refine Wp.step rfl ?_
    refine Wp.putMZ rfl rfl rfl (Or.inr rfl) ?_
    rw [KM_mI _ _ _ _ _ (by decide) (by decide) (by decide)]
    iterate 6 refine Wp.step rfl ?_
    refine Wp.call (u1 := 0) rfl (Nat.zero_le _) (M_items_s115 (B := 0) (by omega) (fun f1 y1 y2 => ?_))
    iterate 2 refine Wp.step rfl ?_
    have hT1 : MT (mA (mI M 31 (nI 1)) 41 f1) t n := MT_mA (MT_Jm hT ((Jm.refl M).mI _ rfl)) (by decide) (by decide)
    refine Wp.call (u1 := 0) rfl (Nat.zero_le _) (M_look (e := e) (f := -1) X (mA (mI M 31 (nI 1)) 41 f1) Z hT1 (by omega) ⟨_, _, rfl, ?_⟩)
    refine Wp.call rfl (Nat.zero_le _) (M_spotOf (SB6 _ _ _) SA6 _ ⟨_, _, rfl, ?_⟩)
    refine Wp.step rfl ?_
    refine (kk9 f1 y1 y2).conseq (fun o h => ?_)
    obtain ⟨h', rfl, w⟩ := h
    refine ⟨_, _, rfl, ?_⟩
    refine Wp.step rfl ?_
    exact Wp.fin rfl trivial ⟨_, _, rfl, w⟩
  have hp1 : lk t n p + 1 ≤ n := hlt
  have hge1 := lk_ge t hp1
  rcases items_115_pk hB (n - (lk t n p + 1)) (lk t n p + 1) (nI 0) U6 (Nat.le_refl _) hp1 U6_ok with ⟨q, s, a1, a2, a3, a4, aX, aM⟩ | ⟨q, a1, a2, aX, aM⟩
  · have okX : ∀ {d u : Nat} {X : pmXs} {M : pmMs} {Z : pmZs} {Q : pmO → Prop} {e : Nat} {c : Option Value}, 12 ≤ d → XT X t n → XRs X kk ff r k f → (∀ X1, Jx X X1 → XT X1 t n → XRs X1 kk ff s k f → Wp d u 92 194 [some (.ref 14), some (.int (bB true)), some (.int (nI 1)), some (.int (nI 115))] [] (hp (PX X1 q e) M Z) Q) → Wp d u 92 44 [some (.ref 14), some (.int (bB b)), some (.int (nI 1)), c] [] (hp (PX X p e) M Z) Q := by
      intro d u X M Z Q e c hd hT hR kk9
      obtain ⟨d, rfl⟩ : ∃ d0, d = d0 + 12 := ⟨d - 12, by omega⟩
      refine keyX hT hR (fun f1 y1 y2 => ?_)
      refine aX _ _ (xA X 18 f1) M Z _ e (0) none (by omega) hT (by omega) (by rw [xA_same]; exact y1) (fun f' y3 y4 => Or.inl ⟨_, rfl, ?_⟩)
      rw [xA_same] at y4
      rw [xA_xA]
      refine Wp.step rfl ?_
      exact kk9 (xA X 18 f') ((Jx.refl X).xA _ rfl) hT ⟨hR.1, hR.2.1, grow0 y3, hR.2.2.2.1, hR.2.2.2.2⟩
    rcases aM with aM | ⟨hdup, aM⟩
    · have okM : ∀ {d u : Nat} {X : pmXs} {M : pmMs} {Z : pmZs} {Q : pmO → Prop} {e : Int32}, 12 ≤ d → MT M t n → MRs M b kk ff r k f → (∀ M1, Jm M M1 → MT M1 t n → MRs M1 true kk ff s k f → Wp d u 169 71 [some (.ref 35), some (.int (nI 1))] [] (hp X (KM M1 (nI q) e (-1)) Z) Q) → Wp d u 169 55 [some (.ref 35), some (.int (nI 1))] [] (hp X (KM M (nI p) e (-1)) Z) Q := by
        intro d u X M Z Q e hd hT hR kk9
        obtain ⟨d, rfl⟩ : ∃ d0, d = d0 + 12 := ⟨d - 12, by omega⟩
        refine keyM hT hR (fun f1 y1 y2 => ?_)
        have hT1 : MT (mA (mI M 31 (nI 1)) 41 f1) t n := MT_mA (MT_Jm hT ((Jm.refl M).mI _ rfl)) (by decide) (by decide)
        refine aM _ _ X (mA (mI M 31 (nI 1)) 41 f1) Z _ e (0) (by omega) hT1 (by omega) (by rw [mA_same]; exact y1) (fun f' y3 y4 => ⟨_, rfl, ?_⟩)
        rw [mA_same] at y4
        rw [mA_mA]
        have y5 : ∀ j, (j < 0 ∨ 0 + 2 ≤ j) → f' j = ma M 41 j := fun j hj => (y4 j hj).trans (y2 j hj)
        refine kk9 (mA (mI M 31 (nI 1)) 41 f') (((Jm.refl M).mI _ rfl).mA _ rfl) (MT_mA (MT_Jm hT ((Jm.refl M).mI _ rfl)) (by decide) (by decide)) ?_
        obtain ⟨h1, h2, h3, h4, h5, h6⟩ := hR
        exact ⟨h1, h2, rfl, grow0 y3, h5, h6⟩
      rcases ih q true kk ff s k f (by omega) a2 a3 (RB_r hRB a4) hk hf with ⟨q2, K, F, r', k', f', b1, b2, b3, b4, b5, b6, bX, bM⟩ | ⟨q2, b1, b2, bX, bM⟩
      · refine Or.inl ⟨q2, K, F, r', k', f', by omega, b2, b3, b4, b5, b6, ?_, ?_⟩
        · intro d u X M Z Q e c hd hT hR hQ
          exact okX hd hT hR (fun X1 j1 t1 r1 => bX d u X1 M Z Q e _ hd t1 r1 (fun X' j2 r2 => hQ X' (j1.trans j2) r2))
        · intro d u X M Z Q e hd hT hR hQ
          exact okM hd hT hR (fun M1 j1 t1 r1 => bM d u X M1 Z Q e hd t1 r1 (fun M' b' j2 r2 => hQ M' b' (j1.trans j2) r2))
      · refine Or.inr ⟨q2, by omega, b2, ?_, ?_⟩
        · intro d u X M Z Q e c hd hT hR hQ
          exact okX hd hT hR (fun X1 j1 t1 r1 => bX d u X1 M Z Q e _ hd t1 r1 (fun X' j2 => hQ X' (j1.trans j2)))
        · intro d u X M Z Q e hd hT hR hQ
          exact okM hd hT hR (fun M1 j1 t1 r1 => bM d u X M1 Z Q e hd t1 r1 (fun M' a j2 => hQ M' a (j1.trans j2)))
    · refine Or.inr ⟨q, by omega, a2, ?_, ?_⟩
      · intro d u X M Z Q e c hd hT hR hQ
        refine okX hd hT hR (fun X1 j1 t1 _ => X_realm_bad a2 a3 ?_ ?_ (by omega) t1 (hQ X1 j1))
        · intro h; rw [h] at hdup; revert hdup; decide
        · intro h; rw [h] at hdup; revert hdup; decide
      · intro d u X M Z Q e hd hT hR hQ
        have h240 := MT_le hT
        obtain ⟨d, rfl⟩ : ∃ d0, d = d0 + 12 := ⟨d - 12, by omega⟩
        refine keyM hT hR (fun f1 y1 y2 => ?_)
        have hT1 : MT (mA (mI M 31 (nI 1)) 41 f1) t n := MT_mA (MT_Jm hT ((Jm.refl M).mI _ rfl)) (by decide) (by decide)
        refine aM _ _ X (mA (mI M 31 (nI 1)) 41 f1) Z _ e (0) (by omega) hT1 (by omega) (fun f' y4 a => ⟨_, rfl, ?_⟩)
        exact M_realm_bad (by omega) (hQ _ _ ((((Jm.refl M).mI _ rfl).mA _ rfl).mA _ rfl))
  · refine Or.inr ⟨q, by omega, a2, ?_, ?_⟩
    · intro d u X M Z Q e c hd hT hR hQ
      obtain ⟨d, rfl⟩ : ∃ d0, d = d0 + 12 := ⟨d - 12, by omega⟩
      refine keyX hT hR (fun f1 y1 y2 => ?_)
      exact aX _ _ (xA X 18 f1) M Z _ e (0) none (by omega) hT (by omega) (fun f' y4 => Or.inr ⟨_, rfl, hQ _ (((Jx.refl X).xA _ rfl).xA _ rfl)⟩)
    · intro d u X M Z Q e hd hT hR hQ
      have h240 := MT_le hT
      obtain ⟨d, rfl⟩ : ∃ d0, d = d0 + 12 := ⟨d - 12, by omega⟩
      refine keyM hT hR (fun f1 y1 y2 => ?_)
      have hT1 : MT (mA (mI M 31 (nI 1)) 41 f1) t n := MT_mA (MT_Jm hT ((Jm.refl M).mI _ rfl)) (by decide) (by decide)
      refine aM _ _ X (mA (mI M 31 (nI 1)) 41 f1) Z _ e (0) (by omega) hT1 (by omega) (fun f' y4 a => ⟨_, rfl, ?_⟩)
      exact M_realm_bad (by omega) (hQ _ _ ((((Jm.refl M).mI _ rfl).mA _ rfl).mA _ rfl))
theorem clause_107 {t : Nat → Int32} {n p : Nat} {b : Bool} {kk ff : Nat} {r k f : Nat → Int32} (hB : ∀ j, j < n → isB (t j)) (hp' : p ≤ n) (hc : ch t n (lk t n p) = nI 107) (hg : kk < 4) (hRB : RB r k f kk ff) (hk : kk ≤ 4) (hf : ff ≤ 8) (ih : ∀ q b' kk' ff' r' k' f', lk t n p < q → q ≤ n → lk t n q = q → RB r' k' f' kk' ff' → kk' ≤ 4 → ff' ≤ 8 → RPk t n 194 71 q b' kk' ff' r' k' f') : RPk t n 44 55 p b kk ff r k f := by
  have hge := lk_ge t hp'
  have hlt : lk t n p < n := ch_ne hc (by decide)
  have hgood : good (ch t n (lk t n p)) b kk ff := by rw [hc]; exact Or.inr (Or.inl ⟨rfl, hg⟩)
  have keyX : ∀ {d u : Nat} {X : pmXs} {M : pmMs} {Z : pmZs} {Q : pmO → Prop} {e : Nat} {c : Option Value}, XT X t n → XRs X kk ff r k f →
      (∀ f1, (∀ j, j < 3 → f1 (3 * kk + j) = U8 j) → (∀ j, (j < 3 * kk ∨ 3 * kk + 3 ≤ j) → f1 j = xa X 19 j) → Wp (d + 11) 0 105 31 [some (.ref 14), some (.int (nI 107)), some (.ref 19), some (.int (nI (3 * kk))), some (.int (nI 3)), some (.int (nI 0)), none] [] (hp (PX (xA X 19 f1) (lk t n p + 1) e) M Z) (fun o => (∃ h', o = (.inl none, h') ∧ Wp (d + 12) u 92 155 [some (.ref 14), some (.int (bB b)), some (.int (nI 1)), some (.int (nI 107))] [] h' Q) ∨ ∃ h', o = (.inr 2, h') ∧ Q (.inr 2, h'))) →
      Wp (d + 12) u 92 44 [some (.ref 14), some (.int (bB b)), some (.int (nI 1)), c] [] (hp (PX X p e) M Z) Q := by
    intro d u X M Z Q e c hT hR kk9
    refine X_sel hp' (by omega) hT hR.1 hR.2.1 hk hf (fun _ => ?_) (fun q => absurd hgood q)
    rw [hc]
    iterate 5 refine Wp.step rfl ?_
    refine Wp.putX rfl rfl rfl ?_
    rw [PX_inc]
    iterate 2 refine Wp.step rfl ?_
    refine Wp.brT rfl (by decide) ?_
    iterate 2 refine Wp.step rfl ?_
    refine Wp.brF rfl (fun q => q rfl) ?_
    iterate 9 refine Wp.step rfl ?_
    have e3 : nI 3 * (PX X (lk t n p + 1) e).1 11 = nI (3 * kk) := by rw [show (PX X (lk t n p + 1) e).1 11 = nI kk from hR.1, pk_mul]
    simp only [e3]
    refine Wp.callF (u1 := 0) rfl rfl (Nat.zero_le _) (X_items_s107 (B := 3 * kk) (by omega) (fun f1 y1 y2 => ?_))
    refine (kk9 f1 y1 y2).conseq (fun o h => ?_)
    rcases h with ⟨h', rfl, w⟩ | ⟨h', rfl, w⟩
    · exact Or.inl ⟨_, _, rfl, w⟩
    · exact Or.inr ⟨_, _, rfl, w⟩
  have keyM : ∀ {d u : Nat} {X : pmXs} {M : pmMs} {Z : pmZs} {Q : pmO → Prop} {e : Int32}, MT M t n → MRs M b kk ff r k f →
      (∀ f1, (∀ j, j < 3 → f1 (3 * kk + j) = U8 j) → (∀ j, (j < 3 * kk ∨ 3 * kk + 3 ≤ j) → f1 j = ma M 43 j) → Wp (d + 10) 0 211 45 [some (.ref 35), some (.int (nI 107)), some (.ref 43), some (.int (nI (3 * kk))), some (.ref 8), some (.int (nI 0)), some (.int (fnd (ch t n (lk t n (lk t n p + 1))) 0 L8))] [] (hp X (KM (mA (mI M 28 (nI (kk + 1))) 43 f1) (nI (lk t n (lk t n p + 1))) e (-1)) Z) (fun o => ∃ h', o = (.inl none, h') ∧ Wp (d + 12) u 169 71 [some (.ref 35), some (.int (nI 1))] [] h' Q)) →
      Wp (d + 12) u 169 55 [some (.ref 35), some (.int (nI 1))] [] (hp X (KM M (nI p) e (-1)) Z) Q := by
    intro d u X M Z Q e hT hR kk9
    refine Wp.step rfl ?_
    refine Wp.brF rfl (by decide) ?_
    iterate 3 refine Wp.step rfl ?_
    refine Wp.brF rfl (fun q => q rfl) ?_
    refine Wp.step rfl ?_
    refine Wp.call (u1 := 0) rfl (Nat.zero_le _) (M_sel hp' (by omega) hT hR.2.2.1 hR.1 hR.2.1 hk hf (fun _ => ?_) (fun q => absurd hgood q))
    rw [hc]
    iterate 5 refine Wp.step rfl ?_
    refine Wp.putM rfl rfl rfl ?_
    rw [KM_inc]
    iterate 2 refine Wp.step rfl ?_
    refine Wp.brT rfl (by decide) ?_
    iterate 2 refine Wp.step rfl ?_
    refine Wp.brF rfl (fun q => q rfl) ?_
    iterate 5 refine Wp.step rfl ?_
    refine Wp.putM rfl rfl rfl ?_
    rw [show mI (KM M (nI (lk t n p + 1)) e (-1)) 28 ((KM M (nI (lk t n p + 1)) e (-1)).1 28 + nI 1) = KM (mI M 28 (nI (kk + 1))) (nI (lk t n p + 1)) e (-1) by rw [show (KM M (nI (lk t n p + 1)) e (-1)).1 28 = nI kk from hR.1, nI_add, KM_mI _ _ _ _ _ (by decide) (by decide) (by decide)]]
    iterate 11 refine Wp.step rfl ?_
    have e3 : nI 3 * ((KM (mI M 28 (nI (kk + 1))) (nI (lk t n p + 1)) e (-1)).1 28 - nI 1) = nI (3 * kk) := by rw [show (KM (mI M 28 (nI (kk + 1))) (nI (lk t n p + 1)) e (-1)).1 28 = nI (kk + 1) from rfl, pk_sub (by omega), Nat.add_sub_cancel, pk_mul]
    simp only [e3]
    refine Wp.call (u1 := 0) rfl (Nat.zero_le _) (M_items_s107 (B := 3 * kk) (by omega) (fun f1 y1 y2 => ?_))
    iterate 2 refine Wp.step rfl ?_
    have hT1 : MT (mA (mI M 28 (nI (kk + 1))) 43 f1) t n := MT_mA (MT_Jm hT ((Jm.refl M).mI _ rfl)) (by decide) (by decide)
    refine Wp.call (u1 := 0) rfl (Nat.zero_le _) (M_look (e := e) (f := -1) X (mA (mI M 28 (nI (kk + 1))) 43 f1) Z hT1 (by omega) ⟨_, _, rfl, ?_⟩)
    refine Wp.call rfl (Nat.zero_le _) (M_spotOf (SB8 _ _ _) SA8 _ ⟨_, _, rfl, ?_⟩)
    refine Wp.step rfl ?_
    refine (kk9 f1 y1 y2).conseq (fun o h => ?_)
    obtain ⟨h', rfl, w⟩ := h
    refine ⟨_, _, rfl, ?_⟩
    refine Wp.step rfl ?_
    exact Wp.fin rfl trivial ⟨_, _, rfl, w⟩
  have hp1 : lk t n p + 1 ≤ n := hlt
  have hge1 := lk_ge t hp1
  rcases items_107_pk hB (n - (lk t n p + 1)) (lk t n p + 1) (nI 0) U8 (Nat.le_refl _) hp1 U8_ok with ⟨q, s, a1, a2, a3, a4, aX, aM⟩ | ⟨q, a1, a2, aX, aM⟩
  · have okX : ∀ {d u : Nat} {X : pmXs} {M : pmMs} {Z : pmZs} {Q : pmO → Prop} {e : Nat} {c : Option Value}, 12 ≤ d → XT X t n → XRs X kk ff r k f → (∀ X1, Jx X X1 → XT X1 t n → XRs X1 (kk + 1) ff r (kx 3 k kk s) f → Wp d u 92 194 [some (.ref 14), some (.int (bB b)), some (.int (nI 1)), some (.int (nI 107))] [] (hp (PX X1 q e) M Z) Q) → Wp d u 92 44 [some (.ref 14), some (.int (bB b)), some (.int (nI 1)), c] [] (hp (PX X p e) M Z) Q := by
      intro d u X M Z Q e c hd hT hR kk9
      obtain ⟨d, rfl⟩ : ∃ d0, d = d0 + 12 := ⟨d - 12, by omega⟩
      refine keyX hT hR (fun f1 y1 y2 => ?_)
      refine aX _ _ (xA X 19 f1) M Z _ e (3 * kk) none (by omega) hT (by omega) (by rw [xA_same]; exact y1) (fun f' y3 y4 => Or.inl ⟨_, rfl, ?_⟩)
      rw [xA_same] at y4
      rw [xA_xA]
      iterate 5 refine Wp.step rfl ?_
      refine Wp.putX rfl rfl rfl ?_
      rw [show xI (PX (xA X 19 f') q e) 11 ((PX (xA X 19 f') q e).1 11 + nI 1) = PX (xI (xA X 19 f') 11 (nI (kk + 1))) q e by rw [show (PX (xA X 19 f') q e).1 11 = nI kk from hR.1, nI_add, PX_xI _ _ _ _ (by decide) (by decide)]]
      refine Wp.step rfl ?_
      exact kk9 (xI (xA X 19 f') 11 (nI (kk + 1))) (((Jx.refl X).xA _ rfl).xI _ rfl) hT ⟨rfl, hR.2.1, hR.2.2.1, grow hR.2.2.2.1 y3 (fun j hj => (y4 j hj).trans (y2 j hj)), hR.2.2.2.2⟩
    rcases aM with aM | ⟨hdup, aM⟩
    · have okM : ∀ {d u : Nat} {X : pmXs} {M : pmMs} {Z : pmZs} {Q : pmO → Prop} {e : Int32}, 12 ≤ d → MT M t n → MRs M b kk ff r k f → (∀ M1, Jm M M1 → MT M1 t n → MRs M1 b (kk + 1) ff r (kx 3 k kk s) f → Wp d u 169 71 [some (.ref 35), some (.int (nI 1))] [] (hp X (KM M1 (nI q) e (-1)) Z) Q) → Wp d u 169 55 [some (.ref 35), some (.int (nI 1))] [] (hp X (KM M (nI p) e (-1)) Z) Q := by
        intro d u X M Z Q e hd hT hR kk9
        obtain ⟨d, rfl⟩ : ∃ d0, d = d0 + 12 := ⟨d - 12, by omega⟩
        refine keyM hT hR (fun f1 y1 y2 => ?_)
        have hT1 : MT (mA (mI M 28 (nI (kk + 1))) 43 f1) t n := MT_mA (MT_Jm hT ((Jm.refl M).mI _ rfl)) (by decide) (by decide)
        refine aM _ _ X (mA (mI M 28 (nI (kk + 1))) 43 f1) Z _ e (3 * kk) (by omega) hT1 (by omega) (by rw [mA_same]; exact y1) (fun f' y3 y4 => ⟨_, rfl, ?_⟩)
        rw [mA_same] at y4
        rw [mA_mA]
        have y5 : ∀ j, (j < 3 * kk ∨ 3 * kk + 3 ≤ j) → f' j = ma M 43 j := fun j hj => (y4 j hj).trans (y2 j hj)
        refine kk9 (mA (mI M 28 (nI (kk + 1))) 43 f') (((Jm.refl M).mI _ rfl).mA _ rfl) (MT_mA (MT_Jm hT ((Jm.refl M).mI _ rfl)) (by decide) (by decide)) ?_
        obtain ⟨h1, h2, h3, h4, h5, h6⟩ := hR
        exact ⟨rfl, h2, h3, h4, grow h5 y3 y5, h6⟩
      rcases ih q b (kk + 1) ff r (kx 3 k kk s) f (by omega) a2 a3 (RB_k hRB a4) (by omega) hf with ⟨q2, K, F, r', k', f', b1, b2, b3, b4, b5, b6, bX, bM⟩ | ⟨q2, b1, b2, bX, bM⟩
      · refine Or.inl ⟨q2, K, F, r', k', f', by omega, b2, b3, b4, b5, b6, ?_, ?_⟩
        · intro d u X M Z Q e c hd hT hR hQ
          exact okX hd hT hR (fun X1 j1 t1 r1 => bX d u X1 M Z Q e _ hd t1 r1 (fun X' j2 r2 => hQ X' (j1.trans j2) r2))
        · intro d u X M Z Q e hd hT hR hQ
          exact okM hd hT hR (fun M1 j1 t1 r1 => bM d u X M1 Z Q e hd t1 r1 (fun M' b' j2 r2 => hQ M' b' (j1.trans j2) r2))
      · refine Or.inr ⟨q2, by omega, b2, ?_, ?_⟩
        · intro d u X M Z Q e c hd hT hR hQ
          exact okX hd hT hR (fun X1 j1 t1 r1 => bX d u X1 M Z Q e _ hd t1 r1 (fun X' j2 => hQ X' (j1.trans j2)))
        · intro d u X M Z Q e hd hT hR hQ
          exact okM hd hT hR (fun M1 j1 t1 r1 => bM d u X M1 Z Q e hd t1 r1 (fun M' a j2 => hQ M' a (j1.trans j2)))
    · refine Or.inr ⟨q, by omega, a2, ?_, ?_⟩
      · intro d u X M Z Q e c hd hT hR hQ
        refine okX hd hT hR (fun X1 j1 t1 _ => X_realm_bad a2 a3 ?_ ?_ (by omega) t1 (hQ X1 j1))
        · intro h; rw [h] at hdup; revert hdup; decide
        · intro h; rw [h] at hdup; revert hdup; decide
      · intro d u X M Z Q e hd hT hR hQ
        have h240 := MT_le hT
        obtain ⟨d, rfl⟩ : ∃ d0, d = d0 + 12 := ⟨d - 12, by omega⟩
        refine keyM hT hR (fun f1 y1 y2 => ?_)
        have hT1 : MT (mA (mI M 28 (nI (kk + 1))) 43 f1) t n := MT_mA (MT_Jm hT ((Jm.refl M).mI _ rfl)) (by decide) (by decide)
        refine aM _ _ X (mA (mI M 28 (nI (kk + 1))) 43 f1) Z _ e (3 * kk) (by omega) hT1 (by omega) (fun f' y4 a => ⟨_, rfl, ?_⟩)
        exact M_realm_bad (by omega) (hQ _ _ ((((Jm.refl M).mI _ rfl).mA _ rfl).mA _ rfl))
  · refine Or.inr ⟨q, by omega, a2, ?_, ?_⟩
    · intro d u X M Z Q e c hd hT hR hQ
      obtain ⟨d, rfl⟩ : ∃ d0, d = d0 + 12 := ⟨d - 12, by omega⟩
      refine keyX hT hR (fun f1 y1 y2 => ?_)
      exact aX _ _ (xA X 19 f1) M Z _ e (3 * kk) none (by omega) hT (by omega) (fun f' y4 => Or.inr ⟨_, rfl, hQ _ (((Jx.refl X).xA _ rfl).xA _ rfl)⟩)
    · intro d u X M Z Q e hd hT hR hQ
      have h240 := MT_le hT
      obtain ⟨d, rfl⟩ : ∃ d0, d = d0 + 12 := ⟨d - 12, by omega⟩
      refine keyM hT hR (fun f1 y1 y2 => ?_)
      have hT1 : MT (mA (mI M 28 (nI (kk + 1))) 43 f1) t n := MT_mA (MT_Jm hT ((Jm.refl M).mI _ rfl)) (by decide) (by decide)
      refine aM _ _ X (mA (mI M 28 (nI (kk + 1))) 43 f1) Z _ e (3 * kk) (by omega) hT1 (by omega) (fun f' y4 a => ⟨_, rfl, ?_⟩)
      exact M_realm_bad (by omega) (hQ _ _ ((((Jm.refl M).mI _ rfl).mA _ rfl).mA _ rfl))
theorem clause_102 {t : Nat → Int32} {n p : Nat} {b : Bool} {kk ff : Nat} {r k f : Nat → Int32} (hB : ∀ j, j < n → isB (t j)) (hp' : p ≤ n) (hc : ch t n (lk t n p) = nI 102) (hg : ff < 8) (hRB : RB r k f kk ff) (hk : kk ≤ 4) (hf : ff ≤ 8) (ih : ∀ q b' kk' ff' r' k' f', lk t n p < q → q ≤ n → lk t n q = q → RB r' k' f' kk' ff' → kk' ≤ 4 → ff' ≤ 8 → RPk t n 194 71 q b' kk' ff' r' k' f') : RPk t n 44 55 p b kk ff r k f := by
  have hge := lk_ge t hp'
  have hlt : lk t n p < n := ch_ne hc (by decide)
  have hgood : good (ch t n (lk t n p)) b kk ff := by rw [hc]; exact Or.inr (Or.inr ⟨rfl, hg⟩)
  have keyX : ∀ {d u : Nat} {X : pmXs} {M : pmMs} {Z : pmZs} {Q : pmO → Prop} {e : Nat} {c : Option Value}, XT X t n → XRs X kk ff r k f →
      (∀ f1, (∀ j, j < 4 → f1 (4 * ff + j) = U10 j) → (∀ j, (j < 4 * ff ∨ 4 * ff + 4 ≤ j) → f1 j = xa X 20 j) → Wp (d + 11) 0 105 31 [some (.ref 14), some (.int (nI 102)), some (.ref 20), some (.int (nI (4 * ff))), some (.int (nI 4)), some (.int (nI 0)), none] [] (hp (PX (xA X 20 f1) (lk t n p + 1) e) M Z) (fun o => (∃ h', o = (.inl none, h') ∧ Wp (d + 12) u 92 184 [some (.ref 14), some (.int (bB b)), some (.int (nI 1)), some (.int (nI 102))] [] h' Q) ∨ ∃ h', o = (.inr 2, h') ∧ Q (.inr 2, h'))) →
      Wp (d + 12) u 92 44 [some (.ref 14), some (.int (bB b)), some (.int (nI 1)), c] [] (hp (PX X p e) M Z) Q := by
    intro d u X M Z Q e c hT hR kk9
    refine X_sel hp' (by omega) hT hR.1 hR.2.1 hk hf (fun _ => ?_) (fun q => absurd hgood q)
    rw [hc]
    iterate 5 refine Wp.step rfl ?_
    refine Wp.putX rfl rfl rfl ?_
    rw [PX_inc]
    iterate 2 refine Wp.step rfl ?_
    refine Wp.brT rfl (by decide) ?_
    iterate 2 refine Wp.step rfl ?_
    refine Wp.brT rfl (by decide) ?_
    iterate 9 refine Wp.step rfl ?_
    have e3 : nI 4 * (PX X (lk t n p + 1) e).1 12 = nI (4 * ff) := by rw [show (PX X (lk t n p + 1) e).1 12 = nI ff from hR.2.1, pk_mul]
    simp only [e3]
    refine Wp.callF (u1 := 0) rfl rfl (Nat.zero_le _) (X_items_s102 (B := 4 * ff) (by omega) (fun f1 y1 y2 => ?_))
    refine (kk9 f1 y1 y2).conseq (fun o h => ?_)
    rcases h with ⟨h', rfl, w⟩ | ⟨h', rfl, w⟩
    · exact Or.inl ⟨_, _, rfl, w⟩
    · exact Or.inr ⟨_, _, rfl, w⟩
  have keyM : ∀ {d u : Nat} {X : pmXs} {M : pmMs} {Z : pmZs} {Q : pmO → Prop} {e : Int32}, MT M t n → MRs M b kk ff r k f →
      (∀ f1, (∀ j, j < 4 → f1 (4 * ff + j) = U10 j) → (∀ j, (j < 4 * ff ∨ 4 * ff + 4 ≤ j) → f1 j = ma M 45 j) → Wp (d + 10) 0 211 45 [some (.ref 35), some (.int (nI 102)), some (.ref 45), some (.int (nI (4 * ff))), some (.ref 10), some (.int (nI 0)), some (.int (fnd (ch t n (lk t n (lk t n p + 1))) 0 L10))] [] (hp X (KM (mA (mI M 29 (nI (ff + 1))) 45 f1) (nI (lk t n (lk t n p + 1))) e (-1)) Z) (fun o => ∃ h', o = (.inl none, h') ∧ Wp (d + 12) u 169 71 [some (.ref 35), some (.int (nI 1))] [] h' Q)) →
      Wp (d + 12) u 169 55 [some (.ref 35), some (.int (nI 1))] [] (hp X (KM M (nI p) e (-1)) Z) Q := by
    intro d u X M Z Q e hT hR kk9
    refine Wp.step rfl ?_
    refine Wp.brF rfl (by decide) ?_
    iterate 3 refine Wp.step rfl ?_
    refine Wp.brF rfl (fun q => q rfl) ?_
    refine Wp.step rfl ?_
    refine Wp.call (u1 := 0) rfl (Nat.zero_le _) (M_sel hp' (by omega) hT hR.2.2.1 hR.1 hR.2.1 hk hf (fun _ => ?_) (fun q => absurd hgood q))
    rw [hc]
    iterate 5 refine Wp.step rfl ?_
    refine Wp.putM rfl rfl rfl ?_
    rw [KM_inc]
    iterate 2 refine Wp.step rfl ?_
    refine Wp.brT rfl (by decide) ?_
    iterate 2 refine Wp.step rfl ?_
    refine Wp.brT rfl (by decide) ?_
    iterate 5 refine Wp.step rfl ?_
    refine Wp.putM rfl rfl rfl ?_
    rw [show mI (KM M (nI (lk t n p + 1)) e (-1)) 29 ((KM M (nI (lk t n p + 1)) e (-1)).1 29 + nI 1) = KM (mI M 29 (nI (ff + 1))) (nI (lk t n p + 1)) e (-1) by rw [show (KM M (nI (lk t n p + 1)) e (-1)).1 29 = nI ff from hR.2.1, nI_add, KM_mI _ _ _ _ _ (by decide) (by decide) (by decide)]]
    iterate 11 refine Wp.step rfl ?_
    have e3 : nI 4 * ((KM (mI M 29 (nI (ff + 1))) (nI (lk t n p + 1)) e (-1)).1 29 - nI 1) = nI (4 * ff) := by rw [show (KM (mI M 29 (nI (ff + 1))) (nI (lk t n p + 1)) e (-1)).1 29 = nI (ff + 1) from rfl, pk_sub (by omega), Nat.add_sub_cancel, pk_mul]
    simp only [e3]
    refine Wp.call (u1 := 0) rfl (Nat.zero_le _) (M_items_s102 (B := 4 * ff) (by omega) (fun f1 y1 y2 => ?_))
    iterate 2 refine Wp.step rfl ?_
    have hT1 : MT (mA (mI M 29 (nI (ff + 1))) 45 f1) t n := MT_mA (MT_Jm hT ((Jm.refl M).mI _ rfl)) (by decide) (by decide)
    refine Wp.call (u1 := 0) rfl (Nat.zero_le _) (M_look (e := e) (f := -1) X (mA (mI M 29 (nI (ff + 1))) 45 f1) Z hT1 (by omega) ⟨_, _, rfl, ?_⟩)
    refine Wp.call rfl (Nat.zero_le _) (M_spotOf (SB10 _ _ _) SA10 _ ⟨_, _, rfl, ?_⟩)
    refine Wp.step rfl ?_
    refine (kk9 f1 y1 y2).conseq (fun o h => ?_)
    obtain ⟨h', rfl, w⟩ := h
    refine ⟨_, _, rfl, ?_⟩
    skip
    exact Wp.fin rfl trivial ⟨_, _, rfl, w⟩
  have hp1 : lk t n p + 1 ≤ n := hlt
  have hge1 := lk_ge t hp1
  rcases items_102_pk hB (n - (lk t n p + 1)) (lk t n p + 1) (nI 0) U10 (Nat.le_refl _) hp1 U10_ok with ⟨q, s, a1, a2, a3, a4, aX, aM⟩ | ⟨q, a1, a2, aX, aM⟩
  · have okX : ∀ {d u : Nat} {X : pmXs} {M : pmMs} {Z : pmZs} {Q : pmO → Prop} {e : Nat} {c : Option Value}, 12 ≤ d → XT X t n → XRs X kk ff r k f → (∀ X1, Jx X X1 → XT X1 t n → XRs X1 kk (ff + 1) r k (kx 4 f ff s) → Wp d u 92 194 [some (.ref 14), some (.int (bB b)), some (.int (nI 1)), some (.int (nI 102))] [] (hp (PX X1 q e) M Z) Q) → Wp d u 92 44 [some (.ref 14), some (.int (bB b)), some (.int (nI 1)), c] [] (hp (PX X p e) M Z) Q := by
      intro d u X M Z Q e c hd hT hR kk9
      obtain ⟨d, rfl⟩ : ∃ d0, d = d0 + 12 := ⟨d - 12, by omega⟩
      refine keyX hT hR (fun f1 y1 y2 => ?_)
      refine aX _ _ (xA X 20 f1) M Z _ e (4 * ff) none (by omega) hT (by omega) (by rw [xA_same]; exact y1) (fun f' y3 y4 => Or.inl ⟨_, rfl, ?_⟩)
      rw [xA_same] at y4
      rw [xA_xA]
      iterate 5 refine Wp.step rfl ?_
      refine Wp.putX rfl rfl rfl ?_
      rw [show xI (PX (xA X 20 f') q e) 12 ((PX (xA X 20 f') q e).1 12 + nI 1) = PX (xI (xA X 20 f') 12 (nI (ff + 1))) q e by rw [show (PX (xA X 20 f') q e).1 12 = nI ff from hR.2.1, nI_add, PX_xI _ _ _ _ (by decide) (by decide)]]
      exact kk9 (xI (xA X 20 f') 12 (nI (ff + 1))) (((Jx.refl X).xA _ rfl).xI _ rfl) hT ⟨hR.1, rfl, hR.2.2.1, hR.2.2.2.1, grow hR.2.2.2.2 y3 (fun j hj => (y4 j hj).trans (y2 j hj))⟩
    rcases aM with aM | ⟨hdup, aM⟩
    · have okM : ∀ {d u : Nat} {X : pmXs} {M : pmMs} {Z : pmZs} {Q : pmO → Prop} {e : Int32}, 12 ≤ d → MT M t n → MRs M b kk ff r k f → (∀ M1, Jm M M1 → MT M1 t n → MRs M1 b kk (ff + 1) r k (kx 4 f ff s) → Wp d u 169 71 [some (.ref 35), some (.int (nI 1))] [] (hp X (KM M1 (nI q) e (-1)) Z) Q) → Wp d u 169 55 [some (.ref 35), some (.int (nI 1))] [] (hp X (KM M (nI p) e (-1)) Z) Q := by
        intro d u X M Z Q e hd hT hR kk9
        obtain ⟨d, rfl⟩ : ∃ d0, d = d0 + 12 := ⟨d - 12, by omega⟩
        refine keyM hT hR (fun f1 y1 y2 => ?_)
        have hT1 : MT (mA (mI M 29 (nI (ff + 1))) 45 f1) t n := MT_mA (MT_Jm hT ((Jm.refl M).mI _ rfl)) (by decide) (by decide)
        refine aM _ _ X (mA (mI M 29 (nI (ff + 1))) 45 f1) Z _ e (4 * ff) (by omega) hT1 (by omega) (by rw [mA_same]; exact y1) (fun f' y3 y4 => ⟨_, rfl, ?_⟩)
        rw [mA_same] at y4
        rw [mA_mA]
        have y5 : ∀ j, (j < 4 * ff ∨ 4 * ff + 4 ≤ j) → f' j = ma M 45 j := fun j hj => (y4 j hj).trans (y2 j hj)
        refine kk9 (mA (mI M 29 (nI (ff + 1))) 45 f') (((Jm.refl M).mI _ rfl).mA _ rfl) (MT_mA (MT_Jm hT ((Jm.refl M).mI _ rfl)) (by decide) (by decide)) ?_
        obtain ⟨h1, h2, h3, h4, h5, h6⟩ := hR
        exact ⟨h1, rfl, h3, h4, h5, grow h6 y3 y5⟩
      rcases ih q b kk (ff + 1) r k (kx 4 f ff s) (by omega) a2 a3 (RB_f hRB a4) hk (by omega) with ⟨q2, K, F, r', k', f', b1, b2, b3, b4, b5, b6, bX, bM⟩ | ⟨q2, b1, b2, bX, bM⟩
      · refine Or.inl ⟨q2, K, F, r', k', f', by omega, b2, b3, b4, b5, b6, ?_, ?_⟩
        · intro d u X M Z Q e c hd hT hR hQ
          exact okX hd hT hR (fun X1 j1 t1 r1 => bX d u X1 M Z Q e _ hd t1 r1 (fun X' j2 r2 => hQ X' (j1.trans j2) r2))
        · intro d u X M Z Q e hd hT hR hQ
          exact okM hd hT hR (fun M1 j1 t1 r1 => bM d u X M1 Z Q e hd t1 r1 (fun M' b' j2 r2 => hQ M' b' (j1.trans j2) r2))
      · refine Or.inr ⟨q2, by omega, b2, ?_, ?_⟩
        · intro d u X M Z Q e c hd hT hR hQ
          exact okX hd hT hR (fun X1 j1 t1 r1 => bX d u X1 M Z Q e _ hd t1 r1 (fun X' j2 => hQ X' (j1.trans j2)))
        · intro d u X M Z Q e hd hT hR hQ
          exact okM hd hT hR (fun M1 j1 t1 r1 => bM d u X M1 Z Q e hd t1 r1 (fun M' a j2 => hQ M' a (j1.trans j2)))
    · refine Or.inr ⟨q, by omega, a2, ?_, ?_⟩
      · intro d u X M Z Q e c hd hT hR hQ
        refine okX hd hT hR (fun X1 j1 t1 _ => X_realm_bad a2 a3 ?_ ?_ (by omega) t1 (hQ X1 j1))
        · intro h; rw [h] at hdup; revert hdup; decide
        · intro h; rw [h] at hdup; revert hdup; decide
      · intro d u X M Z Q e hd hT hR hQ
        have h240 := MT_le hT
        obtain ⟨d, rfl⟩ : ∃ d0, d = d0 + 12 := ⟨d - 12, by omega⟩
        refine keyM hT hR (fun f1 y1 y2 => ?_)
        have hT1 : MT (mA (mI M 29 (nI (ff + 1))) 45 f1) t n := MT_mA (MT_Jm hT ((Jm.refl M).mI _ rfl)) (by decide) (by decide)
        refine aM _ _ X (mA (mI M 29 (nI (ff + 1))) 45 f1) Z _ e (4 * ff) (by omega) hT1 (by omega) (fun f' y4 a => ⟨_, rfl, ?_⟩)
        exact M_realm_bad (by omega) (hQ _ _ ((((Jm.refl M).mI _ rfl).mA _ rfl).mA _ rfl))
  · refine Or.inr ⟨q, by omega, a2, ?_, ?_⟩
    · intro d u X M Z Q e c hd hT hR hQ
      obtain ⟨d, rfl⟩ : ∃ d0, d = d0 + 12 := ⟨d - 12, by omega⟩
      refine keyX hT hR (fun f1 y1 y2 => ?_)
      exact aX _ _ (xA X 20 f1) M Z _ e (4 * ff) none (by omega) hT (by omega) (fun f' y4 => Or.inr ⟨_, rfl, hQ _ (((Jx.refl X).xA _ rfl).xA _ rfl)⟩)
    · intro d u X M Z Q e hd hT hR hQ
      have h240 := MT_le hT
      obtain ⟨d, rfl⟩ : ∃ d0, d = d0 + 12 := ⟨d - 12, by omega⟩
      refine keyM hT hR (fun f1 y1 y2 => ?_)
      have hT1 : MT (mA (mI M 29 (nI (ff + 1))) 45 f1) t n := MT_mA (MT_Jm hT ((Jm.refl M).mI _ rfl)) (by decide) (by decide)
      refine aM _ _ X (mA (mI M 29 (nI (ff + 1))) 45 f1) Z _ e (4 * ff) (by omega) hT1 (by omega) (fun f' y4 a => ⟨_, rfl, ?_⟩)
      exact M_realm_bad (by omega) (hQ _ _ ((((Jm.refl M).mI _ rfl).mA _ rfl).mA _ rfl))
