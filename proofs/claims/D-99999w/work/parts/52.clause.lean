/-! CLAUSES -/
theorem KM_mI (M : pmMs) (p e f : Int32) {k : Nat} (v : Int32) (h1 : k ≠ 10) (h2 : k ≠ 11) (h3 : k ≠ 12) : mI (KM M p e f) k v = KM (mI M k v) p e f := by
  show (upd (upd (upd (upd M.1 10 p) 12 e) 11 f) k v, M.2) = (upd (upd (upd (upd M.1 k v) 10 p) 12 e) 11 f, M.2)
  congr 1
  funext j
  by_cases a : j = k
  · subst a
    rw [pk_us, pk_un h2, pk_un h3, pk_un h1, pk_us]
  · rw [pk_un a]
    by_cases b : j = 11
    · subst b; rw [pk_us, pk_us]
    · rw [pk_un b, pk_un b]
      by_cases c : j = 12
      · subst c; rw [pk_us, pk_us]
      · rw [pk_un c, pk_un c]
        by_cases g : j = 10
        · subst g; rw [pk_us, pk_us]
        · rw [pk_un g, pk_un g, pk_un a]
/-- M with what was found -/
def FM (M : pmMs) (h : Bool) (f : Int32) : pmMs := mI (mI M 17 (bB h)) 14 f
theorem FM_17 (M : pmMs) (h : Bool) (f : Int32) : (FM M h f).1 17 = bB h := rfl
theorem FM_13 (M : pmMs) (h : Bool) (f : Int32) : (FM M h f).1 13 = M.1 13 := rfl
theorem FM_FM (M : pmMs) (h h2 : Bool) (f f2 : Int32) : mI (mI (FM M h f) 17 (bB h2)) 14 f2 = FM M h2 f2 := by
  show (upd (upd (upd (upd M.1 17 (bB h)) 14 f) 17 (bB h2)) 14 f2, M.2) = (upd (upd M.1 17 (bB h2)) 14 f2, M.2)
  congr 1
  funext j
  by_cases a : j = 14
  · subst a; rw [pk_us, pk_us]
  · rw [pk_un a, pk_un a]
    by_cases b : j = 17
    · subst b; rw [pk_us, pk_us]
    · rw [pk_un b, pk_un b, pk_un a, pk_un b]
def stH (h b : Bool) : Bool := h || b
def stV (h b : Bool) (v f : Int32) : Int32 := bif !h && b then v else f
theorem M_clause_end {d u q : Nat} {X : pmXs} {M : pmMs} {Z : pmZs} {Q : pmO → Prop} {h b : Bool} {f v : Int32} {l4 : Option Value} (h13 : M.1 13 = nI 121) (hQ : Q (.inl none, hp X (KM (FM M (stH h b) (stV h b v f)) (nI q) (nI 0) (-1)) Z)) : Wp d u 205 134 [some (.ref 35), some (.int (nI 121)), some (.int (bB b)), some (.int v), l4] [] (hp X (KM (FM M h f) (nI q) (nI 0) (-1)) Z) Q := by
  iterate 3 refine Wp.step rfl ?_
  refine Wp.brF rfl (fun q => q rfl) ?_
  iterate 2 refine Wp.step rfl ?_
  cases h
  · refine Wp.brF rfl (fun q => q rfl) ?_
    iterate 3 refine Wp.step rfl ?_
    refine Wp.brF rfl (fun q => q h13.symm) ?_
    refine Wp.step rfl ?_
    cases b
    · refine Wp.brF rfl (fun q => q rfl) ?_
      exact Wp.fin rfl trivial hQ
    · refine Wp.brT rfl (by decide) ?_
      iterate 2 refine Wp.step rfl ?_
      refine Wp.putMZ rfl rfl rfl (Or.inr rfl) ?_
      iterate 2 refine Wp.step rfl ?_
      refine Wp.putM rfl rfl rfl ?_
      rw [show nI 1 = bB true from rfl, KM_mI _ _ _ _ _ (by decide) (by decide) (by decide), KM_mI _ _ _ _ _ (by decide) (by decide) (by decide), FM_FM]
      exact Wp.fin rfl trivial hQ
  · refine Wp.brT rfl (show ¬ bB true = 0 by decide) ?_
    have e : stV true b v f = f := rfl
    rw [e] at hQ
    exact Wp.fin rfl trivial hQ
theorem M_clause_end_f {d u : Nat} {X : pmXs} {M : pmMs} {Z : pmZs} {Q : pmO → Prop} {a e f : Int32} {l1 l2 l3 l4 : Option Value} (hf : f ≠ -1) (hQ : Q (.inl none, hp X (KM M a e f) Z)) : Wp d u 205 134 [some (.ref 35), l1, l2, l3, l4] [] (hp X (KM M a e f) Z) Q := by
  iterate 3 refine Wp.step rfl ?_
  refine Wp.brT rfl hf ?_
  exact Wp.fin rfl trivial hQ
/-- a clause's node -/
def ClD (K lo hi r : Nat) (P : (Nat → Int32) → Bool) (V : (Nat → Int32) → Int32) (N : List va_E) : Prop := lo ≤ r ∧ r < hi ∧ hi ≤ N.length ∧ ∃ tv sv, pm_nth N r = some (.inr (8, [.int (nI 121), tv, sv, .null])) ∧ ∀ (d u : Nat) (X : pmXs) (M : pmMs) (Z : pmZs) (Q : pmO → Prop) (nx : Option Nat) (hv : Value), K ≤ d → (∀ i, lo ≤ i → i < hi → i ≠ r → pm_nth Z.2.2 i = pm_nth N i) → pm_nth Z.2.2 r = some (.inr (8, [.int (nI 121), tv, sv, va_rf nx])) → (P (xa X 17) = true → Q (.inl (some (.int (V (xa X 17)))), hp X M Z)) → (P (xa X 17) = false → Wp d u 96 2 [some hv, some (.int (nI 121)), some (.ref 17), some (va_rf nx)] [] (hp X M Z) Q) → Wp d u 96 2 [some hv, some (.int (nI 121)), some (.ref 17), some (.ref (r + 59))] [] (hp X M Z) Q
theorem Clause_init {d u i : Nat} {X : pmXs} {M : pmMs} {Z : pmZs} {Q : pmO → Prop} {s : Nat} {lb : Int32} {tv a b c nx : Value} (ht : pm_fit 1 tv) (ht2 : ∃ o, tv = va_rf o) (ha : pm_nth Z.2.2 i = some (.inr (8, [a, b, c, nx]))) (hQ : ∀ N, N.length = Z.2.2.length → pm_nth N i = some (.inr (8, [.int lb, tv, .ref (s + 59), nx])) → (∀ j, j ≠ i → pm_nth N j = pm_nth Z.2.2 j) → Q (.inl none, hp X M (zN Z N))) : Wp d u 239 0 (pm_entry 239 [.ref (i + 59), .int lb, tv, .ref (s + 59)]) [] (hp X M Z) Q := by
  obtain ⟨o, rfl⟩ := ht2
  have hi := nth_lt ha
  cases o with
  | none =>
    iterate 4 refine Wp.step rfl ?_
    refine Wp.pfN rfl ha rfl rfl trivial ?_
    iterate 2 refine Wp.step rfl ?_
    refine Wp.pfN (i := i) (fs := [.int lb, b, c, nx]) rfl (nth_set hi) rfl rfl trivial ?_
    iterate 2 refine Wp.step rfl ?_
    refine Wp.pfN (i := i) (fs := [.int lb, .null, c, nx]) rfl (nth_set (by simp only [zN, len_set]; exact hi)) rfl rfl trivial ?_
    refine Wp.fin rfl trivial (hQ _ ?_ ?_ ?_)
    · simp only [zN, len_set]
    · exact nth_set (by simp only [zN, len_set]; exact hi)
    · intro j hj
      simp only [zN, nth_setne (fun q : i = j => hj q.symm)]
  | some o =>
    iterate 4 refine Wp.step rfl ?_
    refine Wp.pfN rfl ha rfl rfl trivial ?_
    iterate 2 refine Wp.step rfl ?_
    refine Wp.pfN (i := i) (fs := [.int lb, b, c, nx]) rfl (nth_set hi) rfl rfl trivial ?_
    iterate 2 refine Wp.step rfl ?_
    refine Wp.pfN (i := i) (fs := [.int lb, .ref o, c, nx]) rfl (nth_set (by simp only [zN, len_set]; exact hi)) rfl rfl trivial ?_
    refine Wp.fin rfl trivial (hQ _ ?_ ?_ ?_)
    · simp only [zN, len_set]
    · exact nth_set (by simp only [zN, len_set]; exact hi)
    · intro j hj
      simp only [zN, nth_setne (fun q : i = j => hj q.symm)]
/-- a clause without a test: its sum lies ahead of it -/
theorem ClD_plain {K lo m r s : Nat} {V : (Nat → Int32) → Int32} {N0 N : List va_E} (hS : DenS K lo m s V N0) (hr : m ≤ r) (hN : pm_nth N r = some (.inr (8, [.int (nI 121), .null, .ref (s + 59), .null]))) (hE : ∀ i, i < m → pm_nth N i = pm_nth N0 i) : ClD (K + 1) lo (r + 1) r (fun _ => true) V N := by
  have g1 := hS.1
  have g2 := hS.2.1
  refine ⟨by omega, by omega, nth_lt hN, _, _, hN, ?_⟩
  intro d u X M Z Q nx hv hd hZ hZr k1 k0
  obtain ⟨d, rfl⟩ : ∃ d0, d = d0 + 1 := ⟨d - 1, by omega⟩
  iterate 3 refine Wp.step rfl ?_
  refine Wp.gfN rfl hZr rfl rfl ?_
  refine Wp.step rfl ?_
  refine Wp.brF rfl (fun q => q rfl) ?_
  refine Wp.step rfl ?_
  refine Wp.gfN rfl hZr rfl rfl ?_
  iterate 2 refine Wp.step rfl ?_
  refine Wp.gfN rfl hZr rfl rfl ?_
  refine Wp.step rfl ?_
  refine Wp.callS rfl rfl hS (by omega) (fun i a b => by rw [hZ i a (by omega) (by omega), hE i b]) ?_
  exact Wp.fin rfl rfl (k1 rfl)
/-- a clause with a test: its sum lies behind it -/
theorem ClD_test {K lo m hi r t s : Nat} {P : (Nat → Int32) → Bool} {V : (Nat → Int32) → Int32} {N0 N N' : List va_E} (hT : DenT K lo m t P N0) (hr : m ≤ r) (hS : DenS K (r + 1) hi s V N) (hN' : pm_nth N' r = some (.inr (8, [.int (nI 121), .ref (t + 59), .ref (s + 59), .null]))) (hle : hi ≤ N'.length) (hE : ∀ i, i < m → pm_nth N i = pm_nth N0 i) (hN : ∀ i, i < hi → i ≠ r → pm_nth N' i = pm_nth N i) : ClD (K + 1) lo hi r P V N' := by
  have g1 := hT.1
  have g2 := hT.2.1
  have g3 := hS.1
  have g4 := hS.2.1
  obtain ⟨ci, fs, y, g5, g6⟩ := hT.cell
  refine ⟨by omega, by omega, hle, _, _, hN', ?_⟩
  intro d u X M Z Q nx hv hd hZ hZr k1 k0
  obtain ⟨d, rfl⟩ : ∃ d0, d = d0 + 1 := ⟨d - 1, by omega⟩
  have hE2 : ∀ i, lo ≤ i → i < m → pm_nth Z.2.2 i = pm_nth N0 i := fun i a b => by rw [hZ i a (by omega) (by omega), hN i (by omega) (by omega), hE i b]
  iterate 3 refine Wp.step rfl ?_
  refine Wp.gfN rfl hZr rfl rfl ?_
  refine Wp.step rfl ?_
  refine Wp.brF rfl (fun q => q rfl) ?_
  refine Wp.step rfl ?_
  refine Wp.gfN rfl hZr rfl rfl ?_
  iterate 2 refine Wp.step rfl ?_
  refine Wp.gfN rfl hZr rfl rfl ?_
  refine Wp.step rfl ?_
  refine Wp.callT rfl rfl hT (by omega) g5 (fun i a b _ => hE2 i a b) (by rw [hE2 t g1 g2]; exact g5) ?_
  cases hb : P (xa X 17)
  · have k9 := k0 hb
    refine Wp.brT rfl rfl ?_
    refine Wp.step rfl ?_
    refine Wp.gfN rfl hZr rfl rfl ?_
    cases nx with
    | none => iterate 2 refine Wp.step rfl ?_
              exact k9
    | some q => iterate 2 refine Wp.step rfl ?_
                exact k9
  · have k9 := k1 hb
    refine Wp.brF rfl (by decide) ?_
    refine Wp.step rfl ?_
    refine Wp.gfN rfl hZr rfl rfl ?_
    refine Wp.step rfl ?_
    refine Wp.callS rfl rfl hS (by omega) (fun i a b => by rw [hZ i (by omega) b (by omega), hN i b (by omega)]) ?_
    exact Wp.fin rfl rfl k9
/-! the end of a clause: ? and its sum -/
section PKL
variable (t : Nat → Int32) (n : Nat)
def XtlOk (D K p q : Nat) (V : (Nat → Int32) → Int32) : Prop := ∀ (d u : Nat) (X : pmXs) (M : pmMs) (Z : pmZs) (Q : pmO → Prop) (lo r0 : Nat) (P : (Nat → Int32) → Bool) (l2 : Option Value) (o3 : Option Nat) (l4 : Option Value), D ≤ d → 12 * (q - p) ≤ u → XT X t n → lo ≤ Z.2.2.length → DenT K lo Z.2.2.length r0 P Z.2.2 → (∀ N r, Ext lo Z.2.2 N → ClD (K + 1) lo N.length r P V N → Q (.inl (some (.ref (r + 59))), hp (PX X q 0) M (zN Z N))) → Wp d u 101 121 [some (.ref 14), some (.int (nI 121)), l2, some (va_rf o3), l4] [.ref (r0 + 59)] (hp (PX X p 0) M Z) Q
def XtlFl (D p q : Nat) : Prop := ∀ (d u : Nat) (X : pmXs) (M : pmMs) (Z : pmZs) (Q : pmO → Prop) (r0 : Nat) (l2 : Option Value) (o3 : Option Nat) (l4 : Option Value), D ≤ d → 12 * (q - p) + 12 ≤ u → XT X t n → (∀ N e', Ext Z.2.2.length Z.2.2 N → Q (.inr 2, hp (PX X q e') M (zN Z N))) → Wp d u 101 121 [some (.ref 14), some (.int (nI 121)), l2, some (va_rf o3), l4] [.ref (r0 + 59)] (hp (PX X p 0) M Z) Q
def MtlOk (pc D p q : Nat) (V : (Nat → Int32) → Int32) : Prop := ∀ (d u : Nat) (X : pmXs) (M : pmMs) (Z : pmZs) (Q : pmO → Prop) (b h : Bool) (f : Int32) (l2 l3 l4 : Option Value), D ≤ d → MT M t n → M.1 13 = nI 121 → Q (.inl none, hp X (KM (FM M (stH h b) (stV h b (V (ma M 39)) f)) (nI q) (nI 0) (-1)) Z) → Wp d u 205 pc [some (.ref 35), some (.int (nI 121)), l2, l3, l4] [.int (bB b)] (hp X (KM (FM M h f) (nI p) (nI 0) (-1)) Z) Q
def MtlFl (pc D p q : Nat) : Prop := ∀ (d u : Nat) (X : pmXs) (M : pmMs) (Z : pmZs) (Q : pmO → Prop) (b h : Bool) (f : Int32) (l2 l3 l4 : Option Value), D ≤ d → MT M t n → (∀ a e', Q (.inl none, hp X (KM (FM M h f) a e' (nI q)) Z)) → Wp d u 205 pc [some (.ref 35), some (.int (nI 121)), l2, l3, l4] [.int (bB b)] (hp X (KM (FM M h f) (nI p) (nI 0) (-1)) Z) Q
def TLp (D K p : Nat) : Prop := (∃ q V, p < q ∧ q ≤ n ∧ XtlOk t n D K p q V ∧ MtlOk t n 70 D p q V ∧ MtlOk t n 118 D p q V) ∨ (∃ q, p ≤ q ∧ q ≤ n ∧ XtlFl t n D p q ∧ MtlFl t n 70 D p q ∧ MtlFl t n 118 D p q)
end PKL
theorem tail_pk {t : Nat → Int32} {n p DS KS D K : Nat} (hp' : p ≤ n) (hS : ∀ p, p ≤ n → PS t n 108 215 DS KS p 0) (hD : DS + 1 ≤ D) (h4 : 4 ≤ D) (hK : KS ≤ K) : TLp t n D K p := by
  have hge := lk_ge t hp'
  have hln := lk_n t hp'
  by_cases h63 : ch t n (lk t n p) = nI 63
  · have hlt : lk t n p < n := ch_ne h63 (by decide)
    rcases hS (lk t n p + 1) (by omega) with ⟨q, V, a1, a2, aX, aM⟩ | ⟨q, a1, a2, aX, aM⟩
    · refine Or.inl ⟨q, V, by omega, a2, ?_, ?_, ?_⟩
      · intro d u X M Z Q lo r0 P l2 o3 l4 hd hu hT hlo hDt hQ
        obtain ⟨d, rfl⟩ : ∃ d0, d = d0 + 4 := ⟨d - 4, by omega⟩
        suffices h123 : Wp (d + 4) u 101 123 [some (.ref 14), some (.int (nI 121)), l2, some (va_rf o3), some (.ref (r0 + 59))] [] (hp (PX X p 0) M Z) Q by
          cases o3 <;> exact Wp.step rfl h123
        iterate 2 refine Wp.step rfl ?_
        refine Wp.call rfl (Nat.zero_le _) (X_look X M Z hT hp' ⟨_, _, rfl, ?_⟩)
        rw [h63]
        refine Wp.step rfl ?_
        refine Wp.brF rfl (fun q => q rfl) ?_
        iterate 2 refine Wp.step rfl ?_
        refine Wp.call rfl (Nat.zero_le _) (X_need1 ⟨_, _, rfl, ?_⟩)
        iterate 5 refine Wp.step rfl ?_
        refine Wp.putX rfl rfl rfl ?_
        rw [PX_inc]
        refine Wp.newZ rfl rfl (by omega) ?_
        iterate 4 refine Wp.step rfl ?_
        have hl1 : (Z.2.2 ++ ([.inr (8, pm_def 8)] : List va_E)).length = Z.2.2.length + 1 := len_end
        refine Wp.call (u1 := 12 * (q - (lk t n p + 1))) rfl (by omega) (aX _ _ X M _ _ (by omega) (Nat.le_refl _) hT (fun N2 r2 hE hD2 => ⟨_, _, rfl, ?_⟩))
        have hE0 : Ext (Z.2.2 ++ ([.inr (8, pm_def 8)] : List va_E)).length (Z.2.2 ++ ([.inr (8, pm_def 8)] : List va_E)) N2 := hE
        rw [hl1] at hE0
        have hE' : ∀ i, i < Z.2.2.length + 1 → pm_nth N2 i = pm_nth (Z.2.2 ++ ([.inr (8, pm_def 8)] : List va_E)) i := hE0.2
        have hr2 : pm_nth N2 Z.2.2.length = some (.inr (8, [.int 0, .null, .null, .null])) := (hE' _ (by omega)).trans nth_end
        have hD3 : DenS KS (Z.2.2.length + 1) N2.length r2 V N2 := hl1 ▸ hD2
        refine Wp.call (u1 := 0) rfl (Nat.zero_le _) (Clause_init trivial ⟨some (r0 + 59), rfl⟩ hr2 (fun N5 g1 g2 g3 => ⟨_, _, rfl, ?_⟩))
        have hlen : N5.length = N2.length := g1
        refine Wp.fin rfl trivial (hQ N5 _ ?_ ?_)
        · have h2 : Z.2.2.length + 1 ≤ N2.length := by have := hE0.1; omega
          refine ⟨by rw [hlen]; omega, fun i hi => ?_⟩
          rw [g3 i (by omega)]
          show pm_nth N2 i = _
          rw [hE' i (by omega), nth_app (by omega)]
        · rw [hlen]
          exact ClD_test hDt (Nat.le_refl _) (hD3.mono hK (Nat.le_refl _) (Nat.le_refl _) (Nat.le_refl _) (fun _ _ _ => rfl)) g2 (by omega) (fun i hi => by rw [hE' i (by omega), nth_app hi]) (fun i _ hi => g3 i hi)
      · intro d u X M Z Q b h f l2 l3 l4 hd hT h13 hQ
        obtain ⟨d, rfl⟩ : ∃ d0, d = d0 + 4 := ⟨d - 4, by omega⟩
        iterate 3 refine Wp.step rfl ?_
        refine Wp.call rfl (Nat.zero_le _) (M_takes1 X (FM M h f) Z hT hp' h63 ⟨_, _, rfl, ?_⟩)
        refine Wp.brT rfl (by decide) ?_
        refine Wp.step rfl ?_
        refine Wp.call (u1 := 0) rfl (Nat.zero_le _) (aM _ _ X (FM M h f) Z _ (by omega) hT ⟨_, _, rfl, ?_⟩)
        iterate 2 refine Wp.step rfl ?_
        exact M_clause_end h13 hQ
      · intro d u X M Z Q b h f l2 l3 l4 hd hT h13 hQ
        obtain ⟨d, rfl⟩ : ∃ d0, d = d0 + 4 := ⟨d - 4, by omega⟩
        iterate 3 refine Wp.step rfl ?_
        refine Wp.call rfl (Nat.zero_le _) (M_takes1 X (FM M h f) Z hT hp' h63 ⟨_, _, rfl, ?_⟩)
        refine Wp.brT rfl (by decide) ?_
        refine Wp.step rfl ?_
        refine Wp.call (u1 := 0) rfl (Nat.zero_le _) (aM _ _ X (FM M h f) Z _ (by omega) hT ⟨_, _, rfl, ?_⟩)
        refine Wp.step rfl ?_
        exact M_clause_end h13 hQ
    · refine Or.inr ⟨q, by omega, a2, ?_, ?_, ?_⟩
      · intro d u X M Z Q r0 l2 o3 l4 hd hu hT hQ
        obtain ⟨d, rfl⟩ : ∃ d0, d = d0 + 4 := ⟨d - 4, by omega⟩
        suffices h123 : Wp (d + 4) u 101 123 [some (.ref 14), some (.int (nI 121)), l2, some (va_rf o3), some (.ref (r0 + 59))] [] (hp (PX X p 0) M Z) Q by
          cases o3 <;> exact Wp.step rfl h123
        iterate 2 refine Wp.step rfl ?_
        refine Wp.call rfl (Nat.zero_le _) (X_look X M Z hT hp' ⟨_, _, rfl, ?_⟩)
        rw [h63]
        refine Wp.step rfl ?_
        refine Wp.brF rfl (fun q => q rfl) ?_
        iterate 2 refine Wp.step rfl ?_
        refine Wp.call rfl (Nat.zero_le _) (X_need1 ⟨_, _, rfl, ?_⟩)
        iterate 5 refine Wp.step rfl ?_
        refine Wp.putX rfl rfl rfl ?_
        rw [PX_inc]
        refine Wp.newZ rfl rfl (by omega) ?_
        iterate 4 refine Wp.step rfl ?_
        refine Wp.callF (u1 := 12 * (q - (lk t n p + 1)) + 12) rfl rfl (by omega) (aX _ _ X M _ _ (by omega) (Nat.le_refl _) hT (fun N2 e' hE => Or.inr ⟨_, _, rfl, hQ N2 e' ?_⟩))
        exact (Ext.app (Nat.le_refl _)).trans (hE.less (by simp only [zN, len_end]; omega))
      · intro d u X M Z Q b h f l2 l3 l4 hd hT hQ
        have h240 := MT_le hT
        obtain ⟨d, rfl⟩ : ∃ d0, d = d0 + 4 := ⟨d - 4, by omega⟩
        iterate 3 refine Wp.step rfl ?_
        refine Wp.call rfl (Nat.zero_le _) (M_takes1 X (FM M h f) Z hT hp' h63 ⟨_, _, rfl, ?_⟩)
        refine Wp.brT rfl (by decide) ?_
        refine Wp.step rfl ?_
        refine Wp.call (u1 := 0) rfl (Nat.zero_le _) (aM _ _ X (FM M h f) Z _ (by omega) hT (fun v a e' => ⟨_, _, rfl, ?_⟩))
        iterate 2 refine Wp.step rfl ?_
        exact M_clause_end_f (nI_m1 (by omega)) (hQ _ _)
      · intro d u X M Z Q b h f l2 l3 l4 hd hT hQ
        have h240 := MT_le hT
        obtain ⟨d, rfl⟩ : ∃ d0, d = d0 + 4 := ⟨d - 4, by omega⟩
        iterate 3 refine Wp.step rfl ?_
        refine Wp.call rfl (Nat.zero_le _) (M_takes1 X (FM M h f) Z hT hp' h63 ⟨_, _, rfl, ?_⟩)
        refine Wp.brT rfl (by decide) ?_
        refine Wp.step rfl ?_
        refine Wp.call (u1 := 0) rfl (Nat.zero_le _) (aM _ _ X (FM M h f) Z _ (by omega) hT (fun v a e' => ⟨_, _, rfl, ?_⟩))
        refine Wp.step rfl ?_
        exact M_clause_end_f (nI_m1 (by omega)) (hQ _ _)
  · refine Or.inr ⟨lk t n p, hge, hln, ?_, ?_, ?_⟩
    · intro d u X M Z Q r0 l2 o3 l4 hd hu hT hQ
      obtain ⟨d, rfl⟩ : ∃ d0, d = d0 + 4 := ⟨d - 4, by omega⟩
      suffices h123 : Wp (d + 4) u 101 123 [some (.ref 14), some (.int (nI 121)), l2, some (va_rf o3), some (.ref (r0 + 59))] [] (hp (PX X p 0) M Z) Q by
        cases o3 <;> exact Wp.step rfl h123
      iterate 2 refine Wp.step rfl ?_
      refine Wp.call rfl (Nat.zero_le _) (X_look X M Z hT hp' ⟨_, _, rfl, ?_⟩)
      refine Wp.step rfl ?_
      refine Wp.brT rfl h63 ?_
      refine Wp.step rfl ?_
      refine Wp.callF rfl rfl (Nat.zero_le _) (X_need0 _ M Z (Or.inr ⟨_, _, rfl, hQ Z.2.2 0 (Ext.refl _ _)⟩))
    · intro d u X M Z Q b h f l2 l3 l4 hd hT hQ
      obtain ⟨d, rfl⟩ : ∃ d0, d = d0 + 4 := ⟨d - 4, by omega⟩
      iterate 3 refine Wp.step rfl ?_
      refine Wp.call rfl (Nat.zero_le _) (M_takes0 X (FM M h f) Z hT hp' h63 ⟨_, _, rfl, ?_⟩)
      refine Wp.brF rfl (fun q => q rfl) ?_
      exact Wp.fin rfl trivial (hQ _ _)
    · intro d u X M Z Q b h f l2 l3 l4 hd hT hQ
      obtain ⟨d, rfl⟩ : ∃ d0, d = d0 + 4 := ⟨d - 4, by omega⟩
      iterate 3 refine Wp.step rfl ?_
      refine Wp.call rfl (Nat.zero_le _) (M_takes0 X (FM M h f) Z hT hp' h63 ⟨_, _, rfl, ?_⟩)
      refine Wp.brF rfl (fun q => q rfl) ?_
      exact Wp.fin rfl trivial (hQ _ _)
