/-! A LAW, whole: its clauses -/
/-- a law's first node: what worth answers -/
def DenL (K lo hi r : Nat) (F : (Nat → Int32) → Int32) (N : List va_E) : Prop := lo ≤ r ∧ r < hi ∧ hi ≤ N.length ∧ (∃ fs, pm_nth N r = some (.inr (8, fs))) ∧ ∀ (d u : Nat) (X : pmXs) (M : pmMs) (Z : pmZs) (Q : pmO → Prop), K ≤ d → (∀ i, lo ≤ i → i < hi → pm_nth Z.2.2 i = pm_nth N i) → Q (.inl (some (.int (F (xa X 17)))), hp X M Z) → Wp d u 96 0 (pm_entry 96 [.ref (r + 59), .int (nI 121), .ref 17]) [] (hp X M Z) Q
/-- an open row of clauses -/
def OL (K lo hi hd last : Nat) (H : (Nat → Int32) → Bool) (W : (Nat → Int32) → Int32) (N : List va_E) : Prop := lo ≤ hd ∧ hd < hi ∧ lo ≤ last ∧ last < hi ∧ hi ≤ N.length ∧ (∃ fs, pm_nth N hd = some (.inr (8, fs))) ∧ ∃ tv sv, pm_nth N last = some (.inr (8, [.int (nI 121), tv, sv, .null])) ∧ ∀ (d u : Nat) (X : pmXs) (M : pmMs) (Z : pmZs) (Q : pmO → Prop) (nx : Option Nat), K ≤ d → (∀ i, lo ≤ i → i < hi → i ≠ last → pm_nth Z.2.2 i = pm_nth N i) → pm_nth Z.2.2 last = some (.inr (8, [.int (nI 121), tv, sv, va_rf nx])) → (H (xa X 17) = true → Q (.inl (some (.int (W (xa X 17)))), hp X M Z)) → (H (xa X 17) = false → Wp d u 96 2 [some (.ref (hd + 59)), some (.int (nI 121)), some (.ref 17), some (va_rf nx)] [] (hp X M Z) Q) → Wp d u 96 0 (pm_entry 96 [.ref (hd + 59), .int (nI 121), .ref 17]) [] (hp X M Z) Q
theorem stV_0 {h b : Bool} {v f : Int32} (a : h = false → f = nI 0) : stH h b = false → stV h b v f = nI 0 := by
  intro q
  cases h <;> cases b
  · exact a rfl
  · cases q
  · cases q
  · cases q
theorem OL.first {K lo hi r : Nat} {P : (Nat → Int32) → Bool} {V : (Nat → Int32) → Int32} {N : List va_E} (h : ClD K lo hi r P V N) : OL K lo hi r r (fun l => stH false (P l)) (fun l => stV false (P l) (V l) (nI 0)) N := by
  obtain ⟨g1, g2, g3, tv, sv, g4, g5⟩ := h
  refine ⟨g1, g2, g1, g2, g3, ⟨_, g4⟩, tv, sv, g4, ?_⟩
  intro d u X M Z Q nx hd hZ hZr k1 k0
  dsimp only at k1 k0
  iterate 2 refine Wp.step rfl ?_
  refine g5 d u X M Z Q nx _ hd hZ hZr (fun q => ?_) (fun q => k0 (by rw [q]; rfl))
  have := k1 (by rw [q]; rfl)
  rw [q] at this
  exact this
theorem OL.more {K lo hi hd last hi2 r2 : Nat} {H P : (Nat → Int32) → Bool} {W V : (Nat → Int32) → Int32} {N N2 N5 : List va_E} {a b c n0 : Value} (h : OL K lo hi hd last H W N) (h2 : ClD K hi hi2 r2 P V N2) (hl0 : pm_nth N last = some (.inr (8, [a, b, c, n0]))) (hl : pm_nth N5 last = some (.inr (8, [a, b, c, .ref (r2 + 59)]))) (hle : hi2 ≤ N5.length) (hN : ∀ i, i < hi2 → i ≠ last → pm_nth N5 i = pm_nth N2 i) (hE : ∀ i, i < hi → pm_nth N2 i = pm_nth N i) : OL K lo hi2 hd r2 (fun l => stH (H l) (P l)) (fun l => stV (H l) (P l) (V l) (W l)) N5 := by
  obtain ⟨g1, g2, g3, g4, g5, ⟨fs, g6⟩, tv, sv, g7, g8⟩ := h
  obtain ⟨j1, j2, j3, tv2, sv2, j4, j5⟩ := h2
  have e1 := Option.some.inj (g7.symm.trans hl0)
  cases e1
  refine ⟨g1, by omega, by omega, by omega, hle, ?_, tv2, sv2, by rw [hN r2 j2 (by omega)]; exact j4, ?_⟩
  · by_cases q : hd = last
    · subst q; exact ⟨_, hl⟩
    · exact ⟨fs, by rw [hN hd (by omega) q, hE hd g2]; exact g6⟩
  intro d u X M Z Q nx hd' hZ hZr k1 k0
  dsimp only at k1 k0
  refine g8 d u X M Z Q (some (r2 + 59)) hd' (fun i a b c => by rw [hZ i a (by omega) (by omega), hN i (by omega) c, hE i b]) (by rw [hZ last g3 (by omega) (by omega)]; exact hl) (fun q => ?_) (fun q => ?_)
  · have := k1 (by rw [q]; rfl)
    rw [q] at this
    exact this
  · refine j5 d u X M Z Q nx _ hd' (fun i a b c => by rw [hZ i (by omega) b c, hN i b (by omega)]) hZr (fun q2 => ?_) (fun q2 => k0 (by rw [q, q2]; rfl))
    have := k1 (by rw [q, q2]; rfl)
    rw [q, q2] at this
    exact this
def lawF (H : (Nat → Int32) → Bool) (W : (Nat → Int32) → Int32) : (Nat → Int32) → Int32 := fun l => bif H l then W l else nI 0
theorem OL.close {K lo hi hd last : Nat} {H : (Nat → Int32) → Bool} {W : (Nat → Int32) → Int32} {N : List va_E} (h : OL K lo hi hd last H W N) : DenL K lo hi hd (lawF H W) N := by
  obtain ⟨g1, g2, g3, g4, g5, g6, tv, sv, g7, g8⟩ := h
  refine ⟨g1, g2, g5, g6, ?_⟩
  intro d u X M Z Q hd' hZ hQ
  unfold lawF at hQ
  refine g8 d u X M Z Q none hd' (fun i a b _ => hZ i a b) (by rw [hZ last g3 g4]; exact g7) (fun q => ?_) (fun q => ?_)
  · rw [q] at hQ
    exact hQ
  · rw [q] at hQ
    iterate 3 refine Wp.step rfl ?_
    exact Wp.fin rfl rfl hQ
/-- the loop over the clauses, of both -/
theorem wlaw_pk {t : Nat → Int32} {n D K D' : Nat} (hC : ∀ p, p ≤ n → CLp t n D K p) (hD : D + 1 ≤ D') (h4 : 6 ≤ D') : ∀ m p, n - p ≤ m → p ≤ n →
    (∃ (q : Nat) (RH : (Nat → Int32) → Bool → Bool) (RW : (Nat → Int32) → Bool → Int32 → Int32), lk t n p ≤ q ∧ q ≤ n ∧ (∀ l h f, (h = false → f = nI 0) → RH l h = false → RW l h f = nI 0) ∧
      (∀ (d u : Nat) (X : pmXs) (M : pmMs) (Z : pmZs) (Q : pmO → Prop) (lo hd last : Nat) (H : (Nat → Int32) → Bool) (W : (Nat → Int32) → Int32), D' ≤ d → 12 * (q - p) ≤ u → XT X t n → lo ≤ Z.2.2.length → OL K lo Z.2.2.length hd last H W Z.2.2 → (∀ N, Ext lo Z.2.2 N → DenL K lo N.length hd (lawF (fun l => RH l (H l)) (fun l => RW l (H l) (W l))) N → Q (.inl (some (.ref (hd + 59))), hp (PX X q 0) M (zN Z N))) → Wp d u 91 17 [some (.ref 14), some (.ref (hd + 59)), some (.ref (last + 59))] [] (hp (PX X p 0) M Z) Q) ∧
      (∀ (d u : Nat) (X : pmXs) (M : pmMs) (Z : pmZs) (Q : pmO → Prop) (h : Bool) (f : Int32) (l1 l2 l3 : Option Value), D' ≤ d → MT M t n → M.1 13 = nI 121 → Q (.inl none, hp X (KM (FM M (RH (ma M 39) h) (RW (ma M 39) h f)) (nI q) (nI 0) (-1)) Z) → Wp d u 170 32 [some (.ref 35), l1, l2, l3] [] (hp X (KM (FM M h f) (nI p) (nI 0) (-1)) Z) Q)) ∨
    (∃ q, lk t n p ≤ q ∧ q ≤ n ∧
      (∀ (d u : Nat) (X : pmXs) (M : pmMs) (Z : pmZs) (Q : pmO → Prop) (lo hd last : Nat) (H : (Nat → Int32) → Bool) (W : (Nat → Int32) → Int32), D' ≤ d → 12 * (q - p) + 12 ≤ u → XT X t n → lo ≤ Z.2.2.length → OL K lo Z.2.2.length hd last H W Z.2.2 → (∀ N e', Ext lo Z.2.2 N → Q (.inr 2, hp (PX X q e') M (zN Z N))) → Wp d u 91 17 [some (.ref 14), some (.ref (hd + 59)), some (.ref (last + 59))] [] (hp (PX X p 0) M Z) Q) ∧
      (∀ (d u : Nat) (X : pmXs) (M : pmMs) (Z : pmZs) (Q : pmO → Prop) (h : Bool) (f : Int32) (l1 l2 l3 : Option Value), D' ≤ d → MT M t n → M.1 13 = nI 121 → (∀ h' f' a e', Q (.inl none, hp X (KM (FM M h' f') a e' (nI q)) Z)) → Wp d u 170 32 [some (.ref 35), l1, l2, l3] [] (hp X (KM (FM M h f) (nI p) (nI 0) (-1)) Z) Q)) := by
  intro m
  induction m with
  | zero =>
    intro p hm hp'
    obtain rfl : p = n := by omega
    have e1 : lk t p p = p := lk_stop (by omega)
    have e2 : ch t p p = -1 := if_neg (by omega)
    refine Or.inl ⟨p, fun _ h => h, fun _ _ f => f, by omega, by omega, fun _ _ _ a => a, ?_, ?_⟩
    · intro d u X M Z Q lo hd last H W hd' hu hT hlo hO kk
      obtain ⟨d, rfl⟩ : ∃ d0, d = d0 + 4 := ⟨d - 4, by omega⟩
      refine Wp.step rfl ?_
      refine Wp.call rfl (Nat.zero_le _) (X_look X M Z hT hp' ⟨_, _, rfl, ?_⟩)
      rw [e1, e2]
      refine Wp.step rfl ?_
      refine Wp.brT rfl (by decide) ?_
      iterate 2 refine Wp.step rfl ?_
      refine Wp.call rfl (Nat.zero_le _) (X_look X M Z hT hp' ⟨_, _, rfl, ?_⟩)
      rw [e1, e2]
      refine Wp.step rfl ?_
      refine Wp.brF rfl (fun q => q rfl) ?_
      iterate 2 refine Wp.step rfl ?_
      refine Wp.call rfl (Nat.zero_le _) (X_need1 ⟨_, _, rfl, ?_⟩)
      refine Wp.step rfl ?_
      exact Wp.fin rfl trivial (kk Z.2.2 (Ext.refl _ _) hO.close)
    · intro d u X M Z Q h f l1 l2 l3 hd' hT h13 kk
      obtain ⟨d, rfl⟩ : ∃ d0, d = d0 + 4 := ⟨d - 4, by omega⟩
      iterate 3 refine Wp.step rfl ?_
      refine Wp.brF rfl (fun q => q rfl) ?_
      refine Wp.step rfl ?_
      refine Wp.call rfl (Nat.zero_le _) (M_look X (FM M h f) Z hT hp' ⟨_, _, rfl, ?_⟩)
      rw [e1, e2]
      refine Wp.step rfl ?_
      refine Wp.brT rfl (by decide) ?_
      iterate 3 refine Wp.step rfl ?_
      refine Wp.brF rfl (fun q => q rfl) ?_
      refine Wp.step rfl ?_
      refine Wp.call rfl (Nat.zero_le _) (M_look X (FM M h f) Z hT hp' ⟨_, _, rfl, ?_⟩)
      rw [e1, e2]
      refine Wp.step rfl ?_
      refine Wp.brT rfl rfl ?_
      exact Wp.fin rfl trivial kk
  | succ m ih =>
    intro p hm hp'
    have hge := lk_ge t hp'
    have hn := lk_n t hp'
    by_cases hc : ch t n (lk t n p) = nI 59
    · have hlt : lk t n p < n := ch_ne hc (by decide)
      have stepX : ∀ {d u : Nat} {X : pmXs} {M : pmMs} {Z : pmZs} {Q : pmO → Prop} {hd last : Nat}, 4 ≤ d → XT X t n → Wp d u 91 38 [some (.ref 14), some (.ref (hd + 59)), some (.ref (last + 59))] [.ref 14, .ref (last + 59)] (hp (PX X (lk t n p + 1) 0) M Z) Q → Wp d u 91 17 [some (.ref 14), some (.ref (hd + 59)), some (.ref (last + 59))] [] (hp (PX X p 0) M Z) Q := by
        intro d u X M Z Q hd last h4 hT kk
        obtain ⟨d, rfl⟩ : ∃ d0, d = d0 + 4 := ⟨d - 4, by omega⟩
        refine Wp.step rfl ?_
        refine Wp.call rfl (Nat.zero_le _) (X_look X M Z hT hp' ⟨_, _, rfl, ?_⟩)
        rw [hc]
        refine Wp.step rfl ?_
        refine Wp.brF rfl (fun q => q rfl) ?_
        iterate 5 refine Wp.step rfl ?_
        refine Wp.putX rfl rfl rfl ?_
        rw [PX_inc]
        iterate 2 refine Wp.step rfl ?_
        exact kk
      have stepM : ∀ {d u : Nat} {X : pmXs} {M : pmMs} {Z : pmZs} {Q : pmO → Prop} {l1 l2 l3 : Option Value}, 4 ≤ d → MT M t n → Wp d u 170 60 [some (.ref 35), l1, l2, l3] [.ref 35] (hp X (KM M (nI (lk t n p + 1)) (nI 0) (-1)) Z) Q → Wp d u 170 32 [some (.ref 35), l1, l2, l3] [] (hp X (KM M (nI p) (nI 0) (-1)) Z) Q := by
        intro d u X M Z Q l1 l2 l3 h4 hT kk
        obtain ⟨d, rfl⟩ : ∃ d0, d = d0 + 4 := ⟨d - 4, by omega⟩
        iterate 3 refine Wp.step rfl ?_
        refine Wp.brF rfl (fun q => q rfl) ?_
        refine Wp.step rfl ?_
        refine Wp.call rfl (Nat.zero_le _) (M_look X M Z hT hp' ⟨_, _, rfl, ?_⟩)
        rw [hc]
        refine Wp.step rfl ?_
        refine Wp.brF rfl (fun q => q rfl) ?_
        iterate 5 refine Wp.step rfl ?_
        refine Wp.putM rfl rfl rfl ?_
        rw [KM_inc]
        refine Wp.step rfl ?_
        exact kk
      rcases hC (lk t n p + 1) (by omega) with ⟨q1, P, V, a1, a2, aX, aM⟩ | ⟨q1, a1, a2, aX, aM⟩
      · have hq1 := lk_ge t a2
        have okX : ∀ {d u : Nat} {X : pmXs} {M : pmMs} {Z : pmZs} {Q : pmO → Prop} {lo hd last : Nat} {H : (Nat → Int32) → Bool} {W : (Nat → Int32) → Int32}, D' ≤ d → 12 * (q1 - p) ≤ u → XT X t n → lo ≤ Z.2.2.length → OL K lo Z.2.2.length hd last H W Z.2.2 → (∀ N last u', u - 12 * (q1 - p) ≤ u' → Ext lo Z.2.2 N → OL K lo N.length hd last (fun l => stH (H l) (P l)) (fun l => stV (H l) (P l) (V l) (W l)) N → Wp d u' 91 17 [some (.ref 14), some (.ref (hd + 59)), some (.ref (last + 59))] [] (hp (PX X q1 0) M (zN Z N)) Q) → Wp d u 91 17 [some (.ref 14), some (.ref (hd + 59)), some (.ref (last + 59))] [] (hp (PX X p 0) M Z) Q := by
          intro d u X M Z Q lo hd last H W hd' hu hT hlo hO kk
          refine stepX (by omega) hT ?_
          obtain ⟨d, rfl⟩ : ∃ d0, d = d0 + 4 := ⟨d - 4, by omega⟩
          refine Wp.call (u1 := 12 * (q1 - (lk t n p + 1))) rfl (by omega) (aX _ _ X M Z _ (by omega) (Nat.le_refl _) hT (fun N r a c => ⟨_, _, rfl, ?_⟩))
          have hO' := hO
          obtain ⟨g1, g2, g3, g4, g5, g6, tv, sv, g7, -⟩ := hO'
          have hl2 : pm_nth N last = some (.inr (8, [.int (nI 121), tv, sv, .null])) := (a.2 last g4).trans g7
          refine Wp.pfN rfl hl2 rfl rfl trivial ?_
          have hl5 : pm_nth (pm_set N last (.inr (8, [.int (nI 121), tv, sv, .ref (r + 59)]))) last = some (.inr (8, [.int (nI 121), tv, sv, .ref (r + 59)])) := nth_set (nth_lt hl2)
          refine Wp.step rfl ?_
          refine Wp.gfN rfl hl5 rfl rfl ?_
          iterate 2 refine Wp.step rfl ?_
          refine kk (pm_set N last (.inr (8, [.int (nI 121), tv, sv, .ref (r + 59)]))) r _ (by omega) (Ext.trans (a.less hlo) (Ext.set g3)) ?_
          rw [len_set]
          exact OL.more hO c g7 hl5 (by rw [len_set]; exact Nat.le_refl _) (fun i _ hi => nth_setne (fun q => hi q.symm)) a.2
        have okM : ∀ {d u : Nat} {X : pmXs} {M : pmMs} {Z : pmZs} {Q : pmO → Prop} {h : Bool} {f : Int32} {l1 l2 l3 : Option Value}, D' ≤ d → MT M t n → M.1 13 = nI 121 → Wp d u 170 32 [some (.ref 35), l1, l2, l3] [] (hp X (KM (FM M (stH h (P (ma M 39))) (stV h (P (ma M 39)) (V (ma M 39)) f)) (nI q1) (nI 0) (-1)) Z) Q → Wp d u 170 32 [some (.ref 35), l1, l2, l3] [] (hp X (KM (FM M h f) (nI p) (nI 0) (-1)) Z) Q := by
          intro d u X M Z Q h f l1 l2 l3 hd' hT h13 kk
          refine stepM (M := FM M h f) (by omega) hT ?_
          obtain ⟨d, rfl⟩ : ∃ d0, d = d0 + 4 := ⟨d - 4, by omega⟩
          refine Wp.call (u1 := 0) rfl (Nat.zero_le _) (aM _ _ X M Z _ h f (by omega) hT h13 ⟨_, _, rfl, ?_⟩)
          refine Wp.step rfl ?_
          exact kk
        rcases ih q1 (by omega) a2 with ⟨q, RH, RW, b1, b2, b3, bX, bM⟩ | ⟨q, b1, b2, bX, bM⟩
        · refine Or.inl ⟨q, fun l h => RH l (stH h (P l)), fun l h f => RW l (stH h (P l)) (stV h (P l) (V l) f), by omega, b2, fun l h f a => b3 l _ _ (stV_0 a), ?_, ?_⟩
          · intro d u X M Z Q lo hd last H W hd' hu hT hlo hO kk
            refine okX hd' (by omega) hT hlo hO (fun N last' u' hu' hE hO' => ?_)
            exact bX d _ X M (zN Z N) Q lo hd last' _ _ hd' (by omega) hT (Nat.le_trans hlo hE.1) hO' (fun N' hE' hD' => kk N' (hE.trans hE') hD')
          · intro d u X M Z Q h f l1 l2 l3 hd' hT h13 kk
            exact okM hd' hT h13 (bM d u X M Z Q _ _ l1 l2 l3 hd' hT h13 kk)
        · refine Or.inr ⟨q, by omega, b2, ?_, ?_⟩
          · intro d u X M Z Q lo hd last H W hd' hu hT hlo hO kk
            refine okX hd' (by omega) hT hlo hO (fun N last' u' hu' hE hO' => ?_)
            exact bX d _ X M (zN Z N) Q lo hd last' _ _ hd' (by omega) hT (Nat.le_trans hlo hE.1) hO' (fun N' e' hE' => kk N' e' (hE.trans hE'))
          · intro d u X M Z Q h f l1 l2 l3 hd' hT h13 kk
            exact okM hd' hT h13 (bM d u X M Z Q _ _ l1 l2 l3 hd' hT h13 kk)
      · refine Or.inr ⟨q1, by omega, a2, ?_, ?_⟩
        · intro d u X M Z Q lo hd last H W hd' hu hT hlo hO kk
          refine stepX (by omega) hT ?_
          obtain ⟨d, rfl⟩ : ∃ d0, d = d0 + 4 := ⟨d - 4, by omega⟩
          refine Wp.callF (u1 := u) rfl rfl (Nat.le_refl _) (aX _ _ X M Z _ (by omega) (by omega) hT (fun N e' a => Or.inr ⟨_, _, rfl, kk N e' (a.less hlo)⟩))
        · intro d u X M Z Q h f l1 l2 l3 hd' hT h13 kk
          have h240 := MT_le hT
          refine stepM (M := FM M h f) (by omega) hT ?_
          obtain ⟨d, rfl⟩ : ∃ d0, d = d0 + 4 := ⟨d - 4, by omega⟩
          refine Wp.call (u1 := 0) rfl (Nat.zero_le _) (aM _ _ X M Z _ h f (by omega) hT (fun a e' => ⟨_, _, rfl, ?_⟩))
          iterate 4 refine Wp.step rfl ?_
          refine Wp.brT rfl (nI_m1 (by omega)) ?_
          iterate 3 refine Wp.step rfl ?_
          refine Wp.brT rfl (nI_m1 (by omega)) ?_
          exact Wp.fin rfl trivial (kk _ _ _ _)
    · by_cases hend : ch t n (lk t n p) = -1
      · refine Or.inl ⟨lk t n p, fun _ h => h, fun _ _ f => f, by omega, hn, fun _ _ _ a => a, ?_, ?_⟩
        · intro d u X M Z Q lo hd last H W hd' hu hT hlo hO kk
          obtain ⟨d, rfl⟩ : ∃ d0, d = d0 + 4 := ⟨d - 4, by omega⟩
          refine Wp.step rfl ?_
          refine Wp.call rfl (Nat.zero_le _) (X_look X M Z hT hp' ⟨_, _, rfl, ?_⟩)
          refine Wp.step rfl ?_
          refine Wp.brT rfl hc ?_
          iterate 2 refine Wp.step rfl ?_
          refine Wp.call rfl (Nat.zero_le _) (X_look X M Z hT hn ⟨_, _, rfl, ?_⟩)
          rw [lk_lk t hp', hend]
          refine Wp.step rfl ?_
          refine Wp.brF rfl (fun q => q rfl) ?_
          iterate 2 refine Wp.step rfl ?_
          refine Wp.call rfl (Nat.zero_le _) (X_need1 ⟨_, _, rfl, ?_⟩)
          refine Wp.step rfl ?_
          exact Wp.fin rfl trivial (kk Z.2.2 (Ext.refl _ _) hO.close)
        · intro d u X M Z Q h f l1 l2 l3 hd' hT h13 kk
          obtain ⟨d, rfl⟩ : ∃ d0, d = d0 + 4 := ⟨d - 4, by omega⟩
          iterate 3 refine Wp.step rfl ?_
          refine Wp.brF rfl (fun q => q rfl) ?_
          refine Wp.step rfl ?_
          refine Wp.call rfl (Nat.zero_le _) (M_look X (FM M h f) Z hT hp' ⟨_, _, rfl, ?_⟩)
          refine Wp.step rfl ?_
          refine Wp.brT rfl hc ?_
          iterate 3 refine Wp.step rfl ?_
          refine Wp.brF rfl (fun q => q rfl) ?_
          refine Wp.step rfl ?_
          refine Wp.call rfl (Nat.zero_le _) (M_look X (FM M h f) Z hT hn ⟨_, _, rfl, ?_⟩)
          rw [lk_lk t hp', hend]
          refine Wp.step rfl ?_
          refine Wp.brT rfl rfl ?_
          exact Wp.fin rfl trivial kk
      · refine Or.inr ⟨lk t n p, Nat.le_refl _, hn, ?_, ?_⟩
        · intro d u X M Z Q lo hd last H W hd' hu hT hlo hO kk
          obtain ⟨d, rfl⟩ : ∃ d0, d = d0 + 4 := ⟨d - 4, by omega⟩
          refine Wp.step rfl ?_
          refine Wp.call rfl (Nat.zero_le _) (X_look X M Z hT hp' ⟨_, _, rfl, ?_⟩)
          refine Wp.step rfl ?_
          refine Wp.brT rfl hc ?_
          iterate 2 refine Wp.step rfl ?_
          refine Wp.call rfl (Nat.zero_le _) (X_look X M Z hT hn ⟨_, _, rfl, ?_⟩)
          rw [lk_lk t hp']
          refine Wp.step rfl ?_
          refine Wp.brT rfl hend ?_
          refine Wp.step rfl ?_
          refine Wp.callF rfl rfl (Nat.zero_le _) (X_need0 _ M Z (Or.inr ⟨_, _, rfl, kk Z.2.2 0 (Ext.refl _ _)⟩))
        · intro d u X M Z Q h f l1 l2 l3 hd' hT h13 kk
          obtain ⟨d, rfl⟩ : ∃ d0, d = d0 + 4 := ⟨d - 4, by omega⟩
          iterate 3 refine Wp.step rfl ?_
          refine Wp.brF rfl (fun q => q rfl) ?_
          refine Wp.step rfl ?_
          refine Wp.call rfl (Nat.zero_le _) (M_look X (FM M h f) Z hT hp' ⟨_, _, rfl, ?_⟩)
          refine Wp.step rfl ?_
          refine Wp.brT rfl hc ?_
          iterate 3 refine Wp.step rfl ?_
          refine Wp.brF rfl (fun q => q rfl) ?_
          refine Wp.step rfl ?_
          refine Wp.call rfl (Nat.zero_le _) (M_look X (FM M h f) Z hT hn ⟨_, _, rfl, ?_⟩)
          rw [lk_lk t hp']
          refine Wp.step rfl ?_
          refine Wp.brF rfl hend ?_
          refine Wp.step rfl ?_
          refine Wp.call rfl (Nat.zero_le _) (M_fails0 X (FM M h f) Z ⟨_, _, rfl, ?_⟩)
          refine Wp.step rfl ?_
          exact Wp.fin rfl trivial (kk _ _ _ _)
