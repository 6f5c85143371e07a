/-! LOOPS of tests: printed by tools/rows.py from tools/rows.tpl -/
def cmb (al a b : Bool) : Bool := bif al then a && b else a || b
theorem cmb_acc (al a b : Bool) : cmb al (a == al) b = ((a && (b == al)) == al) := by cases al <;> cases a <;> cases b <;> rfl
def OpenT (K lo : Nat) (t row : Value) (al : Bool) (P0 : (Nat → Int32) → Bool) (N : List va_E) : Prop := (row = .null ∧ ∃ r, t = .ref (r + 59) ∧ DenT K lo N.length r P0 N) ∨ (∃ r last, row = .ref (r + 59) ∧ (∃ r0, t = .ref (r0 + 59)) ∧ ∃ A, OT (K + 1) lo N.length r last al A N ∧ ∀ l, P0 l = (A l == al))
theorem add_OT {d u K lo r last t2 : Nat} {X : pmXs} {M : pmMs} {Z : pmZs} {Q : pmO → Prop} {al : Bool} {A P1 : (Nat → Int32) → Bool} {N1 N2 : List va_E} (h : OT (K + 1) lo N1.length r last al A N1) (hE : Ext N1.length N1 N2) (hD : DenT K N1.length N2.length t2 P1 N2) (hQ : ∀ N5, Ext lo N1 N5 → OT (K + 1) lo N5.length r t2 al (fun l => A l && (P1 l == al)) N5 → Q (.inl none, hp X M (zN Z N5))) : Wp d u 248 0 (pm_entry 248 [.ref (r + 59), .ref (t2 + 59)]) [] (hp X M (zN Z N2)) Q := by
  have h' := h
  obtain ⟨g1, g2, g3, g4, g5, g6, v1, cl, fl, yl, h7, h8, h9, -⟩ := h'
  have hr2 : pm_nth N2 r = some (.inr (11, [.null, .int (bB al), v1, .ref (last + 59)])) := (hE.2 r g2).trans h7
  have hl2 : pm_nth N2 last = some (.inr (cl, .null :: fl)) := (hE.2 last g4).trans h8
  refine Several_add (Z := zN Z N2) hr2 hl2 h9 g6 (fun N k1 k2 k3 k4 => hQ N ?_ ?_)
  · refine ⟨by rw [k1]; exact hE.1, fun i hi => ?_⟩
    rw [k4 i (by omega) (by omega)]
    exact hE.2 i (by omega)
  · rw [show N.length = N2.length from k1]
    exact OT.more h hD h7 h8 k2 k3 (by rw [k1]; exact Nat.le_refl _) (fun i _ a b => k4 i a b) hE.2
/-! LOOP of 117 and its like in M -/
theorem Xpart_step {t : Nat → Int32} {n p q e D K d u lo : Nat} {X : pmXs} {M : pmMs} {Z : pmZs} {Q : pmO → Prop} {P0 P1 : (Nat → Int32) → Bool} {tv row : Value} {l1 : Option Value} (hA : XokT t n 119 [.ref 14] D K (lk t n p + 1) e q P1) (hd : D + 1 ≤ d) (hD : 4 ≤ d) (hp' : p ≤ n) (hq : lk t n p + 1 < q) (hqn : q ≤ n) (hc : ch t n (lk t n p) = nI 38) (hT : XT X t n) (hu : 12 * (q - lk t n p) ≤ u) (hlo : lo ≤ Z.2.2.length) (hO : OpenT K lo tv row true P0 Z.2.2)
    (kk : ∀ N tv row, Ext lo Z.2.2 N → OpenT K lo tv row true (fun l => cmb true (P0 l) (P1 l)) N → Wp d (u - 12 * (q - lk t n p)) 117 19 [some (.ref 14), l1, some tv, some row] [] (hp (PX X q e) M (zN Z N)) Q) : Wp d u 117 19 [some (.ref 14), l1, some tv, some row] [] (hp (PX X p e) M Z) Q := by
  obtain ⟨d, rfl⟩ : ∃ d0, d = d0 + 4 := ⟨d - 4, by omega⟩
  have h52 : ∀ (u' : Nat) (N1 : List va_E) (r last t0 : Nat) (A : (Nat → Int32) → Bool), u - 5 ≤ u' → Ext lo Z.2.2 N1 → OT (K + 1) lo N1.length r last true A N1 → (∀ l, P0 l = (A l == true)) → Wp (d + 4) u' 117 52 [some (.ref 14), l1, some (.ref (t0 + 59)), some (.ref (r + 59))] [] (hp (PX X (lk t n p + 1) e) M (zN Z N1)) Q := by
    intro u' N1 r last t0 A hu' hE1 hOT hP0
    iterate 2 refine Wp.step rfl ?_
    refine Wp.call (u1 := 12 * (q - (lk t n p + 1))) rfl (by omega) (hA _ _ X M _ _ (by omega) (Nat.le_refl _) hT (fun N2 r2 hE hD2 => ⟨_, _, rfl, ?_⟩))
    obtain ⟨fs, hr2⟩ : ∃ fs, pm_nth N2 r = some (.inr (11, fs)) := by
      obtain ⟨g1, g2, g3, g4, g5, g6, v1, cl, fl, yl, h7, -⟩ := hOT
      exact ⟨_, (hE.2 r g2).trans h7⟩
    refine Wp.call (u1 := 0) (pm_call_v rfl rfl (show pm_nth (hp _ _ _) (_ + 59) = _ from hr2) rfl rfl) (Nat.zero_le _) (add_OT hOT hE hD2 (fun N5 a b => ⟨_, _, rfl, ?_⟩))
    refine Wp.step rfl ?_
    refine (kk N5 _ _ (hE1.trans a) (Or.inr ⟨_, _, rfl, ⟨t0, rfl⟩, _, b, fun l => ?_⟩)).mono (Nat.le_refl _) (by omega)
    dsimp only
    rw [hP0]
    exact cmb_acc _ _ _
  refine Wp.step rfl ?_
  refine Wp.call rfl (Nat.zero_le _) (X_look X M Z hT hp' ⟨_, _, rfl, ?_⟩)
  rw [hc]
  refine Wp.step rfl ?_
  refine Wp.brF rfl (fun q => q rfl) ?_
  iterate 5 refine Wp.step rfl ?_
  refine Wp.putX rfl rfl rfl ?_
  rw [PX_inc]
  rcases hO with ⟨rfl, t0, rfl, hS⟩ | ⟨r, last, rfl, ⟨t0, rfl⟩, A, hO, hP0⟩
  · refine Wp.step rfl ?_
    refine Wp.step rfl ?_
    refine Wp.newZ rfl rfl (by omega) ?_
    iterate 3 refine Wp.step rfl ?_
    refine Wp.call (u1 := 0) rfl (Nat.zero_le _) (Several_init (al := true) (n := .null) (a := .int 0) (b := .null) (c := .null) nth_end (fun N1 g1 g2 g3 => ⟨_, _, rfl, ?_⟩))
    have hl1 : N1.length = Z.2.2.length + 1 := g1.trans len_end
    have hE1 : ∀ i, i < Z.2.2.length → pm_nth N1 i = pm_nth Z.2.2 i := fun i hi => (g3 i (by omega)).trans (nth_app hi)
    refine Wp.step rfl ?_
    refine h52 _ N1 _ _ _ _ (by omega) ⟨by omega, fun i hi => hE1 i (by omega)⟩ (by rw [hl1]; exact OT.first hS (Nat.le_refl _) g2 hE1) (fun l => ?_)
    cases P0 l <;> rfl
  · refine Wp.step rfl ?_
    refine Wp.step rfl ?_
    exact h52 _ Z.2.2 r last t0 A (by omega) (Ext.refl _ _) hO hP0
theorem Xpart_fault {t : Nat → Int32} {n p q e D K d u lo : Nat} {X : pmXs} {M : pmMs} {Z : pmZs} {Q : pmO → Prop} {P0 : (Nat → Int32) → Bool} {tv row : Value} {l1 : Option Value} (hA : XflT t n 119 [.ref 14] D (lk t n p + 1) e q) (hd : D + 1 ≤ d) (hD : 4 ≤ d) (hp' : p ≤ n) (hq : lk t n p + 1 ≤ q) (hc : ch t n (lk t n p) = nI 38) (hT : XT X t n) (hu : 12 * (q - lk t n p) + 12 ≤ u) (hlo : lo ≤ Z.2.2.length) (hO : OpenT K lo tv row true P0 Z.2.2)
    (kk : ∀ N e', Ext lo Z.2.2 N → Q (.inr 2, hp (PX X q e') M (zN Z N))) : Wp d u 117 19 [some (.ref 14), l1, some tv, some row] [] (hp (PX X p e) M Z) Q := by
  obtain ⟨d, rfl⟩ : ∃ d0, d = d0 + 4 := ⟨d - 4, by omega⟩
  have h52 : ∀ (u' : Nat) (N1 : List va_E) (r t0 : Nat), u - 5 ≤ u' → Ext lo Z.2.2 N1 → lo ≤ N1.length → Wp (d + 4) u' 117 52 [some (.ref 14), l1, some (.ref (t0 + 59)), some (.ref (r + 59))] [] (hp (PX X (lk t n p + 1) e) M (zN Z N1)) Q := by
    intro u' N1 r t0 hu' hE1 hl
    iterate 2 refine Wp.step rfl ?_
    refine Wp.callF (u1 := 12 * (q - (lk t n p + 1)) + 12) rfl rfl (by omega) (hA _ _ X M _ _ (by omega) (Nat.le_refl _) hT (fun N2 e' hE => Or.inr ⟨_, _, rfl, kk N2 e' (hE1.trans (hE.less hl))⟩))
  refine Wp.step rfl ?_
  refine Wp.call rfl (Nat.zero_le _) (X_look X M Z hT hp' ⟨_, _, rfl, ?_⟩)
  rw [hc]
  refine Wp.step rfl ?_
  refine Wp.brF rfl (fun q => q rfl) ?_
  iterate 5 refine Wp.step rfl ?_
  refine Wp.putX rfl rfl rfl ?_
  rw [PX_inc]
  rcases hO with ⟨rfl, t0, rfl, hS⟩ | ⟨r, last, rfl, ⟨t0, rfl⟩, A, hO, hP0⟩
  · refine Wp.step rfl ?_
    refine Wp.step rfl ?_
    refine Wp.newZ rfl rfl (by omega) ?_
    iterate 3 refine Wp.step rfl ?_
    refine Wp.call (u1 := 0) rfl (Nat.zero_le _) (Several_init (al := true) (n := .null) (a := .int 0) (b := .null) (c := .null) nth_end (fun N1 g1 g2 g3 => ⟨_, _, rfl, ?_⟩))
    have hl1 : N1.length = Z.2.2.length + 1 := g1.trans len_end
    refine Wp.step rfl ?_
    exact h52 _ N1 _ _ (by omega) ⟨by omega, fun i hi => (g3 i (by omega)).trans (nth_app (by omega))⟩ (by omega)
  · refine Wp.step rfl ?_
    refine Wp.step rfl ?_
    exact h52 _ Z.2.2 r t0 (by omega) (Ext.refl _ _) hlo
theorem Xpart_end {t : Nat → Int32} {n p e K d u lo : Nat} {X : pmXs} {M : pmMs} {Z : pmZs} {Q : pmO → Prop} {P0 : (Nat → Int32) → Bool} {tv row : Value} {l1 : Option Value} (hD : 4 ≤ d) (hp' : p ≤ n) (hc : ch t n (lk t n p) ≠ nI 38) (hT : XT X t n) (hO : OpenT K lo tv row true P0 Z.2.2)
    (kk : ∀ r, DenT (K + 1) lo Z.2.2.length r P0 Z.2.2 → Q (.inl (some (.ref (r + 59))), hp (PX X (lk t n p) e) M Z)) : Wp d u 117 19 [some (.ref 14), l1, some tv, some row] [] (hp (PX X p e) M Z) Q := by
  obtain ⟨d, rfl⟩ : ∃ d0, d = d0 + 4 := ⟨d - 4, by omega⟩
  refine Wp.step rfl ?_
  refine Wp.call rfl (Nat.zero_le _) (X_look X M Z hT hp' ⟨_, _, rfl, ?_⟩)
  refine Wp.step rfl ?_
  refine Wp.brT rfl hc ?_
  rcases hO with ⟨rfl, t0, rfl, hS⟩ | ⟨r, last, rfl, ⟨t0, rfl⟩, A, hO, hP0⟩
  · refine Wp.step rfl ?_
    iterate 3 refine Wp.step rfl ?_
    exact Wp.fin rfl trivial (kk _ (hS.mono (by omega) (Nat.le_refl _) (Nat.le_refl _) hS.2.2.1 (fun _ _ _ => rfl)))
  · refine Wp.step rfl ?_
    iterate 2 refine Wp.step rfl ?_
    refine Wp.fin rfl trivial (kk _ ?_)
    rw [show P0 = fun l => A l == true from funext hP0]
    exact hO.close
theorem Mpart_acc {d u : Nat} {h : pmH} {Q : pmO → Prop} {l1 : Option Value} {l2 : Int32} {a b : Bool} (kk : Wp d u 221 18 [some (.ref 35), l1, some (.int l2), some (.int (bB (cmb true a b))), some (.int (bB b))] [] h Q) : Wp d u 221 51 [some (.ref 35), l1, some (.int l2), some (.int (bB a)), some (.int (bB b))] [] h Q := by
  refine Wp.step rfl ?_
  cases a
  · refine Wp.brT rfl rfl ?_
    iterate 3 refine Wp.step rfl ?_
    exact kk
  · refine Wp.brF rfl (by decide) ?_
    refine Wp.step rfl ?_
    cases b
    · refine Wp.brT rfl rfl ?_
      iterate 3 refine Wp.step rfl ?_
      exact kk
    · refine Wp.brF rfl (by decide) ?_
      iterate 4 refine Wp.step rfl ?_
      exact kk
theorem Mpart_step {t : Nat → Int32} {n p q e D d u : Nat} {X : pmXs} {M : pmMs} {Z : pmZs} {Q : pmO → Prop} {P1 : (Nat → Int32) → Bool} {b : Bool} {l1 l4 : Option Value} {l2 : Int32} (hA : MokT t n 226 [.ref 35] D (lk t n p + 1) e q P1) (hd : D + 1 ≤ d) (hD : 4 ≤ d) (hp' : p ≤ n) (hc : ch t n (lk t n p) = nI 38) (hT : MT M t n)
    (kk : ∀ l4, Wp d u 221 18 [some (.ref 35), l1, some (.int l2), some (.int (bB (cmb true b (P1 (ma M 39))))), l4] [] (hp X (KM M (nI q) (nI e) (-1)) Z) Q) : Wp d u 221 18 [some (.ref 35), l1, some (.int l2), some (.int (bB b)), l4] [] (hp X (KM M (nI p) (nI e) (-1)) Z) Q := by
  obtain ⟨d, rfl⟩ : ∃ d0, d = d0 + 4 := ⟨d - 4, by omega⟩
  iterate 3 refine Wp.step rfl ?_
  refine Wp.brF rfl (fun q => q rfl) ?_
  refine Wp.step rfl ?_
  refine Wp.call rfl (Nat.zero_le _) (M_look X M Z hT hp' ⟨_, _, rfl, ?_⟩)
  rw [hc]
  refine Wp.step rfl ?_
  refine Wp.brF rfl (fun q => q rfl) ?_
  iterate 5 refine Wp.step rfl ?_
  refine Wp.putM rfl rfl rfl ?_
  rw [KM_inc]
  iterate 1 refine Wp.step rfl ?_
  refine Wp.call (u1 := 0) rfl (Nat.zero_le _) (hA _ _ X M Z _ (by omega) hT ⟨_, _, rfl, ?_⟩)
  refine Wp.step rfl ?_
  exact Mpart_acc (kk _)
theorem Mpart_fault {t : Nat → Int32} {n p q e D d u : Nat} {X : pmXs} {M : pmMs} {Z : pmZs} {Q : pmO → Prop} {b : Bool} {l1 l4 : Option Value} {l2 : Int32} (hA : MflT t n 226 [.ref 35] D (lk t n p + 1) e q) (hd : D + 1 ≤ d) (hD : 4 ≤ d) (hp' : p ≤ n) (hqn : q ≤ n) (hc : ch t n (lk t n p) = nI 38) (hT : MT M t n)
    (kk : ∀ b a e', Q (.inl (some (.int (bB b))), hp X (KM M a e' (nI q)) Z)) : Wp d u 221 18 [some (.ref 35), l1, some (.int l2), some (.int (bB b)), l4] [] (hp X (KM M (nI p) (nI e) (-1)) Z) Q := by
  have h240 := MT_le hT
  obtain ⟨d, rfl⟩ : ∃ d0, d = d0 + 4 := ⟨d - 4, by omega⟩
  iterate 3 refine Wp.step rfl ?_
  refine Wp.brF rfl (fun q => q rfl) ?_
  refine Wp.step rfl ?_
  refine Wp.call rfl (Nat.zero_le _) (M_look X M Z hT hp' ⟨_, _, rfl, ?_⟩)
  rw [hc]
  refine Wp.step rfl ?_
  refine Wp.brF rfl (fun q => q rfl) ?_
  iterate 5 refine Wp.step rfl ?_
  refine Wp.putM rfl rfl rfl ?_
  rw [KM_inc]
  iterate 1 refine Wp.step rfl ?_
  refine Wp.call (u1 := 0) rfl (Nat.zero_le _) (hA _ _ X M Z _ (by omega) hT (fun b2 a e' => ⟨_, _, rfl, ?_⟩))
  refine Wp.step rfl ?_
  refine Mpart_acc ?_
  iterate 3 refine Wp.step rfl ?_
  refine Wp.brT rfl (nI_m1 (by omega)) ?_
  refine Wp.step rfl ?_
  exact Wp.finZ rfl (bB_or _) (kk _ _ _)
theorem Mpart_end {t : Nat → Int32} {n p e d u : Nat} {X : pmXs} {M : pmMs} {Z : pmZs} {Q : pmO → Prop} {b : Bool} {l1 l4 : Option Value} {l2 : Int32} (hD : 4 ≤ d) (hp' : p ≤ n) (hc : ch t n (lk t n p) ≠ nI 38) (hT : MT M t n) (kk : Q (.inl (some (.int (bB b))), hp X (KM M (nI (lk t n p)) (nI e) (-1)) Z)) : Wp d u 221 18 [some (.ref 35), l1, some (.int l2), some (.int (bB b)), l4] [] (hp X (KM M (nI p) (nI e) (-1)) Z) Q := by
  obtain ⟨d, rfl⟩ : ∃ d0, d = d0 + 4 := ⟨d - 4, by omega⟩
  iterate 3 refine Wp.step rfl ?_
  refine Wp.brF rfl (fun q => q rfl) ?_
  refine Wp.step rfl ?_
  refine Wp.call rfl (Nat.zero_le _) (M_look X M Z hT hp' ⟨_, _, rfl, ?_⟩)
  refine Wp.step rfl ?_
  refine Wp.brT rfl hc ?_
  refine Wp.step rfl ?_
  exact Wp.finZ rfl (bB_or _) kk
theorem partLoop_pk {t : Nat → Int32} {n e D K D' : Nat} (hA : ∀ p, p ≤ n → PT t n 119 [.ref 14] 226 [.ref 35] D K p e) (hD : D + 1 ≤ D') (h4 : 4 ≤ D') : ∀ m p, n - p ≤ m → p ≤ n →
    (∃ (q : Nat) (R : (Nat → Int32) → Bool → Bool), lk t n p ≤ q ∧ q ≤ n ∧
      (∀ (d u : Nat) (X : pmXs) (M : pmMs) (Z : pmZs) (Q : pmO → Prop) (lo : Nat) (tv row : Value) (l1 : Option Value) (P0 : (Nat → Int32) → Bool), D' ≤ d → 12 * (q - p) ≤ u → XT X t n → lo ≤ Z.2.2.length → OpenT K lo tv row true P0 Z.2.2 → (∀ N r, Ext lo Z.2.2 N → DenT (K + 1) lo N.length r (fun l => R l (P0 l)) N → Q (.inl (some (.ref (r + 59))), hp (PX X q e) M (zN Z N))) → Wp d u 117 19 [some (.ref 14), l1, some tv, some row] [] (hp (PX X p e) M Z) Q) ∧
      (∀ (d u : Nat) (X : pmXs) (M : pmMs) (Z : pmZs) (Q : pmO → Prop) (b : Bool) (l1 : Option Value) (l2 : Int32) (l4 : Option Value), D' ≤ d → MT M t n → Q (.inl (some (.int (bB (R (ma M 39) b)))), hp X (KM M (nI q) (nI e) (-1)) Z) → Wp d u 221 18 [some (.ref 35), l1, some (.int l2), some (.int (bB b)), l4] [] (hp X (KM M (nI p) (nI e) (-1)) Z) Q)) ∨
    (∃ q, lk t n p ≤ q ∧ q ≤ n ∧
      (∀ (d u : Nat) (X : pmXs) (M : pmMs) (Z : pmZs) (Q : pmO → Prop) (lo : Nat) (tv row : Value) (l1 : Option Value) (P0 : (Nat → Int32) → Bool), D' ≤ d → 12 * (q - p) + 12 ≤ u → XT X t n → lo ≤ Z.2.2.length → OpenT K lo tv row true P0 Z.2.2 → (∀ N e', Ext lo Z.2.2 N → Q (.inr 2, hp (PX X q e') M (zN Z N))) → Wp d u 117 19 [some (.ref 14), l1, some tv, some row] [] (hp (PX X p e) M Z) Q) ∧
      (∀ (d u : Nat) (X : pmXs) (M : pmMs) (Z : pmZs) (Q : pmO → Prop) (b : Bool) (l1 : Option Value) (l2 : Int32) (l4 : Option Value), D' ≤ d → MT M t n → (∀ b a e', Q (.inl (some (.int (bB b))), hp X (KM M a e' (nI q)) Z)) → Wp d u 221 18 [some (.ref 35), l1, some (.int l2), some (.int (bB b)), l4] [] (hp X (KM M (nI p) (nI e) (-1)) Z) Q)) := by
  intro m
  induction m with
  | zero =>
    intro p hm hp'
    obtain rfl : p = n := by omega
    have e1 : lk t p p = p := lk_stop (by omega)
    have e2 : ch t p p = -1 := if_neg (by omega)
    have e3 : ch t p (lk t p p) ≠ nI 38 := by rw [e1, e2]; decide
    refine Or.inl ⟨p, fun _ b => b, by omega, by omega, ?_, ?_⟩
    · intro d u X M Z Q lo tv row l1 P0 hd hu hT hlo hO kk
      refine Xpart_end (by omega) hp' e3 hT hO (fun r a => ?_)
      rw [e1]
      exact kk Z.2.2 r (Ext.refl _ _) a
    · intro d u X M Z Q b l1 l2 l4 hd hT kk
      refine Mpart_end (by omega) hp' e3 hT ?_
      rw [e1]
      exact kk
  | succ m ih =>
    intro p hm hp'
    have hge := lk_ge t hp'
    have hn := lk_n t hp'
    by_cases hc : ch t n (lk t n p) = nI 38
    · have hlt : lk t n p < n := ch_ne hc (by decide)
      rcases hA (lk t n p + 1) (by omega) with ⟨q1, P1, a1, a2, aX, aM⟩ | ⟨q1, a1, a2, aX, aM⟩
      · have hq1 := lk_ge t a2
        rcases ih q1 (by omega) a2 with ⟨q, R, b1, b2, bX, bM⟩ | ⟨q, b1, b2, bX, bM⟩
        · refine Or.inl ⟨q, fun l b => R l (cmb true b (P1 l)), by omega, b2, ?_, ?_⟩
          · intro d u X M Z Q lo tv row l1 P0 hd hu hT hlo hO kk
            refine Xpart_step aX (by omega) (by omega) hp' a1 a2 hc hT (by omega) hlo hO (fun N tv row hE hO' => ?_)
            exact bX d _ X M (zN Z N) Q lo tv row l1 _ hd (by omega) hT (Nat.le_trans hlo hE.1) hO' (fun N' r hE' hD' => kk N' r (hE.trans hE') hD')
          · intro d u X M Z Q b l1 l2 l4 hd hT kk
            exact Mpart_step aM (by omega) (by omega) hp' hc hT (fun l4 => bM d u X M Z Q _ l1 l2 l4 hd hT kk)
        · refine Or.inr ⟨q, by omega, b2, ?_, ?_⟩
          · intro d u X M Z Q lo tv row l1 P0 hd hu hT hlo hO kk
            refine Xpart_step aX (by omega) (by omega) hp' a1 a2 hc hT (by omega) hlo hO (fun N tv row hE hO' => ?_)
            exact bX d _ X M (zN Z N) Q lo tv row l1 _ hd (by omega) hT (Nat.le_trans hlo hE.1) hO' (fun N' e' hE' => kk N' e' (hE.trans hE'))
          · intro d u X M Z Q b l1 l2 l4 hd hT kk
            exact Mpart_step aM (by omega) (by omega) hp' hc hT (fun l4 => bM d u X M Z Q _ l1 l2 l4 hd hT kk)
      · refine Or.inr ⟨q1, by omega, a2, ?_, ?_⟩
        · intro d u X M Z Q lo tv row l1 P0 hd hu hT hlo hO kk
          exact Xpart_fault aX (by omega) (by omega) hp' a1 hc hT (by omega) hlo hO kk
        · intro d u X M Z Q b l1 l2 l4 hd hT kk
          exact Mpart_fault aM (by omega) (by omega) hp' a2 hc hT kk
    · refine Or.inl ⟨lk t n p, fun _ b => b, Nat.le_refl _, hn, ?_, ?_⟩
      · intro d u X M Z Q lo tv row l1 P0 hd hu hT hlo hO kk
        exact Xpart_end (by omega) hp' hc hT hO (fun r a => kk Z.2.2 r (Ext.refl _ _) a)
      · intro d u X M Z Q b l1 l2 l4 hd hT kk
        exact Mpart_end (by omega) hp' hc hT kk
/-! LOOP of 110 and its like in M -/
theorem Xcond_step {t : Nat → Int32} {n p q e D K d u lo : Nat} {X : pmXs} {M : pmMs} {Z : pmZs} {Q : pmO → Prop} {P0 P1 : (Nat → Int32) → Bool} {tv row : Value} {l1 : Option Value} (hA : XokT t n 117 [.ref 14, .null] D K (lk t n p + 1) e q P1) (hd : D + 1 ≤ d) (hD : 4 ≤ d) (hp' : p ≤ n) (hq : lk t n p + 1 < q) (hqn : q ≤ n) (hc : ch t n (lk t n p) = nI 124) (hT : XT X t n) (hu : 12 * (q - lk t n p) ≤ u) (hlo : lo ≤ Z.2.2.length) (hO : OpenT K lo tv row false P0 Z.2.2)
    (kk : ∀ N tv row, Ext lo Z.2.2 N → OpenT K lo tv row false (fun l => cmb false (P0 l) (P1 l)) N → Wp d (u - 12 * (q - lk t n p)) 110 8 [some (.ref 14), l1, some tv, some row] [] (hp (PX X q e) M (zN Z N)) Q) : Wp d u 110 8 [some (.ref 14), l1, some tv, some row] [] (hp (PX X p e) M Z) Q := by
  obtain ⟨d, rfl⟩ : ∃ d0, d = d0 + 4 := ⟨d - 4, by omega⟩
  have h52 : ∀ (u' : Nat) (N1 : List va_E) (r last t0 : Nat) (A : (Nat → Int32) → Bool), u - 5 ≤ u' → Ext lo Z.2.2 N1 → OT (K + 1) lo N1.length r last false A N1 → (∀ l, P0 l = (A l == false)) → Wp (d + 4) u' 110 41 [some (.ref 14), l1, some (.ref (t0 + 59)), some (.ref (r + 59))] [] (hp (PX X (lk t n p + 1) e) M (zN Z N1)) Q := by
    intro u' N1 r last t0 A hu' hE1 hOT hP0
    iterate 3 refine Wp.step rfl ?_
    refine Wp.call (u1 := 12 * (q - (lk t n p + 1))) rfl (by omega) (hA _ _ X M _ _ (by omega) (Nat.le_refl _) hT (fun N2 r2 hE hD2 => ⟨_, _, rfl, ?_⟩))
    obtain ⟨fs, hr2⟩ : ∃ fs, pm_nth N2 r = some (.inr (11, fs)) := by
      obtain ⟨g1, g2, g3, g4, g5, g6, v1, cl, fl, yl, h7, -⟩ := hOT
      exact ⟨_, (hE.2 r g2).trans h7⟩
    refine Wp.call (u1 := 0) (pm_call_v rfl rfl (show pm_nth (hp _ _ _) (_ + 59) = _ from hr2) rfl rfl) (Nat.zero_le _) (add_OT hOT hE hD2 (fun N5 a b => ⟨_, _, rfl, ?_⟩))
    refine Wp.step rfl ?_
    refine (kk N5 _ _ (hE1.trans a) (Or.inr ⟨_, _, rfl, ⟨t0, rfl⟩, _, b, fun l => ?_⟩)).mono (Nat.le_refl _) (by omega)
    dsimp only
    rw [hP0]
    exact cmb_acc _ _ _
  refine Wp.step rfl ?_
  refine Wp.call rfl (Nat.zero_le _) (X_look X M Z hT hp' ⟨_, _, rfl, ?_⟩)
  rw [hc]
  refine Wp.step rfl ?_
  refine Wp.brF rfl (fun q => q rfl) ?_
  iterate 5 refine Wp.step rfl ?_
  refine Wp.putX rfl rfl rfl ?_
  rw [PX_inc]
  rcases hO with ⟨rfl, t0, rfl, hS⟩ | ⟨r, last, rfl, ⟨t0, rfl⟩, A, hO, hP0⟩
  · refine Wp.step rfl ?_
    refine Wp.step rfl ?_
    refine Wp.newZ rfl rfl (by omega) ?_
    iterate 3 refine Wp.step rfl ?_
    refine Wp.call (u1 := 0) rfl (Nat.zero_le _) (Several_init (al := false) (n := .null) (a := .int 0) (b := .null) (c := .null) nth_end (fun N1 g1 g2 g3 => ⟨_, _, rfl, ?_⟩))
    have hl1 : N1.length = Z.2.2.length + 1 := g1.trans len_end
    have hE1 : ∀ i, i < Z.2.2.length → pm_nth N1 i = pm_nth Z.2.2 i := fun i hi => (g3 i (by omega)).trans (nth_app hi)
    refine Wp.step rfl ?_
    refine h52 _ N1 _ _ _ _ (by omega) ⟨by omega, fun i hi => hE1 i (by omega)⟩ (by rw [hl1]; exact OT.first hS (Nat.le_refl _) g2 hE1) (fun l => ?_)
    cases P0 l <;> rfl
  · refine Wp.step rfl ?_
    refine Wp.step rfl ?_
    exact h52 _ Z.2.2 r last t0 A (by omega) (Ext.refl _ _) hO hP0
theorem Xcond_fault {t : Nat → Int32} {n p q e D K d u lo : Nat} {X : pmXs} {M : pmMs} {Z : pmZs} {Q : pmO → Prop} {P0 : (Nat → Int32) → Bool} {tv row : Value} {l1 : Option Value} (hA : XflT t n 117 [.ref 14, .null] D (lk t n p + 1) e q) (hd : D + 1 ≤ d) (hD : 4 ≤ d) (hp' : p ≤ n) (hq : lk t n p + 1 ≤ q) (hc : ch t n (lk t n p) = nI 124) (hT : XT X t n) (hu : 12 * (q - lk t n p) + 12 ≤ u) (hlo : lo ≤ Z.2.2.length) (hO : OpenT K lo tv row false P0 Z.2.2)
    (kk : ∀ N e', Ext lo Z.2.2 N → Q (.inr 2, hp (PX X q e') M (zN Z N))) : Wp d u 110 8 [some (.ref 14), l1, some tv, some row] [] (hp (PX X p e) M Z) Q := by
  obtain ⟨d, rfl⟩ : ∃ d0, d = d0 + 4 := ⟨d - 4, by omega⟩
  have h52 : ∀ (u' : Nat) (N1 : List va_E) (r t0 : Nat), u - 5 ≤ u' → Ext lo Z.2.2 N1 → lo ≤ N1.length → Wp (d + 4) u' 110 41 [some (.ref 14), l1, some (.ref (t0 + 59)), some (.ref (r + 59))] [] (hp (PX X (lk t n p + 1) e) M (zN Z N1)) Q := by
    intro u' N1 r t0 hu' hE1 hl
    iterate 3 refine Wp.step rfl ?_
    refine Wp.callF (u1 := 12 * (q - (lk t n p + 1)) + 12) rfl rfl (by omega) (hA _ _ X M _ _ (by omega) (Nat.le_refl _) hT (fun N2 e' hE => Or.inr ⟨_, _, rfl, kk N2 e' (hE1.trans (hE.less hl))⟩))
  refine Wp.step rfl ?_
  refine Wp.call rfl (Nat.zero_le _) (X_look X M Z hT hp' ⟨_, _, rfl, ?_⟩)
  rw [hc]
  refine Wp.step rfl ?_
  refine Wp.brF rfl (fun q => q rfl) ?_
  iterate 5 refine Wp.step rfl ?_
  refine Wp.putX rfl rfl rfl ?_
  rw [PX_inc]
  rcases hO with ⟨rfl, t0, rfl, hS⟩ | ⟨r, last, rfl, ⟨t0, rfl⟩, A, hO, hP0⟩
  · refine Wp.step rfl ?_
    refine Wp.step rfl ?_
    refine Wp.newZ rfl rfl (by omega) ?_
    iterate 3 refine Wp.step rfl ?_
    refine Wp.call (u1 := 0) rfl (Nat.zero_le _) (Several_init (al := false) (n := .null) (a := .int 0) (b := .null) (c := .null) nth_end (fun N1 g1 g2 g3 => ⟨_, _, rfl, ?_⟩))
    have hl1 : N1.length = Z.2.2.length + 1 := g1.trans len_end
    refine Wp.step rfl ?_
    exact h52 _ N1 _ _ (by omega) ⟨by omega, fun i hi => (g3 i (by omega)).trans (nth_app (by omega))⟩ (by omega)
  · refine Wp.step rfl ?_
    refine Wp.step rfl ?_
    exact h52 _ Z.2.2 r t0 (by omega) (Ext.refl _ _) hlo
theorem Xcond_end {t : Nat → Int32} {n p e K d u lo : Nat} {X : pmXs} {M : pmMs} {Z : pmZs} {Q : pmO → Prop} {P0 : (Nat → Int32) → Bool} {tv row : Value} {l1 : Option Value} (hD : 4 ≤ d) (hp' : p ≤ n) (hc : ch t n (lk t n p) ≠ nI 124) (hT : XT X t n) (hO : OpenT K lo tv row false P0 Z.2.2)
    (kk : ∀ r, DenT (K + 1) lo Z.2.2.length r P0 Z.2.2 → Q (.inl (some (.ref (r + 59))), hp (PX X (lk t n p) e) M Z)) : Wp d u 110 8 [some (.ref 14), l1, some tv, some row] [] (hp (PX X p e) M Z) Q := by
  obtain ⟨d, rfl⟩ : ∃ d0, d = d0 + 4 := ⟨d - 4, by omega⟩
  refine Wp.step rfl ?_
  refine Wp.call rfl (Nat.zero_le _) (X_look X M Z hT hp' ⟨_, _, rfl, ?_⟩)
  refine Wp.step rfl ?_
  refine Wp.brT rfl hc ?_
  rcases hO with ⟨rfl, t0, rfl, hS⟩ | ⟨r, last, rfl, ⟨t0, rfl⟩, A, hO, hP0⟩
  · refine Wp.step rfl ?_
    iterate 3 refine Wp.step rfl ?_
    exact Wp.fin rfl trivial (kk _ (hS.mono (by omega) (Nat.le_refl _) (Nat.le_refl _) hS.2.2.1 (fun _ _ _ => rfl)))
  · refine Wp.step rfl ?_
    iterate 2 refine Wp.step rfl ?_
    refine Wp.fin rfl trivial (kk _ ?_)
    rw [show P0 = fun l => A l == false from funext hP0]
    exact hO.close
theorem Mcond_acc {d u : Nat} {h : pmH} {Q : pmO → Prop} {l1 : Option Value} {l2 : Int32} {a b : Bool} (kk : Wp d u 214 7 [some (.ref 35), l1, some (.int l2), some (.int (bB (cmb false a b))), some (.int (bB b))] [] h Q) : Wp d u 214 42 [some (.ref 35), l1, some (.int l2), some (.int (bB a)), some (.int (bB b))] [] h Q := by
  refine Wp.step rfl ?_
  cases a
  · refine Wp.brF rfl (fun q => q rfl) ?_
    refine Wp.step rfl ?_
    cases b
    · refine Wp.brT rfl rfl ?_
      iterate 3 refine Wp.step rfl ?_
      exact kk
    · refine Wp.brF rfl (by decide) ?_
      iterate 4 refine Wp.step rfl ?_
      exact kk
  · refine Wp.brT rfl (by decide) ?_
    iterate 4 refine Wp.step rfl ?_
    exact kk
theorem Mcond_step {t : Nat → Int32} {n p q e D d u : Nat} {X : pmXs} {M : pmMs} {Z : pmZs} {Q : pmO → Prop} {P1 : (Nat → Int32) → Bool} {b : Bool} {l1 l4 : Option Value} {l2 : Int32} (hA : MokT t n 221 [.ref 35, .int (nI 0), .int (nI 0)] D (lk t n p + 1) e q P1) (hd : D + 1 ≤ d) (hD : 4 ≤ d) (hp' : p ≤ n) (hc : ch t n (lk t n p) = nI 124) (hT : MT M t n)
    (kk : ∀ l4, Wp d u 214 7 [some (.ref 35), l1, some (.int l2), some (.int (bB (cmb false b (P1 (ma M 39))))), l4] [] (hp X (KM M (nI q) (nI e) (-1)) Z) Q) : Wp d u 214 7 [some (.ref 35), l1, some (.int l2), some (.int (bB b)), l4] [] (hp X (KM M (nI p) (nI e) (-1)) Z) Q := by
  obtain ⟨d, rfl⟩ : ∃ d0, d = d0 + 4 := ⟨d - 4, by omega⟩
  iterate 3 refine Wp.step rfl ?_
  refine Wp.brF rfl (fun q => q rfl) ?_
  refine Wp.step rfl ?_
  refine Wp.call rfl (Nat.zero_le _) (M_look X M Z hT hp' ⟨_, _, rfl, ?_⟩)
  rw [hc]
  refine Wp.step rfl ?_
  refine Wp.brF rfl (fun q => q rfl) ?_
  iterate 5 refine Wp.step rfl ?_
  refine Wp.putM rfl rfl rfl ?_
  rw [KM_inc]
  iterate 3 refine Wp.step rfl ?_
  refine Wp.call (u1 := 0) rfl (Nat.zero_le _) (hA _ _ X M Z _ (by omega) hT ⟨_, _, rfl, ?_⟩)
  refine Wp.step rfl ?_
  exact Mcond_acc (kk _)
theorem Mcond_fault {t : Nat → Int32} {n p q e D d u : Nat} {X : pmXs} {M : pmMs} {Z : pmZs} {Q : pmO → Prop} {b : Bool} {l1 l4 : Option Value} {l2 : Int32} (hA : MflT t n 221 [.ref 35, .int (nI 0), .int (nI 0)] D (lk t n p + 1) e q) (hd : D + 1 ≤ d) (hD : 4 ≤ d) (hp' : p ≤ n) (hqn : q ≤ n) (hc : ch t n (lk t n p) = nI 124) (hT : MT M t n)
    (kk : ∀ b a e', Q (.inl (some (.int (bB b))), hp X (KM M a e' (nI q)) Z)) : Wp d u 214 7 [some (.ref 35), l1, some (.int l2), some (.int (bB b)), l4] [] (hp X (KM M (nI p) (nI e) (-1)) Z) Q := by
  have h240 := MT_le hT
  obtain ⟨d, rfl⟩ : ∃ d0, d = d0 + 4 := ⟨d - 4, by omega⟩
  iterate 3 refine Wp.step rfl ?_
  refine Wp.brF rfl (fun q => q rfl) ?_
  refine Wp.step rfl ?_
  refine Wp.call rfl (Nat.zero_le _) (M_look X M Z hT hp' ⟨_, _, rfl, ?_⟩)
  rw [hc]
  refine Wp.step rfl ?_
  refine Wp.brF rfl (fun q => q rfl) ?_
  iterate 5 refine Wp.step rfl ?_
  refine Wp.putM rfl rfl rfl ?_
  rw [KM_inc]
  iterate 3 refine Wp.step rfl ?_
  refine Wp.call (u1 := 0) rfl (Nat.zero_le _) (hA _ _ X M Z _ (by omega) hT (fun b2 a e' => ⟨_, _, rfl, ?_⟩))
  refine Wp.step rfl ?_
  refine Mcond_acc ?_
  iterate 3 refine Wp.step rfl ?_
  refine Wp.brT rfl (nI_m1 (by omega)) ?_
  refine Wp.step rfl ?_
  exact Wp.finZ rfl (bB_or _) (kk _ _ _)
theorem Mcond_end {t : Nat → Int32} {n p e d u : Nat} {X : pmXs} {M : pmMs} {Z : pmZs} {Q : pmO → Prop} {b : Bool} {l1 l4 : Option Value} {l2 : Int32} (hD : 4 ≤ d) (hp' : p ≤ n) (hc : ch t n (lk t n p) ≠ nI 124) (hT : MT M t n) (kk : Q (.inl (some (.int (bB b))), hp X (KM M (nI (lk t n p)) (nI e) (-1)) Z)) : Wp d u 214 7 [some (.ref 35), l1, some (.int l2), some (.int (bB b)), l4] [] (hp X (KM M (nI p) (nI e) (-1)) Z) Q := by
  obtain ⟨d, rfl⟩ : ∃ d0, d = d0 + 4 := ⟨d - 4, by omega⟩
  iterate 3 refine Wp.step rfl ?_
  refine Wp.brF rfl (fun q => q rfl) ?_
  refine Wp.step rfl ?_
  refine Wp.call rfl (Nat.zero_le _) (M_look X M Z hT hp' ⟨_, _, rfl, ?_⟩)
  refine Wp.step rfl ?_
  refine Wp.brT rfl hc ?_
  refine Wp.step rfl ?_
  exact Wp.finZ rfl (bB_or _) kk
theorem condLoop_pk {t : Nat → Int32} {n e D K D' : Nat} (hA : ∀ p, p ≤ n → PT t n 117 [.ref 14, .null] 221 [.ref 35, .int (nI 0), .int (nI 0)] D K p e) (hD : D + 1 ≤ D') (h4 : 4 ≤ D') : ∀ m p, n - p ≤ m → p ≤ n →
    (∃ (q : Nat) (R : (Nat → Int32) → Bool → Bool), lk t n p ≤ q ∧ q ≤ n ∧
      (∀ (d u : Nat) (X : pmXs) (M : pmMs) (Z : pmZs) (Q : pmO → Prop) (lo : Nat) (tv row : Value) (l1 : Option Value) (P0 : (Nat → Int32) → Bool), D' ≤ d → 12 * (q - p) ≤ u → XT X t n → lo ≤ Z.2.2.length → OpenT K lo tv row false P0 Z.2.2 → (∀ N r, Ext lo Z.2.2 N → DenT (K + 1) lo N.length r (fun l => R l (P0 l)) N → Q (.inl (some (.ref (r + 59))), hp (PX X q e) M (zN Z N))) → Wp d u 110 8 [some (.ref 14), l1, some tv, some row] [] (hp (PX X p e) M Z) Q) ∧
      (∀ (d u : Nat) (X : pmXs) (M : pmMs) (Z : pmZs) (Q : pmO → Prop) (b : Bool) (l1 : Option Value) (l2 : Int32) (l4 : Option Value), D' ≤ d → MT M t n → Q (.inl (some (.int (bB (R (ma M 39) b)))), hp X (KM M (nI q) (nI e) (-1)) Z) → Wp d u 214 7 [some (.ref 35), l1, some (.int l2), some (.int (bB b)), l4] [] (hp X (KM M (nI p) (nI e) (-1)) Z) Q)) ∨
    (∃ q, lk t n p ≤ q ∧ q ≤ n ∧
      (∀ (d u : Nat) (X : pmXs) (M : pmMs) (Z : pmZs) (Q : pmO → Prop) (lo : Nat) (tv row : Value) (l1 : Option Value) (P0 : (Nat → Int32) → Bool), D' ≤ d → 12 * (q - p) + 12 ≤ u → XT X t n → lo ≤ Z.2.2.length → OpenT K lo tv row false P0 Z.2.2 → (∀ N e', Ext lo Z.2.2 N → Q (.inr 2, hp (PX X q e') M (zN Z N))) → Wp d u 110 8 [some (.ref 14), l1, some tv, some row] [] (hp (PX X p e) M Z) Q) ∧
      (∀ (d u : Nat) (X : pmXs) (M : pmMs) (Z : pmZs) (Q : pmO → Prop) (b : Bool) (l1 : Option Value) (l2 : Int32) (l4 : Option Value), D' ≤ d → MT M t n → (∀ b a e', Q (.inl (some (.int (bB b))), hp X (KM M a e' (nI q)) Z)) → Wp d u 214 7 [some (.ref 35), l1, some (.int l2), some (.int (bB b)), l4] [] (hp X (KM M (nI p) (nI e) (-1)) Z) Q)) := by
  intro m
  induction m with
  | zero =>
    intro p hm hp'
    obtain rfl : p = n := by omega
    have e1 : lk t p p = p := lk_stop (by omega)
    have e2 : ch t p p = -1 := if_neg (by omega)
    have e3 : ch t p (lk t p p) ≠ nI 124 := by rw [e1, e2]; decide
    refine Or.inl ⟨p, fun _ b => b, by omega, by omega, ?_, ?_⟩
    · intro d u X M Z Q lo tv row l1 P0 hd hu hT hlo hO kk
      refine Xcond_end (by omega) hp' e3 hT hO (fun r a => ?_)
      rw [e1]
      exact kk Z.2.2 r (Ext.refl _ _) a
    · intro d u X M Z Q b l1 l2 l4 hd hT kk
      refine Mcond_end (by omega) hp' e3 hT ?_
      rw [e1]
      exact kk
  | succ m ih =>
    intro p hm hp'
    have hge := lk_ge t hp'
    have hn := lk_n t hp'
    by_cases hc : ch t n (lk t n p) = nI 124
    · have hlt : lk t n p < n := ch_ne hc (by decide)
      rcases hA (lk t n p + 1) (by omega) with ⟨q1, P1, a1, a2, aX, aM⟩ | ⟨q1, a1, a2, aX, aM⟩
      · have hq1 := lk_ge t a2
        rcases ih q1 (by omega) a2 with ⟨q, R, b1, b2, bX, bM⟩ | ⟨q, b1, b2, bX, bM⟩
        · refine Or.inl ⟨q, fun l b => R l (cmb false b (P1 l)), by omega, b2, ?_, ?_⟩
          · intro d u X M Z Q lo tv row l1 P0 hd hu hT hlo hO kk
            refine Xcond_step aX (by omega) (by omega) hp' a1 a2 hc hT (by omega) hlo hO (fun N tv row hE hO' => ?_)
            exact bX d _ X M (zN Z N) Q lo tv row l1 _ hd (by omega) hT (Nat.le_trans hlo hE.1) hO' (fun N' r hE' hD' => kk N' r (hE.trans hE') hD')
          · intro d u X M Z Q b l1 l2 l4 hd hT kk
            exact Mcond_step aM (by omega) (by omega) hp' hc hT (fun l4 => bM d u X M Z Q _ l1 l2 l4 hd hT kk)
        · refine Or.inr ⟨q, by omega, b2, ?_, ?_⟩
          · intro d u X M Z Q lo tv row l1 P0 hd hu hT hlo hO kk
            refine Xcond_step aX (by omega) (by omega) hp' a1 a2 hc hT (by omega) hlo hO (fun N tv row hE hO' => ?_)
            exact bX d _ X M (zN Z N) Q lo tv row l1 _ hd (by omega) hT (Nat.le_trans hlo hE.1) hO' (fun N' e' hE' => kk N' e' (hE.trans hE'))
          · intro d u X M Z Q b l1 l2 l4 hd hT kk
            exact Mcond_step aM (by omega) (by omega) hp' hc hT (fun l4 => bM d u X M Z Q _ l1 l2 l4 hd hT kk)
      · refine Or.inr ⟨q1, by omega, a2, ?_, ?_⟩
        · intro d u X M Z Q lo tv row l1 P0 hd hu hT hlo hO kk
          exact Xcond_fault aX (by omega) (by omega) hp' a1 hc hT (by omega) hlo hO kk
        · intro d u X M Z Q b l1 l2 l4 hd hT kk
          exact Mcond_fault aM (by omega) (by omega) hp' a2 hc hT kk
    · refine Or.inl ⟨lk t n p, fun _ b => b, Nat.le_refl _, hn, ?_, ?_⟩
      · intro d u X M Z Q lo tv row l1 P0 hd hu hT hlo hO kk
        exact Xcond_end (by omega) hp' hc hT hO (fun r a => kk Z.2.2 r (Ext.refl _ _) a)
      · intro d u X M Z Q b l1 l2 l4 hd hT kk
        exact Mcond_end (by omega) hp' hc hT kk
