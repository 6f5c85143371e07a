/-! A LAW'S TEXT, whole, in both -/
/-- M but for what parsing leaves behind -/
def jB (k : Nat) : Bool := (Nat.ble 8 k && Nat.ble k 14) || Nat.beq k 17
def Jk (M M' : pmMs) : Prop := (∀ k, jB k = false → M'.1 k = M.1 k) ∧ M'.2.1 = M.2.1 ∧ M'.2.2.2 = M.2.2.2
theorem Jk.refl (M : pmMs) : Jk M M := ⟨fun _ _ => rfl, rfl, rfl⟩
theorem Jk.trans {A B C : pmMs} (h1 : Jk A B) (h2 : Jk B C) : Jk A C := ⟨fun k hk => (h2.1 k hk).trans (h1.1 k hk), h2.2.1.trans h1.2.1, h2.2.2.trans h1.2.2⟩
theorem Jk.mI {M M' : pmMs} (h : Jk M M') {k : Nat} (v : Int32) (hk : jB k = true) : Jk M (mI M' k v) := by
  refine ⟨fun j hj => ?_, h.2.1, h.2.2⟩
  rw [mI_ne _ _ (fun q => by rw [q, hk] at hj; cases hj)]
  exact h.1 j hj
theorem Jk.mT {M M' : pmMs} (h : Jk M M') (a : Nat) : Jk M (mT M' a) := ⟨h.1, h.2.1, h.2.2⟩
theorem Jk.KM {M M' : pmMs} (h : Jk M M') (p e f : Int32) : Jk M (KM M' p e f) := ((h.mI p (k := 10) rfl).mI e (k := 12) rfl).mI f (k := 11) rfl
theorem Jk.FM {M M' : pmMs} (h : Jk M M') (b : Bool) (f : Int32) : Jk M (FM M' b f) := (h.mI _ (k := 17) rfl).mI _ (k := 14) rfl
/-- M set to read the text at b of a -/
def SM (M : pmMs) (a b n : Nat) : pmMs := mI (mI (mT M a) 8 (nI b)) 9 (nI n)
theorem SM_KM (M : pmMs) (a b n : Nat) : mI (mI (SM M a b n) 10 (nI 0)) 11 (-1) = KM (SM M a b n) (nI 0) (M.1 12) (-1) := by
  show (upd (upd (SM M a b n).1 10 (nI 0)) 11 (-1), (SM M a b n).2) = (upd (upd (upd (SM M a b n).1 10 (nI 0)) 12 (M.1 12)) 11 (-1), (SM M a b n).2)
  congr 1
  funext j
  by_cases h : j = 11
  · subst h; rw [pk_us, pk_us]
  · rw [pk_un h, pk_un h]
    by_cases h2 : j = 12
    · subst h2; rw [pk_us]; rfl
    · rw [pk_un h2]
theorem Wp.putMT {d u mi pc ln nx idx : Nat} {L : pmL} {r : List Value} {X : pmXs} {M : pmMs} {Z : pmZs} {Q : pmO → Prop} {cv : Value} {a : Nat} (e : pm_code mi pc = some (.putfield idx, ln, nx, cv, 1, [(1, 5)])) (kk : Wp d u mi nx L r (hp X (mT M a) Z) Q) : Wp d u mi pc L (.ref a :: .ref 35 :: r) (hp X M Z) Q := by
  refine Wp.stepP (P := True) (pc' := nx) (L' := L) (st' := r) (h' := hp X (mT M a) Z) ?_ trivial kk
  unfold pm_step
  rw [e]
  rfl
theorem M_starts {d u : Nat} {X : pmXs} {M : pmMs} {Z : pmZs} {Q : pmO → Prop} {a b n : Nat} (hQ : Q (.inl none, hp X (KM (SM M a b n) (nI 0) (M.1 12) (-1)) Z)) : Wp d u 199 0 (pm_entry 199 [.ref 35, .ref a, .int (nI b), .int (nI n)]) [] (hp X M Z) Q := by
  rw [← SM_KM] at hQ
  iterate 2 refine Wp.step rfl ?_
  refine Wp.putMT rfl ?_
  repeat (first | refine Wp.putX rfl rfl rfl ?_ | refine Wp.putM rfl rfl rfl ?_ | refine Wp.step rfl ?_)
  try dsimp only
  exact Wp.fin rfl trivial hQ
theorem SM_MT {M : pmMs} {t : Nat → Int32} {a b n : Nat} (ha : a = 36 ∧ b + n ≤ 240 ∨ a = 37 ∧ b + n ≤ 960) (hn : n ≤ 240) (ht : ∀ j, j < n → ma M a (b + j) = t j) : MT (SM M a b n) t n := ⟨b, ha, rfl, rfl, hn, ht⟩
section PKW
variable (t : Nat → Int32) (n : Nat)
def XlawOk (F : (Nat → Int32) → Int32) : Prop := ∀ (d u : Nat) (X : pmXs) (M : pmMs) (Z : pmZs) (Q : pmO → Prop), 160 ≤ d → 12 * n ≤ u → XT X t n → (∀ N r p, Ext Z.2.2.length Z.2.2 N → DenL 140 Z.2.2.length N.length r F N → Q (.inl (some (.ref (r + 59))), hp (PX X p 0) M (zN Z N))) → Wp d u 91 0 (pm_entry 91 [.ref 14]) [] (hp X M Z) Q
def XlawFl (q : Nat) : Prop := ∀ (d u : Nat) (X : pmXs) (M : pmMs) (Z : pmZs) (Q : pmO → Prop), 160 ≤ d → 12 * n + 12 ≤ u → XT X t n → (∀ N e', Ext Z.2.2.length Z.2.2 N → Q (.inr 2, hp (PX X q e') M (zN Z N))) → Wp d u 91 0 (pm_entry 91 [.ref 14]) [] (hp X M Z) Q
def MlawOk (F : (Nat → Int32) → Int32) : Prop := ∀ (d u : Nat) (X : pmXs) (M : pmMs) (Z : pmZs) (Q : pmO → Prop) (a b : Nat), 160 ≤ d → (a = 36 ∧ b + n ≤ 240 ∨ a = 37 ∧ b + n ≤ 960) → n ≤ 240 → (∀ j, j < n → ma M a (b + j) = t j) → (∀ M', Jk M M' → M'.1 14 = F (ma M 39) → M'.1 11 = -1 → Q (.inl none, hp X M' Z)) → Wp d u 170 0 (pm_entry 170 [.ref 35, .ref a, .int (nI b), .int (nI n)]) [] (hp X M Z) Q
def MlawFl (q : Nat) : Prop := ∀ (d u : Nat) (X : pmXs) (M : pmMs) (Z : pmZs) (Q : pmO → Prop) (a b : Nat), 160 ≤ d → (a = 36 ∧ b + n ≤ 240 ∨ a = 37 ∧ b + n ≤ 960) → n ≤ 240 → (∀ j, j < n → ma M a (b + j) = t j) → (∀ M', Jk M M' → M'.1 11 = nI q → Q (.inl none, hp X M' Z)) → Wp d u 170 0 (pm_entry 170 [.ref 35, .ref a, .int (nI b), .int (nI n)]) [] (hp X M Z) Q
def LawPk : Prop := (∃ F, XlawOk t n F ∧ MlawOk t n F) ∨ (∃ q, q ≤ n ∧ XlawFl t n q ∧ MlawFl t n q)
end PKW
theorem law_pk {t : Nat → Int32} {n : Nat} (hB : ∀ j, j < n → isB (t j)) : LawPk t n := by
  obtain ⟨hS, hP, hU, hPt, hC⟩ := all_pk hB 6 0 rfl
  have hPF : ∀ p, p ≤ n → PF t n 117 221 134 125 129 p 0 := fun p h => partF_pk hU (hP p h) (by omega) (by omega) (by omega) (by omega)
  have hCF : ∀ p, p ≤ n → PF t n 110 214 135 125 130 p 0 := fun p h => condF_pk hPt (hPF p h) (by omega) (by omega)
  have hTl : ∀ p, p ≤ n → TLp t n 140 138 p := fun p h => tail_pk h hS (by omega) (by omega) (by omega)
  have hCl : ∀ p, p ≤ n → CLp t n 145 139 p := fun p h => clause_pk h hS hC hCF hTl (by omega) (by omega) (by omega) (by omega) (by omega) (by omega) (by omega) (by omega)
  have keyX : ∀ {d u : Nat} {X : pmXs} {M : pmMs} {Z : pmZs} {Q : pmO → Prop}, Wp d u 91 11 [some (.ref 14), none, none] [.ref 14] (hp (PX X 0 0) M Z) Q → Wp d u 91 0 (pm_entry 91 [.ref 14]) [] (hp X M Z) Q := by
    intro d u X M Z Q kk
    iterate 2 refine Wp.step rfl ?_
    refine Wp.putX rfl rfl rfl ?_
    iterate 2 refine Wp.step rfl ?_
    refine Wp.putX rfl rfl rfl ?_
    refine Wp.step rfl ?_
    exact kk
  have keyM : ∀ {d u : Nat} {X : pmXs} {M : pmMs} {Z : pmZs} {Q : pmO → Prop} {a b : Nat}, 2 ≤ d → Wp d u 170 29 [some (.ref 35), some (.ref a), some (.int (nI b)), some (.int (nI n))] [.ref 35] (hp X (KM (FM (mI (SM M a b n) 13 (nI 121)) false (nI 0)) (nI 0) (nI 0) (-1)) Z) Q → Wp d u 170 0 (pm_entry 170 [.ref 35, .ref a, .int (nI b), .int (nI n)]) [] (hp X M Z) Q := by
    intro d u X M Z Q a b h2 kk
    obtain ⟨d, rfl⟩ : ∃ d0, d = d0 + 2 := ⟨d - 2, by omega⟩
    iterate 4 refine Wp.step rfl ?_
    refine Wp.call rfl (Nat.zero_le _) (M_starts ⟨_, _, rfl, ?_⟩)
    iterate 2 refine Wp.step rfl ?_
    refine Wp.putM rfl rfl rfl ?_
    rw [KM_mI _ _ _ _ _ (by decide) (by decide) (by decide)]
    iterate 2 refine Wp.step rfl ?_
    refine Wp.putM rfl rfl rfl ?_
    rw [KM_e]
    iterate 2 refine Wp.step rfl ?_
    refine Wp.putMZ rfl rfl rfl (Or.inl rfl) ?_
    rw [KM_mI _ _ _ _ _ (by decide) (by decide) (by decide)]
    iterate 2 refine Wp.step rfl ?_
    refine Wp.putM rfl rfl rfl ?_
    rw [KM_mI _ _ _ _ _ (by decide) (by decide) (by decide)]
    refine Wp.step rfl ?_
    exact kk
  rcases hCl 0 (Nat.zero_le _) with ⟨q1, P, V, a1, a2, aX, aM⟩ | ⟨q1, a1, a2, aX, aM⟩
  · have hq1 := lk_ge t a2
    rcases wlaw_pk hCl (D' := 150) (by omega) (by omega) (n - q1) q1 (Nat.le_refl _) a2 with ⟨q, RH, RW, b1, b2, b3, bX, bM⟩ | ⟨q, b1, b2, bX, bM⟩
    · refine Or.inl ⟨lawF (fun l => RH l (stH false (P l))) (fun l => RW l (stH false (P l)) (stV false (P l) (V l) (nI 0))), ?_, ?_⟩
      · intro d u X M Z Q hd hu hT hQ
        refine keyX ?_
        obtain ⟨d, rfl⟩ : ∃ d0, d = d0 + 2 := ⟨d - 2, by omega⟩
        refine Wp.call (u1 := 12 * q1) rfl (by omega) (aX _ _ X M Z _ (by omega) (by omega) hT (fun N r a c => ⟨_, _, rfl, ?_⟩))
        iterate 3 refine Wp.step rfl ?_
        exact bX _ _ X M (zN Z N) Q Z.2.2.length r r _ _ (by omega) (by omega) hT a.1 (OL.first c) (fun N' a' c' => hQ N' r q (a.trans a') (by
          obtain ⟨x1, x2, x3, x4, x5⟩ := c'
          exact ⟨x1, x2, x3, x4, fun d u X M Z Q hd => x5 d u X M Z Q (by omega)⟩))
      · intro d u X M Z Q a b hd ha hn ht hQ
        refine keyM (by omega) ?_
        obtain ⟨d, rfl⟩ : ∃ d0, d = d0 + 2 := ⟨d - 2, by omega⟩
        have hMT : MT (mI (SM M a b n) 13 (nI 121)) t n := SM_MT ha hn ht
        refine Wp.call (u1 := 0) rfl (Nat.zero_le _) (aM _ _ X _ Z _ false (nI 0) (by omega) hMT rfl ⟨_, _, rfl, ?_⟩)
        refine bM _ _ X _ Z Q _ _ _ _ _ (by omega) hMT rfl (hQ _ ?_ ?_ rfl)
        · exact (((((((Jk.refl M).mT a).mI _ (k := 8) rfl).mI _ (k := 9) rfl).mI _ (k := 13) rfl).FM _ _).KM _ _ _)
        · show RW (ma M 39) (stH false (P (ma M 39))) (stV false (P (ma M 39)) (V (ma M 39)) (nI 0)) = bif RH (ma M 39) (stH false (P (ma M 39))) then RW (ma M 39) (stH false (P (ma M 39))) (stV false (P (ma M 39)) (V (ma M 39)) (nI 0)) else nI 0
          cases hh : RH (ma M 39) (stH false (P (ma M 39)))
          · exact b3 (ma M 39) _ _ (stV_0 (fun _ => rfl)) hh
          · rfl
    · refine Or.inr ⟨q, b2, ?_, ?_⟩
      · intro d u X M Z Q hd hu hT hQ
        refine keyX ?_
        obtain ⟨d, rfl⟩ : ∃ d0, d = d0 + 2 := ⟨d - 2, by omega⟩
        refine Wp.call (u1 := 12 * q1) rfl (by omega) (aX _ _ X M Z _ (by omega) (by omega) hT (fun N r a c => ⟨_, _, rfl, ?_⟩))
        iterate 3 refine Wp.step rfl ?_
        exact bX _ _ X M (zN Z N) Q Z.2.2.length r r _ _ (by omega) (by omega) hT a.1 (OL.first c) (fun N' e' a' => hQ N' e' (a.trans a'))
      · intro d u X M Z Q a b hd ha hn ht hQ
        refine keyM (by omega) ?_
        obtain ⟨d, rfl⟩ : ∃ d0, d = d0 + 2 := ⟨d - 2, by omega⟩
        have hMT : MT (mI (SM M a b n) 13 (nI 121)) t n := SM_MT ha hn ht
        refine Wp.call (u1 := 0) rfl (Nat.zero_le _) (aM _ _ X _ Z _ false (nI 0) (by omega) hMT rfl ⟨_, _, rfl, ?_⟩)
        refine bM _ _ X _ Z Q _ _ _ _ _ (by omega) hMT rfl (fun h' f' a' e' => hQ _ ?_ rfl)
        exact (((((((Jk.refl M).mT a).mI _ (k := 8) rfl).mI _ (k := 9) rfl).mI _ (k := 13) rfl).FM _ _).KM _ _ _)
  · refine Or.inr ⟨q1, a2, ?_, ?_⟩
    · intro d u X M Z Q hd hu hT hQ
      refine keyX ?_
      obtain ⟨d, rfl⟩ : ∃ d0, d = d0 + 2 := ⟨d - 2, by omega⟩
      refine Wp.callF (u1 := u) rfl rfl (Nat.le_refl _) (aX _ _ X M Z _ (by omega) (by omega) hT (fun N e' a => Or.inr ⟨_, _, rfl, hQ N e' a⟩))
    · intro d u X M Z Q a b hd ha hn ht hQ
      refine keyM (by omega) ?_
      obtain ⟨d, rfl⟩ : ∃ d0, d = d0 + 2 := ⟨d - 2, by omega⟩
      have hMT : MT (mI (SM M a b n) 13 (nI 121)) t n := SM_MT ha hn ht
      refine Wp.call (u1 := 0) rfl (Nat.zero_le _) (aM _ _ X _ Z _ false (nI 0) (by omega) hMT (fun a' e' => ⟨_, _, rfl, ?_⟩))
      iterate 3 refine Wp.step rfl ?_
      refine Wp.brT rfl (nI_m1 (by omega)) ?_
      iterate 3 refine Wp.step rfl ?_
      refine Wp.brT rfl (nI_m1 (by omega)) ?_
      refine Wp.fin rfl trivial (hQ _ ?_ rfl)
      exact (((((((Jk.refl M).mT a).mI _ (k := 8) rfl).mI _ (k := 9) rfl).mI _ (k := 13) rfl).FM _ _).KM _ _ _)
