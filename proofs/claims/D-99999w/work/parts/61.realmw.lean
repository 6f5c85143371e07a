/-! A REALM's text, whole, in both -/
theorem nI_surj (x : Int32) : ∃ e, x = nI e := by
  refine ⟨x.toBitVec.toNat, Int32.toBitVec_inj.mp ?_⟩
  apply BitVec.eq_of_toNat_eq
  show _ = (BitVec.ofNat 32 _).toNat
  rw [BitVec.toNat_ofNat]
  exact (Nat.mod_eq_of_lt x.toBitVec.isLt).symm
theorem PX_of {X : pmXs} {e : Nat} (h : X.1 4 = nI e) (p : Nat) : xI X 3 (nI p) = PX X p e := by
  show (upd X.1 3 (nI p), X.2) = (upd (upd X.1 3 (nI p)) 4 (nI e), X.2)
  congr 1
  funext j
  by_cases a : j = 4
  · subst a; rw [pk_us, pk_un (by decide), h]
  · rw [pk_un a]
theorem realm_pk {t : Nat → Int32} {n : Nat} (hB : ∀ j, j < n → isB (t j)) : ∀ (N p : Nat), n - p ≤ N → p ≤ n → ∀ (b : Bool) (kk ff : Nat) (r k f : Nat → Int32), RB r k f kk ff → kk ≤ 4 → ff ≤ 8 → RPk t n 44 55 p b kk ff r k f := by
  intro N
  induction N with
  | zero =>
    intro p hN hp' b kk ff r k f hRB hk hf
    obtain rfl : p = n := by omega
    have e1 : lk t p p = p := lk_stop (by omega)
    have e2 : ch t p p = -1 := if_neg (by omega)
    have hng : ¬ good (ch t p (lk t p p)) b kk ff := by
      rw [e1, e2]
      rintro (h | h | h) <;> exact absurd h.1 (by decide)
    refine Or.inr ⟨p, Nat.le_refl _, Nat.le_refl _, ?_, ?_⟩
    · intro d u X M Z Q e c hd hT hR hQ
      refine X_sel hp' (by omega) hT hR.1 hR.2.1 hk hf (fun q => absurd q hng) (fun _ => ?_)
      rw [e1]
      exact hQ X (Jx.refl X)
    · intro d u X M Z Q e hd hT hR hQ
      have h240 := MT_le hT
      obtain ⟨d, rfl⟩ : ∃ d0, d = d0 + 12 := ⟨d - 12, by omega⟩
      refine Wp.step rfl ?_
      refine Wp.brF rfl (by decide) ?_
      iterate 3 refine Wp.step rfl ?_
      refine Wp.brF rfl (fun q => q rfl) ?_
      refine Wp.step rfl ?_
      refine Wp.call (u1 := 0) rfl (Nat.zero_le _) (M_sel hp' (by omega) hT hR.2.2.1 hR.1 hR.2.1 hk hf (fun q => absurd q hng) (fun _ => ⟨_, _, rfl, ?_⟩))
      rw [e1]
      exact M_realm_bad (by omega) (hQ M _ (Jm.refl M))
  | succ N ih =>
    intro p hN hp' b kk ff r k f hRB hk hf
    have hge := lk_ge t hp'
    have hln := lk_n t hp'
    by_cases hg : good (ch t n (lk t n p)) b kk ff
    · have ih2 : ∀ q b' kk' ff' r' k' f', lk t n p < q → q ≤ n → lk t n q = q → RB r' k' f' kk' ff' → kk' ≤ 4 → ff' ≤ 8 → RPk t n 194 71 q b' kk' ff' r' k' f' := by
        intro q b' kk' ff' r' k' f' h1 h2 h3 h4 h5 h6
        exact rtail_pk h2 h3 h4 h5 h6 (fun h => ih (q + 1) (by omega) (by omega) b' kk' ff' r' k' f' h4 h5 h6)
      rcases hg with h | h | h
      · exact clause_115 hB hp' h.1 h.2 hRB hk hf ih2
      · exact clause_107 hB hp' h.1 h.2 hRB hk hf ih2
      · exact clause_102 hB hp' h.1 h.2 hRB hk hf ih2
    · refine Or.inr ⟨lk t n p, hge, hln, ?_, ?_⟩
      · intro d u X M Z Q e c hd hT hR hQ
        exact X_sel hp' (by omega) hT hR.1 hR.2.1 hk hf (fun q => absurd q hg) (fun _ => hQ X (Jx.refl X))
      · intro d u X M Z Q e hd hT hR hQ
        have h240 := MT_le hT
        obtain ⟨d, rfl⟩ : ∃ d0, d = d0 + 12 := ⟨d - 12, by omega⟩
        refine Wp.step rfl ?_
        refine Wp.brF rfl (by decide) ?_
        iterate 3 refine Wp.step rfl ?_
        refine Wp.brF rfl (fun q => q rfl) ?_
        refine Wp.step rfl ?_
        refine Wp.call (u1 := 0) rfl (Nat.zero_le _) (M_sel hp' (by omega) hT hR.2.2.1 hR.1 hR.2.1 hk hf (fun q => absurd q hg) (fun _ => ⟨_, _, rfl, ?_⟩))
        exact M_realm_bad (by omega) (hQ M _ (Jm.refl M))
/-- M but for what reading a text leaves behind -/
def jT (k : Nat) : Bool := jB k || jMr k
def Jt (M M' : pmMs) : Prop := (∀ k, jT k = false → M'.1 k = M.1 k) ∧ M'.2.1 = M.2.1 ∧ (∀ a, aMr a = false → ma M' a = ma M a) ∧ M'.2.2.2.2 = M.2.2.2.2
theorem Jt.refl (M : pmMs) : Jt M M := ⟨fun _ _ => rfl, rfl, fun _ _ => rfl, rfl⟩
theorem Jt.trans {A B C : pmMs} (h1 : Jt A B) (h2 : Jt B C) : Jt A C := ⟨fun k hk => (h2.1 k hk).trans (h1.1 k hk), h2.2.1.trans h1.2.1, fun a ha => (h2.2.2.1 a ha).trans (h1.2.2.1 a ha), h2.2.2.2.trans h1.2.2.2⟩
theorem Jt.mI {M M' : pmMs} (h : Jt M M') {k : Nat} (v : Int32) (hk : jT k = true) : Jt M (mI M' k v) := by
  refine ⟨fun j hj => ?_, h.2.1, h.2.2.1, h.2.2.2⟩
  rw [mI_ne _ _ (fun q => by rw [q, hk] at hj; cases hj)]
  exact h.1 j hj
theorem Jt.mA {M M' : pmMs} (h : Jt M M') {a : Nat} (f : Nat → Int32) (ha : aMr a = true) : Jt M (mA M' a f) := by
  refine ⟨h.1, h.2.1, fun j hj => ?_, h.2.2.2⟩
  rw [mA_ne _ _ (fun q => by rw [q, ha] at hj; cases hj)]
  exact h.2.2.1 j hj
theorem Jt.mT {M M' : pmMs} (h : Jt M M') (a : Nat) : Jt M (mT M' a) := ⟨h.1, h.2.1, h.2.2.1, h.2.2.2⟩
theorem Jt.KM {M M' : pmMs} (h : Jt M M') (p e f : Int32) : Jt M (KM M' p e f) := ((h.mI p (k := 10) rfl).mI e (k := 12) rfl).mI f (k := 11) rfl
theorem Jt.SM {M M' : pmMs} (h : Jt M M') (a b n : Nat) : Jt M (SM M' a b n) := ((h.mT a).mI _ (k := 8) rfl).mI _ (k := 9) rfl
theorem Jk.Jt {M M' : pmMs} (h : Jk M M') : Jt M M' := by
  refine ⟨fun k hk => h.1 k ?_, h.2.1, fun a _ => congrFun (congrArg Prod.fst h.2.2) a, congrArg Prod.snd h.2.2⟩
  unfold jT at hk
  cases hh : jB k
  · rfl
  · rw [hh] at hk; cases hk
theorem Jm.Jt {M M' : pmMs} (h : Jm M M') : Jt M M' := by
  refine ⟨fun k hk => h.1 k ?_, h.2.1, h.2.2.2.1, h.2.2.2.2⟩
  unfold jT at hk
  cases hh : jMr k
  · rfl
  · rw [hh] at hk
    cases hb : jB k <;> rw [hb] at hk <;> cases hk
section PKRW
variable (t : Nat → Int32) (n : Nat)
def XrOk (K F : Nat) (r k f : Nat → Int32) : Prop := ∀ (d u : Nat) (X : pmXs) (M : pmMs) (Z : pmZs) (Q : pmO → Prop), 14 ≤ d → XT X t n → (∀ X', Jx X X' → XRs X' K F r k f → Q (.inl none, hp X' M Z)) → Wp d u 92 0 (pm_entry 92 [.ref 14]) [] (hp X M Z) Q
def XrFl (q : Nat) : Prop := ∀ (d u : Nat) (X : pmXs) (M : pmMs) (Z : pmZs) (Q : pmO → Prop), 14 ≤ d → XT X t n → (∀ X', Jx X X' → X'.1 3 = nI q → Q (.inr 2, hp X' M Z)) → Wp d u 92 0 (pm_entry 92 [.ref 14]) [] (hp X M Z) Q
def MrOk (K F : Nat) (r k f : Nat → Int32) : Prop := ∀ (d u : Nat) (X : pmXs) (M : pmMs) (Z : pmZs) (Q : pmO → Prop), 14 ≤ d → M.1 6 = nI n → n ≤ 240 → (∀ j, j < n → ma M 36 j = t j) → (∀ M' b, Jt M M' → MRs M' b K F r k f → M'.1 11 = -1 → Q (.inl none, hp X M' Z)) → Wp d u 169 0 (pm_entry 169 [.ref 35]) [] (hp X M Z) Q
def MrFl (q : Nat) : Prop := ∀ (d u : Nat) (X : pmXs) (M : pmMs) (Z : pmZs) (Q : pmO → Prop), 14 ≤ d → M.1 6 = nI n → n ≤ 240 → (∀ j, j < n → ma M 36 j = t j) → (∀ M', Jt M M' → M'.1 11 = nI q → Q (.inl none, hp X M' Z)) → Wp d u 169 0 (pm_entry 169 [.ref 35]) [] (hp X M Z) Q
def RealmPk : Prop := (∃ K F r k f, RB r k f K F ∧ WH K F f ∧ K ≤ 4 ∧ F ≤ 8 ∧ XrOk t n K F r k f ∧ MrOk t n K F r k f) ∨ (∃ q, q ≤ n ∧ XrFl t n q ∧ MrFl t n q)
end PKRW
theorem realm_whole {t : Nat → Int32} {n : Nat} (hB : ∀ j, j < n → isB (t j)) : RealmPk t n := by
  have kX : ∀ {d u : Nat} {X : pmXs} {M : pmMs} {Z : pmZs} {Q : pmO → Prop}, XT X t n → (∀ X1 e, Jx X X1 → XT X1 t n → XRs X1 0 0 U6 U6 U6 → Wp (d + 14) u 92 44 [some (.ref 14), some (.int (bB false)), some (.int (nI 1)), none] [] (hp (PX X1 0 e) M Z) Q) → Wp (d + 14) u 92 0 (pm_entry 92 [.ref 14]) [] (hp X M Z) Q := by
    intro d u X M Z Q hT kk
    obtain ⟨e, he⟩ := nI_surj (X.1 4)
    iterate 2 refine Wp.step rfl ?_
    refine Wp.putX rfl rfl rfl ?_
    rw [PX_of he]
    iterate 2 refine Wp.step rfl ?_
    refine Wp.putX rfl rfl rfl ?_
    rw [PX_xI _ _ _ _ (by decide) (by decide)]
    iterate 2 refine Wp.step rfl ?_
    refine Wp.putX rfl rfl rfl ?_
    rw [PX_xI _ _ _ _ (by decide) (by decide)]
    iterate 6 refine Wp.step rfl ?_
    refine Wp.brF rfl (by decide) ?_
    iterate 5 refine Wp.step rfl ?_
    refine Wp.call rfl (Nat.zero_le _) (X_usual_115_0 ⟨_, _, rfl, ?_⟩)
    refine Wp.istX (k := 0) rfl rfl rfl rfl (by omega) (by decide) ?_
    iterate 4 refine Wp.step rfl ?_
    refine Wp.brF rfl (by decide) ?_
    iterate 5 refine Wp.step rfl ?_
    refine Wp.call rfl (Nat.zero_le _) (X_usual_115_1 ⟨_, _, rfl, ?_⟩)
    refine Wp.istX (k := 1) rfl rfl rfl rfl (by omega) (by decide) ?_
    rw [xA_xA, xA_same]
    iterate 4 refine Wp.step rfl ?_
    refine Wp.brT rfl (by decide) ?_
    iterate 2 refine Wp.step rfl ?_
    have hf : ∀ j, j < 2 → upd (upd (xa X 18) 0 (nI 1)) 1 (nI 20) j = U6 j := by
      intro j hj
      have hj2 : j = 0 ∨ j = 1 := by omega
      rcases hj2 with rfl | rfl <;> rfl
    exact kk (xA (xI (xI X 11 (nI 0)) 12 (nI 0)) 18 (upd (upd (xa X 18) 0 (nI 1)) 1 (nI 20))) e ((((Jx.refl X).xI _ rfl).xI _ rfl).xA _ rfl) hT ⟨rfl, rfl, hf, fun j hj => absurd hj (by omega), fun j hj => absurd hj (by omega)⟩
  have kM : ∀ {d u : Nat} {X : pmXs} {M : pmMs} {Z : pmZs} {Q : pmO → Prop}, M.1 6 = nI n → n ≤ 240 → (∀ j, j < n → ma M 36 j = t j) → (∀ M1 e, Jt M M1 → MT M1 t n → MRs M1 false 0 0 U6 U6 U6 → Wp (d + 14) u 169 55 [some (.ref 35), some (.int (nI 1))] [] (hp X (KM M1 (nI 0) e (-1)) Z) Q) → Wp (d + 14) u 169 0 (pm_entry 169 [.ref 35]) [] (hp X M Z) Q := by
    intro d u X M Z Q h6 hn ht kk
    iterate 6 refine Wp.step rfl ?_
    rw [h6]
    refine Wp.call rfl (Nat.zero_le _) (M_starts ⟨_, _, rfl, ?_⟩)
    iterate 2 refine Wp.step rfl ?_
    refine Wp.putM rfl rfl rfl ?_
    rw [KM_mI _ _ _ _ _ (by decide) (by decide) (by decide)]
    iterate 2 refine Wp.step rfl ?_
    refine Wp.putM rfl rfl rfl ?_
    rw [KM_mI _ _ _ _ _ (by decide) (by decide) (by decide)]
    iterate 2 refine Wp.step rfl ?_
    refine Wp.putMZ rfl rfl rfl (Or.inl rfl) ?_
    rw [KM_mI _ _ _ _ _ (by decide) (by decide) (by decide)]
    iterate 4 refine Wp.step rfl ?_
    refine Wp.brF rfl (by decide) ?_
    iterate 5 refine Wp.step rfl ?_
    refine Wp.call rfl (Nat.zero_le _) (M_usual_115_0 ⟨_, _, rfl, ?_⟩)
    refine Wp.istM (k := 0) rfl rfl rfl rfl (by omega) (by decide) ?_
    iterate 4 refine Wp.step rfl ?_
    refine Wp.brF rfl (by decide) ?_
    iterate 5 refine Wp.step rfl ?_
    refine Wp.call rfl (Nat.zero_le _) (M_usual_115_1 ⟨_, _, rfl, ?_⟩)
    refine Wp.istM (k := 1) rfl rfl rfl rfl (by omega) (by decide) ?_
    rw [mA_mA, mA_same]
    iterate 4 refine Wp.step rfl ?_
    refine Wp.brT rfl (by decide) ?_
    iterate 2 refine Wp.step rfl ?_
    have hf : ∀ j, j < 2 → upd (upd (ma M 41) 0 (nI 1)) 1 (nI 20) j = U6 j := by
      intro j hj
      have hj2 : j = 0 ∨ j = 1 := by omega
      rcases hj2 with rfl | rfl <;> rfl
    have hMT : MT (SM M 36 0 n) t n := SM_MT (Or.inl ⟨rfl, by omega⟩) hn (fun j hj => by rw [Nat.zero_add]; exact ht j hj)
    exact kk (mA (mI (mI (mI (SM M 36 0 n) 28 (nI 0)) 29 (nI 0)) 31 (nI 0)) 41 (upd (upd (ma M 41) 0 (nI 1)) 1 (nI 20))) (M.1 12) ((((((Jt.refl M).SM _ _ _).mI _ rfl).mI _ rfl).mI _ rfl).mA _ rfl) (MT_mA hMT (by decide) (by decide)) ⟨rfl, rfl, rfl, hf, fun j hj => absurd hj (by omega), fun j hj => absurd hj (by omega)⟩
  have hRB : RB U6 U6 U6 0 0 := ⟨U6_ok, fun i hi => absurd hi (by omega), fun i hi => absurd hi (by omega)⟩
  rcases realm_pk hB n 0 (by omega) (Nat.zero_le _) false 0 0 U6 U6 U6 hRB (by omega) (by omega) with ⟨q, K, F, r, k, f, a1, a2, a3, a4, a5, a6, aX, aM⟩ | ⟨q, a1, a2, aX, aM⟩
  · refine Or.inl ⟨K, F, r, k, f, a3, a4, a5, a6, ?_, ?_⟩
    · intro d u X M Z Q hd hT hQ
      obtain ⟨d, rfl⟩ : ∃ d0, d = d0 + 14 := ⟨d - 14, by omega⟩
      exact kX hT (fun X1 e j1 t1 r1 => aX _ _ X1 M Z Q e _ (by omega) t1 r1 (fun X' j2 r2 => hQ _ ((j1.trans j2).PX _ _) r2))
    · intro d u X M Z Q hd h6 hn ht hQ
      obtain ⟨d, rfl⟩ : ∃ d0, d = d0 + 14 := ⟨d - 14, by omega⟩
      exact kM h6 hn ht (fun M1 e j1 t1 r1 => aM _ _ X M1 Z Q e (by omega) t1 r1 (fun M' b' j2 r2 => hQ _ b' ((j1.trans j2.Jt).KM _ _ _) r2 rfl))
  · refine Or.inr ⟨q, a2, ?_, ?_⟩
    · intro d u X M Z Q hd hT hQ
      obtain ⟨d, rfl⟩ : ∃ d0, d = d0 + 14 := ⟨d - 14, by omega⟩
      exact kX hT (fun X1 e j1 t1 r1 => aX _ _ X1 M Z Q e _ (by omega) t1 r1 (fun X' j2 => hQ _ ((j1.trans j2).PX _ _) rfl))
    · intro d u X M Z Q hd h6 hn ht hQ
      obtain ⟨d, rfl⟩ : ∃ d0, d = d0 + 14 := ⟨d - 14, by omega⟩
      exact kM h6 hn ht (fun M1 e j1 t1 r1 => aM _ _ X M1 Z Q e (by omega) t1 r1 (fun M' a j2 => hQ _ ((j1.trans j2.Jt).KM _ _ _) rfl))
