/-! THE ROW and what a year needs to know -/
def RR (N : Nat) (w now : Nat → Int32) : Prop := (∀ k i, k < 4 → i < 4 → w (4 * k + i) = now (4 * i + k)) ∧ ∀ j, 16 ≤ j → j < N → w j = now j
def RI (K F Y : Nat) (now : Nat → Int32) : Prop := (∀ k, k < K → (∃ m, m ≤ 30 ∧ now k = nI m) ∧ (∃ s, s ≤ 9 ∧ now (8 + k) = nI s) ∧ ∃ v, v ≤ 999 ∧ now (12 + k) = nI v) ∧ (∃ y, y ≤ Y ∧ now 18 = nI y) ∧ ∃ pg, pg ≤ 30 ∧ now 19 = nI pg ∧ (∀ i, i < pg → ∃ f, f < F ∧ now (20 + 3 * i) = nI f) ∧ ∀ j, 20 + 3 * pg ≤ j → j < 110 → now j = nI 0
def LI (now : Nat → Int32) : Prop := ∃ lg, lg ≤ 60 ∧ now 110 = nI lg
def GOK (K : Nat) (gr : Nat → Int32) (f : Nat) : Prop := ∃ a b g t, a < K ∧ b < K ∧ a ≠ b ∧ g ≤ 9 ∧ t ≤ 20 ∧ gr (4 * f) = nI a ∧ gr (4 * f + 1) = nI b ∧ gr (4 * f + 2) = nI g ∧ gr (4 * f + 3) = nI t
def GE (K F : Nat) (gr : Nat → Int32) (rt : Nat) : Prop := K ≤ 4 ∧ F ≤ 8 ∧ rt ≤ 9 ∧ ∀ f, f < F → GOK K gr f
theorem RR.less {N N' : Nat} {w now : Nat → Int32} (h : RR N w now) (hN : N' ≤ N) : RR N' w now := ⟨h.1, fun j a b => h.2 j a (by omega)⟩
theorem RR.up {N : Nat} {w now : Nat → Int32} (h : RR N w now) {j : Nat} (hj : 16 ≤ j) (v : Int32) : RR N (upd w j v) (upd now j v) := by
  refine ⟨fun k i hk hi => ?_, fun i hi hN => ?_⟩
  · rw [pk_un (by omega), pk_un (by omega)]; exact h.1 k i hk hi
  · by_cases q : i = j
    · subst q; rw [pk_us, pk_us]
    · rw [pk_un q, pk_un q]; exact h.2 i hi hN
theorem RR.upk {N : Nat} {w now : Nat → Int32} (h : RR N w now) {k i : Nat} (hk : k < 4) (hi : i < 4) (v : Int32) : RR N (upd w (4 * k + i) v) (upd now (4 * i + k) v) := by
  refine ⟨fun k' i' hk' hi' => ?_, fun j hj hN => ?_⟩
  · by_cases q : k' = k ∧ i' = i
    · obtain ⟨rfl, rfl⟩ := q; rw [pk_us, pk_us]
    · rw [pk_un (by omega), pk_un (by omega)]; exact h.1 k' i' hk' hi'
  · rw [pk_un (by omega), pk_un (by omega)]; exact h.2 j hj hN
/-- letters: nothing but the six is ever set -/
def LZ (l : Nat → Int32) : Prop := ∀ j, j ≠ 109 → j ≠ 103 → j ≠ 115 → j ≠ 112 → j ≠ 119 → j ≠ 100 → l j = 0
def lets (m g s p w d : Int32) : Nat → Int32 := upd (upd (upd (upd (upd (upd (fun _ => 0) 109 m) 103 g) 115 s) 112 p) 119 w) 100 d
theorem lets_of {l : Nat → Int32} (h : LZ l) (m g s p w d : Int32) : upd (upd (upd (upd (upd (upd l 109 m) 103 g) 115 s) 112 p) 119 w) 100 d = lets m g s p w d := by
  funext j
  unfold lets
  by_cases h1 : j = 100
  · subst h1; rw [pk_us, pk_us]
  rw [pk_un h1, pk_un h1]
  by_cases h2 : j = 119
  · subst h2; rw [pk_us, pk_us]
  rw [pk_un h2, pk_un h2]
  by_cases h3 : j = 112
  · subst h3; rw [pk_us, pk_us]
  rw [pk_un h3, pk_un h3]
  by_cases h4 : j = 115
  · subst h4; rw [pk_us, pk_us]
  rw [pk_un h4, pk_un h4]
  by_cases h5 : j = 103
  · subst h5; rw [pk_us, pk_us]
  rw [pk_un h5, pk_un h5]
  by_cases h6 : j = 109
  · subst h6; rw [pk_us, pk_us]
  rw [pk_un h6, pk_un h6]
  exact h j h6 h5 h4 h3 h2 h1
theorem LZ_upd {l : Nat → Int32} (h : LZ l) {c : Nat} (hc : c = 109 ∨ c = 103 ∨ c = 115 ∨ c = 112 ∨ c = 119 ∨ c = 100) (v : Int32) : LZ (upd l c v) := by
  intro j h1 h2 h3 h4 h5 h6
  rw [pk_un (by omega)]
  exact h j h1 h2 h3 h4 h5 h6
theorem LZ_lets (m g s p w d : Int32) : LZ (lets m g s p w d) := by
  unfold lets
  have h0 : LZ (fun _ => (0 : Int32)) := fun _ _ _ _ _ _ _ => rfl
  exact LZ_upd (LZ_upd (LZ_upd (LZ_upd (LZ_upd (LZ_upd h0 (by omega) _) (by omega) _) (by omega) _) (by omega) _) (by omega) _) (by omega) _
/-! force -/
def hb (G k : Int32) : Bool := decide ((G >>> (k &&& 31)) &&& nI 1 = nI 1)
theorem hb_t {G k : Int32} (h : hasB G k) : hb G k = true := decide_eq_true h
theorem hb_f {G k : Int32} (h : ¬ hasB G k) : hb G k = false := decide_eq_false h
def pgN (now : Nat → Int32) : Nat := (now 19).toNatClampNeg
def pgs (now : Nat → Int32) (k : Nat) : Nat := cntP now (nI k) (pgN now)
def clF (v : Int32) : Int32 := if nI 0 < (if v < nI 60 then v else nI 60) then (if v < nI 60 then v else nI 60) else nI 0
abbrev pmLw : Type := Option ((Nat → Int32) → Int32)
def frv (lw : pmLw) (now : Nat → Int32) (k : Nat) (on : Int32) : Int32 := match lw with
  | none => now k + on - now (12 + k) / nI 2
  | some F => F (lets (now k) on (now (8 + k)) (nI (pgs now k)) (now (12 + k)) (now 18))
def frc (lw : pmLw) (now : Nat → Int32) (k : Nat) (on : Int32) (h : Bool) : Int32 := bif h then clF (frv lw now k on) / nI 2 else clF (frv lw now k on)
theorem pgN_of {now : Nat → Int32} {pg : Nat} (h : now 19 = nI pg) (hp : pg ≤ 30) : pgN now = pg := by
  unfold pgN
  rw [h, nI_clamp (by omega)]
def XLw (X : pmXs) (Z : pmZs) (lw : pmLw) : Prop := (lw = none ∧ X.1 20 = -1) ∨ ∃ i Fi r lo hi, lw = some Fi ∧ X.1 20 = nI i ∧ i < 4 ∧ X.2.2.2 i = some (r + 59) ∧ DenL 140 lo hi r Fi Z.2.2
def XE (X : pmXs) (Z : pmZs) (K F : Nat) (gr : Nat → Int32) (rt : Nat) (lw : pmLw) : Prop := X.1 13 = nI K ∧ X.1 14 = nI F ∧ (∀ j, j < 32 → xa X 22 j = gr j) ∧ xa X 21 0 = nI rt ∧ LZ (xa X 17) ∧ XLw X Z lw
theorem XE.let {X : pmXs} {Z : pmZs} {K F rt : Nat} {gr : Nat → Int32} {lw : pmLw} (h : XE X Z K F gr rt lw) {l : Nat → Int32} (hl : LZ l) : XE (xA X 17 l) Z K F gr rt lw := ⟨h.1, h.2.1, h.2.2.1, h.2.2.2.1, hl, h.2.2.2.2.2⟩
theorem XE.row {X : pmXs} {Z : pmZs} {K F rt : Nat} {gr : Nat → Int32} {lw : pmLw} (h : XE X Z K F gr rt lw) (w : Nat → Int32) : XE (xA X 26 w) Z K F gr rt lw := h
theorem XE.aside {X : pmXs} {Z : pmZs} {K F rt : Nat} {gr : Nat → Int32} {lw : pmLw} (h : XE X Z K F gr rt lw) (w : Nat → Int32) : XE (xA X 28 w) Z K F gr rt lw := h
theorem Wp.aldX {d u mi pc ln nx n0 k : Nat} {cv : Value} {tb : List (Nat × Nat)} {L : pmL} {r : List Value} {X : pmXs} {M : pmMs} {Z : pmZs} {Q : pmO → Prop} {i : Int32} (e : pm_code mi pc = some (.aaload, ln, nx, cv, n0, tb)) (hi : i = nI k) (hk : k < 4) (kk : Wp d u mi nx L (va_rf (X.2.2.2 k) :: r) (hp X M Z) Q) : Wp d u mi pc L (.int i :: .ref 25 :: r) (hp X M Z) Q := by
  subst hi
  refine Wp.stepP (P := vp_in (nI k) 4) (pc' := nx) (L' := L) (st' := va_rf (X.2.2.2 (nI k).toNatClampNeg) :: r) (h' := hp X M Z) ?_ (vp_in_nI hk (by decide)) (by rw [nI_clamp (by omega)]; exact kk)
  unfold pm_step
  rw [e]
  rfl
theorem X_forget_l {d u : Nat} {X : pmXs} {M : pmMs} {Z : pmZs} {Q : pmO → Prop} (hQ : ∀ l, LZ l → Q (.inl none, hp (xA X 17 l) M Z)) : ∀ (m i : Nat) (l : Nat → Int32), i + m = 6 → LZ l → Wp (d + 5) u 95 2 [some (.ref 14), some (.int (nI i))] [] (hp (xA X 17 l) M Z) Q := by
  intro m
  induction m with
  | zero =>
    intro i l hi hl
    obtain rfl : i = 6 := by omega
    iterate 2 refine Wp.step rfl ?_
    refine Wp.call (pm_call_v rfl rfl (SB4 _ _ _).1 rfl rfl) (Nat.zero_le _) (S_length (SB4 _ _ _) ⟨_, _, rfl, ?_⟩)
    refine Wp.brT rfl (by decide) ?_
    exact Wp.fin rfl trivial (hQ l hl)
  | succ m ih =>
    intro i l hi hl
    have h6 : i < 6 := by omega
    iterate 2 refine Wp.step rfl ?_
    refine Wp.call (pm_call_v rfl rfl (SB4 _ _ _).1 rfl rfl) (Nat.zero_le _) (S_length (SB4 _ _ _) ⟨_, _, rfl, ?_⟩)
    refine Wp.brF rfl (show ¬ nI 6 ≤ nI i from nI_ge h6 (by decide)) ?_
    iterate 4 refine Wp.step rfl ?_
    refine Wp.call (pm_call_v rfl rfl (SB4 _ _ _).1 rfl rfl) (Nat.zero_le _) (S_charAt (SB4 _ _ _) SA4 (i := i) h6 ⟨_, _, rfl, ?_⟩)
    refine Wp.step rfl ?_
    have hc : ∃ c, c < 128 ∧ LB.getD i 0 = nI c ∧ (c = 109 ∨ c = 103 ∨ c = 115 ∨ c = 112 ∨ c = 119 ∨ c = 100) := by
      have hj : i = 0 ∨ i = 1 ∨ i = 2 ∨ i = 3 ∨ i = 4 ∨ i = 5 := by omega
      rcases hj with rfl | rfl | rfl | rfl | rfl | rfl
      · exact ⟨109, by omega, rfl, by omega⟩
      · exact ⟨103, by omega, rfl, by omega⟩
      · exact ⟨115, by omega, rfl, by omega⟩
      · exact ⟨112, by omega, rfl, by omega⟩
      · exact ⟨119, by omega, rfl, by omega⟩
      · exact ⟨100, by omega, rfl, by omega⟩
    obtain ⟨c, c1, c2, c3⟩ := hc
    rw [c2]
    refine Wp.istX (k := c) rfl rfl rfl rfl c1 (by decide) ?_
    rw [xA_xA, xA_same]
    have k9 := ih (i + 1) (upd l c (nI 0)) (by omega) (LZ_upd hl c3 _)
    rw [← nI_add i 1] at k9
    iterate 2 refine Wp.step rfl ?_
    exact k9
theorem X_forget {d u : Nat} {X : pmXs} {M : pmMs} {Z : pmZs} {Q : pmO → Prop} (h : LZ (xa X 17)) (hQ : ∀ l, LZ l → Q (.inl none, hp (xA X 17 l) M Z)) : Wp (d + 5) u 95 0 (pm_entry 95 [.ref 14]) [] (hp X M Z) Q := by
  have k9 := X_forget_l (d := d) (u := u) (M := M) (Z := Z) hQ 6 0 (xa X 17) rfl h
  rw [xA_self] at k9
  iterate 2 refine Wp.step rfl ?_
  exact k9
/-- X.forceOf -/
theorem X_forceOf {d u : Nat} {X : pmXs} {M : pmMs} {Z : pmZs} {Q : pmO → Prop} {K F Y rt k f : Nat} {gr : Nat → Int32} {lw : pmLw} (hd : 150 ≤ d) (hE : XE X Z K F gr rt lw) (hG : GE K F gr rt) (hI : RI K F Y (xa X 26)) (hk : k < K) (hf : f < F) (hQ : ∀ l, LZ l → Q (.inl (some (.int (frc lw (xa X 26) k (if gr (4 * f) = nI k then gr (4 * f + 2) else nI 0) (hb (xa X 26 16) (nI k))))), hp (xA X 17 l) M Z)) : Wp d u 69 0 (pm_entry 69 [.ref 14, .int (nI k), .int (nI f)]) [] (hp X M Z) Q := by
  obtain ⟨d, rfl⟩ : ∃ d0, d = d0 + 10 := ⟨d - 10, by omega⟩
  obtain ⟨g1, g2, g3, g4⟩ := hG
  obtain ⟨e1, e2, e3, e4, e5, e6⟩ := hE
  obtain ⟨_, ⟨y, hy, hy2⟩, pg, hpg, hpg2, _⟩ := hI
  have h20 : ∀ (on : Int32), (∀ l, LZ l → Q (.inl (some (.int (frc lw (xa X 26) k on (hb (xa X 26 16) (nI k))))), hp (xA X 17 l) M Z)) → Wp (d + 10) u 69 20 [some (.ref 14), some (.int (nI k)), some (.int (nI f)), none, none] [.int on] (hp X M Z) Q := by
    intro on hQ
    have h158 : ∀ (l : Nat → Int32) (u' : Nat), LZ l → Wp (d + 10) u' 69 158 [some (.ref 14), some (.int (nI k)), some (.int (nI f)), some (.int on), some (.int (frv lw (xa X 26) k on))] [] (hp (xA X 17 l) M Z) Q := by
      intro l u' hl
      have q1 := hQ l hl
      unfold frc at q1
      have k9 : Wp (d + 10) u' 69 171 [some (.ref 14), some (.int (nI k)), some (.int (nI f)), some (.int on), some (.int (clF (frv lw (xa X 26) k on)))] [] (hp (xA X 17 l) M Z) Q := by
        iterate 3 refine Wp.step rfl ?_
        refine Wp.ldX (k := 16) rfl rfl (by first | (simp only [nI_add, pk_mul, Nat.zero_add, Nat.add_zero]; done) | (simp only [nI_add, pk_mul, Nat.zero_add, Nat.add_zero]; exact rfl) | exact rfl) (by omega) (by decide) ?_
        simp only [xA_same, xA_ne, ne_eq, Nat.reduceEqDiff, not_false_eq_true, xA_xA, xa_xI, xA_1]
        refine Wp.step rfl ?_
        refine Wp.call (u1 := 0) rfl (Nat.zero_le _) (X_has _ _ (fun q => ⟨_, _, rfl, ?_⟩) (fun q => ⟨_, _, rfl, ?_⟩))
        · rw [hb_t q] at q1
          refine Wp.brF rfl (by decide) ?_
          iterate 2 refine Wp.step rfl ?_
          refine Wp.stepP rfl (by decide) ?_
          refine Wp.step rfl ?_
          exact Wp.fin rfl rfl q1
        · rw [hb_f q] at q1
          refine Wp.brT rfl rfl ?_
          refine Wp.step rfl ?_
          exact Wp.fin rfl rfl q1
      iterate 6 refine Wp.step rfl ?_
      exact k9
    iterate 6 refine Wp.step rfl ?_
    refine Wp.ldX (k := k) rfl rfl (by first | (simp only [nI_add, pk_mul, Nat.zero_add, Nat.add_zero]; done) | (simp only [nI_add, pk_mul, Nat.zero_add, Nat.add_zero]; exact rfl) | exact rfl) (by omega) (by decide) ?_
    iterate 7 refine Wp.step rfl ?_
    refine Wp.ldX (k := 12 + k) rfl rfl (by first | (simp only [nI_add, pk_mul, Nat.zero_add, Nat.add_zero]; done) | (simp only [nI_add, pk_mul, Nat.zero_add, Nat.add_zero]; exact rfl) | exact rfl) (by omega) (by decide) ?_
    refine Wp.step rfl ?_
    refine Wp.stepP rfl (by decide) ?_
    iterate 5 refine Wp.step rfl ?_
    rcases e6 with ⟨rfl, h6⟩ | ⟨i, Fi, r, lo, hi, rfl, h6, h7, h8, h9⟩
    · refine Wp.brT rfl h6 ?_
      have := h158 (xa X 17) u e5
      rw [xA_self] at this
      exact this
    · refine Wp.brF rfl (by rw [h6]; exact nI_m1 (by omega)) ?_
      refine Wp.step rfl ?_
      refine Wp.call (u1 := 0) rfl (Nat.zero_le _) (X_forget e5 (fun l hl => ⟨_, _, rfl, ?_⟩))
      iterate 8 refine Wp.step rfl ?_
      refine Wp.ldX (k := k) rfl rfl (by first | (simp only [nI_add, pk_mul, Nat.zero_add, Nat.add_zero]; done) | (simp only [nI_add, pk_mul, Nat.zero_add, Nat.add_zero]; exact rfl) | exact rfl) (by omega) (by decide) ?_
      refine Wp.istX (k := 109) rfl rfl rfl (by first | (simp only [nI_add, pk_mul, Nat.zero_add, Nat.add_zero]; done) | (simp only [nI_add, pk_mul, Nat.zero_add, Nat.add_zero]; exact rfl) | exact rfl) (by omega) (by decide) ?_
      simp only [xA_same, xA_ne, ne_eq, Nat.reduceEqDiff, not_false_eq_true, xA_xA, xa_xI, xA_1]
      iterate 4 refine Wp.step rfl ?_
      refine Wp.istX (k := 103) rfl rfl rfl (by first | (simp only [nI_add, pk_mul, Nat.zero_add, Nat.add_zero]; done) | (simp only [nI_add, pk_mul, Nat.zero_add, Nat.add_zero]; exact rfl) | exact rfl) (by omega) (by decide) ?_
      simp only [xA_same, xA_ne, ne_eq, Nat.reduceEqDiff, not_false_eq_true, xA_xA, xa_xI, xA_1]
      iterate 8 refine Wp.step rfl ?_
      refine Wp.ldX (k := 8 + k) rfl rfl (by first | (simp only [nI_add, pk_mul, Nat.zero_add, Nat.add_zero]; done) | (simp only [nI_add, pk_mul, Nat.zero_add, Nat.add_zero]; exact rfl) | exact rfl) (by omega) (by decide) ?_
      refine Wp.istX (k := 115) rfl rfl rfl (by first | (simp only [nI_add, pk_mul, Nat.zero_add, Nat.add_zero]; done) | (simp only [nI_add, pk_mul, Nat.zero_add, Nat.add_zero]; exact rfl) | exact rfl) (by omega) (by decide) ?_
      simp only [xA_same, xA_ne, ne_eq, Nat.reduceEqDiff, not_false_eq_true, xA_xA, xa_xI, xA_1]
      iterate 5 refine Wp.step rfl ?_
      refine Wp.call (u1 := 0) rfl (Nat.zero_le _) (X_pagesOf _ M Z (nI k) (pg := pg) (by exact hpg2) hpg ⟨_, _, rfl, ?_⟩)
      refine Wp.istX (k := 112) rfl rfl rfl (by first | (simp only [nI_add, pk_mul, Nat.zero_add, Nat.add_zero]; done) | (simp only [nI_add, pk_mul, Nat.zero_add, Nat.add_zero]; exact rfl) | exact rfl) (by omega) (by decide) ?_
      simp only [xA_same, xA_ne, ne_eq, Nat.reduceEqDiff, not_false_eq_true, xA_xA, xa_xI, xA_1]
      iterate 8 refine Wp.step rfl ?_
      refine Wp.ldX (k := 12 + k) rfl rfl (by first | (simp only [nI_add, pk_mul, Nat.zero_add, Nat.add_zero]; done) | (simp only [nI_add, pk_mul, Nat.zero_add, Nat.add_zero]; exact rfl) | exact rfl) (by omega) (by decide) ?_
      refine Wp.istX (k := 119) rfl rfl rfl (by first | (simp only [nI_add, pk_mul, Nat.zero_add, Nat.add_zero]; done) | (simp only [nI_add, pk_mul, Nat.zero_add, Nat.add_zero]; exact rfl) | exact rfl) (by omega) (by decide) ?_
      simp only [xA_same, xA_ne, ne_eq, Nat.reduceEqDiff, not_false_eq_true, xA_xA, xa_xI, xA_1]
      iterate 6 refine Wp.step rfl ?_
      refine Wp.ldX (k := 18) rfl rfl (by first | (simp only [nI_add, pk_mul, Nat.zero_add, Nat.add_zero]; done) | (simp only [nI_add, pk_mul, Nat.zero_add, Nat.add_zero]; exact rfl) | exact rfl) (by omega) (by decide) ?_
      refine Wp.istX (k := 100) rfl rfl rfl (by first | (simp only [nI_add, pk_mul, Nat.zero_add, Nat.add_zero]; done) | (simp only [nI_add, pk_mul, Nat.zero_add, Nat.add_zero]; exact rfl) | exact rfl) (by omega) (by decide) ?_
      simp only [xA_same, xA_ne, ne_eq, Nat.reduceEqDiff, not_false_eq_true, xA_xA, xa_xI, xA_1]
      have hle := lets_of hl (xa X 26 k) on (xa X 26 (8 + k)) (nI (pgs (xa X 26) k)) (xa X 26 (12 + k)) (xa X 26 18)
      rw [show pgs (xa X 26) k = cntP (xa X 26) (nI k) pg by unfold pgs; rw [pgN_of hpg2 hpg]] at hle
      rw [hle, ← show pgs (xa X 26) k = cntP (xa X 26) (nI k) pg by unfold pgs; rw [pgN_of hpg2 hpg]]
      iterate 4 refine Wp.step rfl ?_
      refine Wp.aldX rfl h6 h7 ?_
      rw [show ∀ l, (xA X 17 l).2.2.2 i = some (r + 59) from fun _ => h8]
      iterate 3 refine Wp.step rfl ?_
      refine Wp.call (u1 := 0) rfl (Nat.zero_le _) (h9.2.2.2.2 _ _ _ M Z _ (by omega) (fun _ _ _ => rfl) ⟨_, _, rfl, ?_⟩)
      refine Wp.step rfl ?_
      exact h158 _ _ (LZ_lets _ _ _ _ _ _)
  iterate 3 refine Wp.step rfl ?_
  refine Wp.call (u1 := 0) rfl (Nat.zero_le _) (X_of X M Z (F := f) (K := 0) (by omega) ⟨_, _, rfl, ?_⟩)
  rw [show xa X 22 (4 * f + 0) = gr (4 * f) from e3 (4 * f) (by omega)]
  refine Wp.step rfl ?_
  by_cases h : gr (4 * f) = nI k
  · refine Wp.brF rfl (fun q => q h) ?_
    rw [if_pos h] at hQ
    iterate 3 refine Wp.step rfl ?_
    refine Wp.call (u1 := 0) rfl (Nat.zero_le _) (X_of X M Z (F := f) (K := 2) (by omega) ⟨_, _, rfl, ?_⟩)
    rw [e3 (4 * f + 2) (by omega)]
    refine Wp.step rfl ?_
    exact h20 _ hQ
  · refine Wp.brT rfl h ?_
    rw [if_neg h] at hQ
    refine Wp.step rfl ?_
    exact h20 _ hQ
