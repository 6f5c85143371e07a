/-! A YEAR: pure, and X's -/
theorem wrP_lo {now : Nat → Int32} {pg f k j : Nat} {tl : Int32} (h : j < 19) : wrP now pg f k tl j = now j := by
  unfold wrP
  split
  · rw [pk_un (by omega), pk_un (by omega), pk_un (by omega), pk_un (by omega), dropP_lo (by omega) (by omega) (by omega)]
  · rw [pk_un (by omega), pk_un (by omega), pk_un (by omega), pk_un (by omega)]
theorem wrP_hi {now : Nat → Int32} {pg f k j : Nat} {tl : Int32} (h : 110 ≤ j) (hpg : pg ≤ 30) : wrP now pg f k tl j = now j := by
  unfold wrP
  split
  · rw [pk_un (by omega), pk_un (by omega), pk_un (by omega), pk_un (by omega), dropP_hi (by omega) (by omega)]
  · rw [pk_un (by omega), pk_un (by omega), pk_un (by omega), pk_un (by omega)]
theorem RI.wr {K F Y pg f k : Nat} {now : Nat → Int32} {tl : Int32} (h : RI K F Y now) (hK : K ≤ 4) (h19 : now 19 = nI pg) (hpg : pg ≤ 30) (hf : f < F) : RI K F Y (wrP now pg f k tl) := by
  obtain ⟨h1, ⟨y, h2, h3⟩, pg', h4, h5, h6, h7⟩ := h
  obtain rfl : pg' = pg := (nI_eq (by omega) (by omega)).mp (h5.symm.trans h19)
  refine ⟨fun k' hk' => ?_, ⟨y, h2, by rw [wrP_lo (by omega)]; exact h3⟩, ?_⟩
  · rw [wrP_lo (by omega), wrP_lo (by omega), wrP_lo (by omega)]
    exact h1 k' hk'
  · unfold wrP
    by_cases c : pg' = 30
    · subst c
      rw [if_pos rfl]
      refine ⟨30, by omega, pk_us, fun i hi => ?_, fun j a b => absurd a (by omega)⟩
      rw [pk_un (by omega), pk_un (by omega), pk_un (by omega)]
      by_cases q : i = 29
      · subst q; exact ⟨f, hf, pk_us⟩
      · rw [pk_un (by omega), dropP_mid (by omega) (by omega)]
        exact h6 (i + 1) (by omega)
    · rw [if_neg c]
      refine ⟨pg' + 1, by omega, pk_us, fun i hi => ?_, fun j a b => ?_⟩
      · rw [pk_un (by omega), pk_un (by omega), pk_un (by omega)]
        by_cases q : i = pg'
        · subst q; exact ⟨f, hf, pk_us⟩
        · rw [pk_un (by omega)]; exact h6 i (by omega)
      · rw [pk_un (by omega), pk_un (by omega), pk_un (by omega), pk_un (by omega)]
        exact h7 j (by omega) b
theorem RI.other {K F Y j : Nat} {now : Nat → Int32} (h : RI K F Y now) (hK : K ≤ 4) (hj : (4 ≤ j ∧ j < 8) ∨ j = 16 ∨ j = 17 ∨ 110 ≤ j) (v : Int32) : RI K F Y (upd now j v) := by
  obtain ⟨h1, ⟨y, h2, h3⟩, pg, h4, h5, h6, h7⟩ := h
  refine ⟨fun k hk => ?_, ⟨y, h2, by rw [pk_un (by omega)]; exact h3⟩, pg, h4, by rw [pk_un (by omega)]; exact h5, fun i hi => by rw [pk_un (by omega)]; exact h6 i hi, fun i a b => by rw [pk_un (by omega)]; exact h7 i a b⟩
  rw [pk_un (by omega), pk_un (by omega), pk_un (by omega)]
  exact h1 k hk
theorem RI.might {K F Y b m : Nat} {now : Nat → Int32} (h : RI K F Y now) (hK : K ≤ 4) (hb : b < 4) (hm : m ≤ 30) : RI K F Y (upd now b (nI m)) := by
  obtain ⟨h1, ⟨y, h2, h3⟩, pg, h4, h5, h6, h7⟩ := h
  refine ⟨fun k hk => ?_, ⟨y, h2, by rw [pk_un (by omega)]; exact h3⟩, pg, h4, by rw [pk_un (by omega)]; exact h5, fun i hi => by rw [pk_un (by omega)]; exact h6 i hi, fun i a b => by rw [pk_un (by omega)]; exact h7 i a b⟩
  rw [pk_un (j := 8 + k) (by omega), pk_un (j := 12 + k) (by omega)]
  refine ⟨?_, (h1 k hk).2⟩
  by_cases q : k = b
  · subst q; exact ⟨m, hm, pk_us⟩
  · rw [pk_un q]; exact (h1 k hk).1
theorem RI.style {K F Y b s : Nat} {now : Nat → Int32} (h : RI K F Y now) (hK : K ≤ 4) (hb : b < 4) (hm : s ≤ 9) : RI K F Y (upd now (8 + b) (nI s)) := by
  obtain ⟨h1, ⟨y, h2, h3⟩, pg, h4, h5, h6, h7⟩ := h
  refine ⟨fun k hk => ?_, ⟨y, h2, by rw [pk_un (by omega)]; exact h3⟩, pg, h4, by rw [pk_un (by omega)]; exact h5, fun i hi => by rw [pk_un (by omega)]; exact h6 i hi, fun i a b => by rw [pk_un (by omega)]; exact h7 i a b⟩
  rw [pk_un (j := k) (by omega), pk_un (j := 12 + k) (by omega)]
  refine ⟨(h1 k hk).1, ?_, (h1 k hk).2.2⟩
  by_cases q : k = b
  · subst q; exact ⟨s, hm, pk_us⟩
  · rw [pk_un (by omega)]; exact (h1 k hk).2.1
theorem RI.wins {K F Y b v : Nat} {now : Nat → Int32} (h : RI K F Y now) (hK : K ≤ 4) (hb : b < 4) (hm : v ≤ 999) : RI K F Y (upd now (12 + b) (nI v)) := by
  obtain ⟨h1, ⟨y, h2, h3⟩, pg, h4, h5, h6, h7⟩ := h
  refine ⟨fun k hk => ?_, ⟨y, h2, by rw [pk_un (by omega)]; exact h3⟩, pg, h4, by rw [pk_un (by omega)]; exact h5, fun i hi => by rw [pk_un (by omega)]; exact h6 i hi, fun i a b => by rw [pk_un (by omega)]; exact h7 i a b⟩
  rw [pk_un (j := k) (by omega), pk_un (j := 8 + k) (by omega)]
  refine ⟨(h1 k hk).1, (h1 k hk).2.1, ?_⟩
  by_cases q : k = b
  · subst q; exact ⟨v, hm, pk_us⟩
  · rw [pk_un (by omega)]; exact (h1 k hk).2.2
theorem RI.year {K F Y Y' y : Nat} {now : Nat → Int32} (h : RI K F Y now) (hK : K ≤ 4) (hy : y ≤ Y') : RI K F Y' (upd now 18 (nI y)) := by
  obtain ⟨h1, _, pg, h4, h5, h6, h7⟩ := h
  refine ⟨fun k hk => ?_, ⟨y, hy, pk_us⟩, pg, h4, by rw [pk_un (by omega)]; exact h5, fun i hi => by rw [pk_un (by omega)]; exact h6 i hi, fun i a b => by rw [pk_un (by omega)]; exact h7 i a b⟩
  rw [pk_un (by omega), pk_un (by omega), pk_un (by omega)]
  exact h1 k hk
def mn (c v : Int32) : Int32 := if v < c then v else c
def mx0 (v : Int32) : Int32 := if nI 0 < v then v else nI 0
theorem mn_ok {c v : Nat} (hc : c < 2 ^ 30) (hv : v < 2 ^ 30) : ∃ r, r ≤ c ∧ mn (nI c) (nI v) = nI r := by
  unfold mn
  by_cases h : v < c
  · rw [if_pos (nI_lt h (by omega))]; exact ⟨v, by omega, rfl⟩
  · rw [if_neg (nI_nlt (by omega) (by omega))]; exact ⟨c, Nat.le_refl _, rfl⟩
theorem mx0_ok {m r : Nat} (hm : m < 2 ^ 30) (hr : r < 2 ^ 30) : ∃ x, x ≤ m ∧ mx0 (nI m - nI r) = nI x := by
  unfold mx0
  by_cases h : m < r
  · rw [if_neg (show ¬ nI 0 < nI m - nI r from fun q => absurd (Int32.lt_trans q (show nI m - nI r < nI 0 from pk_sneg hr h)) (Int32.lt_irrefl))]
    exact ⟨0, by omega, rfl⟩
  · rw [pk_sub (by omega)]
    by_cases h2 : 0 < m - r
    · rw [if_pos (nI_lt h2 (by omega))]; exact ⟨m - r, by omega, rfl⟩
    · rw [if_neg (nI_nlt (by omega) (by omega))]; exact ⟨0, by omega, rfl⟩
/-- what a won field does -/
def win3 (now : Nat → Int32) (rt w b : Nat) : Nat → Int32 := upd (upd (upd now (12 + w) (mn (nI 999) (now (12 + w) + nI 1))) b (mx0 (now b - nI rt))) (8 + b) (mn (nI 9) (now (8 + b) + nI 1))
def win5 (now gr : Nat → Int32) (rt pg f w b : Nat) : Nat → Int32 := upd (wrP (win3 now rt w b) pg f b (gr (4 * f + 3) + now (4 + b))) 17 (mn (nI 999) (now 17 + nI 1))
theorem win3_at {now : Nat → Int32} {rt w b j : Nat} (h1 : j ≠ 12 + w) (h2 : j ≠ b) (h3 : j ≠ 8 + b) : win3 now rt w b j = now j := by
  unfold win3
  rw [pk_un h3, pk_un h2, pk_un h1]
theorem RI_win3 {K F Y rt w b : Nat} {now : Nat → Int32} (h : RI K F Y now) (hK : K ≤ 4) (hr : rt ≤ 9) (hw : w < K) (hb : b < K) : RI K F Y (win3 now rt w b) := by
  obtain ⟨⟨m, hm, m2⟩, ⟨s, hs, s2⟩, _⟩ := h.1 b hb
  obtain ⟨_, _, ⟨v, hv, v2⟩⟩ := h.1 w hw
  obtain ⟨r1, q1, p1⟩ := mn_ok (c := 999) (v := v + 1) (by omega) (by omega)
  obtain ⟨r2, q2, p2⟩ := mx0_ok (m := m) (r := rt) (by omega) (by omega)
  obtain ⟨r3, q3, p3⟩ := mn_ok (c := 9) (v := s + 1) (by omega) (by omega)
  unfold win3
  rw [v2, m2, s2, nI_add, nI_add, p1, p2, p3]
  exact ((h.wins hK (by omega) q1).might hK (by omega) (by omega)).style hK (by omega) q3
theorem win3_19 {now : Nat → Int32} {rt w b : Nat} (hw : w < 4) (hb : b < 4) : win3 now rt w b 19 = now 19 := win3_at (by omega) (by omega) (by omega)
theorem RI_win5 {K F Y rt pg f w b : Nat} {now gr : Nat → Int32} (h : RI K F Y now) (hK : K ≤ 4) (hr : rt ≤ 9) (hw : w < K) (hb : b < K) (h19 : now 19 = nI pg) (hpg : pg ≤ 30) (hf : f < F) : RI K F Y (win5 now gr rt pg f w b) := by
  unfold win5
  exact ((RI_win3 h hK hr hw hb).wr hK ((win3_19 (by omega) (by omega)).trans h19) hpg hf).other hK (by omega) _
theorem win5_lo {now gr : Nat → Int32} {rt pg f w b j : Nat} (hj : 4 ≤ j ∧ j < 8 ∨ j = 16 ∨ j = 18) (hw : w < 4) (hb : b < 4) : win5 now gr rt pg f w b j = now j := by
  unfold win5
  rw [pk_un (by omega), wrP_lo (by omega), win3_at (by omega) (by omega) (by omega)]
theorem win5_hi {now gr : Nat → Int32} {rt pg f w b j : Nat} (hj : 110 ≤ j) (hpg : pg ≤ 30) (hw : w < 4) (hb : b < 4) : win5 now gr rt pg f w b j = now j := by
  unfold win5
  rw [pk_un (by omega), wrP_hi hj hpg, win3_at (by omega) (by omega) (by omega)]
/-- the field of the year, its two kingdoms, who won -/
def fP (now : Nat → Int32) (F : Nat) : Nat := (now 18).toNatClampNeg % F
def gN (gr : Nat → Int32) (i : Nat) : Nat := (gr i).toNatClampNeg
def nP (lw : pmLw) (now gr : Nat → Int32) (F : Nat) : Nat := sdP lw now gr (fP now F) (gN gr (4 * fP now F)) (gN gr (4 * fP now F + 1))
def bt2 (n a b : Nat) : Nat := if n = 0 then b else a
def wn2 (n a b : Nat) : Nat := if n = 0 then a else b
def btV (n a b : Nat) : Int32 := if n < 2 then nI (bt2 n a b) else -1
def tlV (n : Nat) (now gr : Nat → Int32) (f a b : Nat) : Int32 := if n < 2 then gr (4 * f + 3) + now (4 + bt2 n a b) else -1
def liveR (n : Nat) (now gr : Nat → Int32) (rt f a b : Nat) : Nat → Int32 := if n < 2 then upd (win5 now gr rt (pgN now) f (wn2 n a b) (bt2 n a b)) 18 (now 18 + nI 1) else upd now 18 (now 18 + nI 1)
def liveP (lw : pmLw) (now gr : Nat → Int32) (F rt : Nat) : Nat → Int32 := liveR (nP lw now gr F) now gr rt (fP now F) (gN gr (4 * fP now F)) (gN gr (4 * fP now F + 1))
def btP (lw : pmLw) (now gr : Nat → Int32) (F : Nat) : Int32 := btV (nP lw now gr F) (gN gr (4 * fP now F)) (gN gr (4 * fP now F + 1))
def tlP (lw : pmLw) (now gr : Nat → Int32) (F : Nat) : Int32 := tlV (nP lw now gr F) now gr (fP now F) (gN gr (4 * fP now F)) (gN gr (4 * fP now F + 1))
theorem gN_of {gr : Nat → Int32} {i a : Nat} (h : gr i = nI a) (ha : a < 1000) : gN gr i = a := by
  unfold gN
  rw [h, nI_clamp (by omega)]
theorem fP_of {now : Nat → Int32} {F y : Nat} (h : now 18 = nI y) (hy : y < 5000) : fP now F = y % F := by
  unfold fP
  rw [h, nI_clamp (by omega)]
theorem liveR_lo {n : Nat} {now gr : Nat → Int32} {rt f a b j : Nat} (hj : 4 ≤ j ∧ j < 8) (ha : a < 4) (hb : b < 4) : liveR n now gr rt f a b j = now j := by
  unfold liveR
  split
  · rw [pk_un (by omega), win5_lo (by omega) (by unfold wn2; split <;> omega) (by unfold bt2; split <;> omega)]
  · rw [pk_un (by omega)]
theorem liveR_hi {n : Nat} {now gr : Nat → Int32} {rt f a b j : Nat} (hj : 110 ≤ j) (hp' : pgN now ≤ 30) (ha : a < 4) (hb : b < 4) : liveR n now gr rt f a b j = now j := by
  unfold liveR
  split
  · rw [pk_un (by omega), win5_hi hj hp' (by unfold wn2; split <;> omega) (by unfold bt2; split <;> omega)]
  · rw [pk_un (by omega)]
theorem RI_liveR {K F Y n rt f a b y : Nat} {now gr : Nat → Int32} (h : RI K F Y now) (hK : K ≤ 4) (hr : rt ≤ 9) (ha : a < K) (hb : b < K) (hf : f < F) (h18 : now 18 = nI y) (hy : y ≤ Y) : RI K F (Y + 1) (liveR n now gr rt f a b) := by
  obtain ⟨pg, hpg, h19, _⟩ := h.2.2
  unfold liveR
  rw [h18, nI_add]
  split
  · refine (RI_win5 h hK hr ?_ ?_ (by rw [pgN_of h19 hpg]; exact h19) (by rw [pgN_of h19 hpg]; exact hpg) hf).year hK (by omega)
    · unfold wn2; split <;> omega
    · unfold bt2; split <;> omega
  · exact h.year hK (by omega)
/-- the year on X's row, once the winner is known -/
theorem X_live_tail {d u pg f w b rt : Nat} {X : pmXs} {M : pmMs} {Z : pmZs} {Q : pmO → Prop} {gr : Nat → Int32} (hg : ∀ j, j < 32 → xa X 22 j = gr j) (hr : xa X 21 0 = nI rt) (h19 : xa X 26 19 = nI pg) (hpg : pg ≤ 30) (hw : w < 4) (hb : b < 4) (hf : f < 8) (hQ : Q (.inl (some (.int (nI b))), hp (xA X 26 (upd (win5 (xa X 26) gr rt pg f w b) 18 (xa X 26 18 + nI 1))) M Z)) : Wp (d + 2) u 72 30 [some (.ref 14), some (.int (nI f)), some (.int (nI w)), some (.int (nI b))] [] (hp X M Z) Q := by
  have hrr : ∀ r, xa (xA X 26 r) 21 0 = nI rt := fun _ => hr
  iterate 11 refine Wp.step rfl ?_
  refine Wp.ldX (k := 12 + w) rfl rfl (nI_add 12 w) (by omega) (by decide) ?_
  iterate 3 refine Wp.step rfl ?_
  refine Wp.istX (k := 12 + w) (v := mn (nI 999) (xa X 26 (12 + w) + nI 1)) rfl rfl rfl (nI_add 12 w) (by omega) (by decide) ?_
  iterate 11 refine Wp.step rfl ?_
  refine Wp.ldX (k := b) rfl rfl (by first | (simp only [nI_add, pk_mul, Nat.zero_add, Nat.add_zero]; done) | (simp only [nI_add, pk_mul, Nat.zero_add, Nat.add_zero]; exact rfl) | exact rfl) (by omega) (by decide) ?_
  rw [xA_same, pk_un (by omega)]
  iterate 3 refine Wp.step rfl ?_
  refine Wp.ldX (k := 0) rfl rfl rfl (by decide) (by decide) ?_
  rw [hrr]
  iterate 2 refine Wp.step rfl ?_
  refine Wp.istX (k := b) (v := mx0 (xa X 26 b - nI rt)) rfl rfl rfl (by first | (simp only [nI_add, pk_mul, Nat.zero_add, Nat.add_zero]; done) | (simp only [nI_add, pk_mul, Nat.zero_add, Nat.add_zero]; exact rfl) | exact rfl) (by omega) (by decide) ?_
  rw [xA_xA, xA_same]
  iterate 11 refine Wp.step rfl ?_
  refine Wp.ldX (k := 8 + b) rfl rfl (nI_add 8 b) (by omega) (by decide) ?_
  rw [xA_same, pk_un (by omega), pk_un (by omega)]
  iterate 3 refine Wp.step rfl ?_
  refine Wp.istX (k := 8 + b) (v := mn (nI 9) (xa X 26 (8 + b) + nI 1)) rfl rfl rfl (nI_add 8 b) (by omega) (by decide) ?_
  rw [xA_xA, xA_same]
  show Wp (d + 2) u 72 108 [some (.ref 14), some (.int (nI f)), some (.int (nI w)), some (.int (nI b))] [] (hp (xA X 26 (win3 (xa X 26) rt w b)) M Z) Q
  iterate 3 refine Wp.step rfl ?_
  refine Wp.call (u1 := 0) rfl (Nat.zero_le _) (X_writePage (pg := pg) (by rw [xA_same, win3_19 hw hb]; exact h19) hpg hb hf ⟨_, _, rfl, ?_⟩)
  rw [xA_xA, xA_same, show xa (xA X 26 (win3 (xa X 26) rt w b)) 22 (4 * f + 3) = gr (4 * f + 3) from hg _ (by omega), win3_at (j := 4 + b) (by omega) (by omega) (by omega)]
  iterate 7 refine Wp.step rfl ?_
  refine Wp.ldX (k := 17) rfl rfl rfl (by decide) (by decide) ?_
  rw [xA_same, wrP_lo (by omega), win3_at (j := 17) (by omega) (by omega) (by omega)]
  iterate 3 refine Wp.step rfl ?_
  refine Wp.istX (k := 17) (v := mn (nI 999) (xa X 26 17 + nI 1)) rfl rfl rfl rfl (by decide) (by decide) ?_
  rw [xA_xA, xA_same]
  show Wp (d + 2) u 72 136 [some (.ref 14), some (.int (nI f)), some (.int (nI w)), some (.int (nI b))] [] (hp (xA X 26 (win5 (xa X 26) gr rt pg f w b)) M Z) Q
  iterate 4 refine Wp.step rfl ?_
  refine Wp.ldX (k := 18) rfl rfl rfl (by decide) (by decide) ?_
  rw [xA_same, win5_lo (by omega) hw hb]
  iterate 2 refine Wp.step rfl ?_
  refine Wp.istX (k := 18) (v := xa X 26 18 + nI 1) rfl rfl rfl rfl (by decide) (by decide) ?_
  rw [xA_xA, xA_same]
  refine Wp.step rfl ?_
  exact Wp.fin rfl rfl hQ
theorem X_liveYear {d u K F Y rt : Nat} {X : pmXs} {M : pmMs} {Z : pmZs} {Q : pmO → Prop} {gr : Nat → Int32} {lw : pmLw} (hd : 153 ≤ d) (hE : XE X Z K F gr rt lw) (hG : GE K F gr rt) (hF : 0 < F) (hI : RI K F Y (xa X 26)) (hY : Y < 2000) (hQ : ∀ l, LZ l → Q (.inl (some (.int (btP lw (xa X 26) gr F))), hp (xA (xA X 17 l) 26 (liveP lw (xa X 26) gr F rt)) M Z)) : Wp d u 72 0 (pm_entry 72 [.ref 14]) [] (hp X M Z) Q := by
  obtain ⟨d, rfl⟩ : ∃ d0, d = d0 + 2 := ⟨d - 2, by omega⟩
  obtain ⟨_, ⟨y, hy, h18⟩, pg, hpg, h19, _⟩ := id hI
  have hf : y % F < F := Nat.mod_lt _ hF
  have hfP := fP_of (F := F) h18 (by omega)
  obtain ⟨a, b, g, t, a1, a2, a3, a4, a5, a6, a7, a8, a9⟩ := hG.2.2.2 (y % F) hf
  have hK := hG.1
  have hF8 := hG.2.1
  unfold btP liveP nP at hQ
  rw [hfP, gN_of a6 (by omega), gN_of a7 (by omega)] at hQ
  iterate 3 refine Wp.step rfl ?_
  refine Wp.ldX (k := 18) rfl rfl rfl (by decide) (by decide) ?_
  rw [h18]
  iterate 2 refine Wp.step rfl ?_
  rw [hE.2.1]
  refine Wp.stepP rfl (nI_ne0 hF (by omega)) ?_
  have e3 : nI y - nI y / nI F * nI F = nI (y % F) := pk_rem (by omega) hF (by omega)
  simp only [e3]
  iterate 3 refine Wp.step rfl ?_
  refine Wp.call (u1 := 0) rfl (Nat.zero_le _) (X_winnerOf (by omega) hE hG hI hf a6 a1 a7 a2 a3 (fun l1 z1 => ⟨_, _, rfl, ?_⟩))
  iterate 3 refine Wp.step rfl ?_
  refine Wp.call (u1 := 0) rfl (Nat.zero_le _) (X_beatenOf (by omega) (hE.let z1) hG hI hf a6 a1 a7 a2 a3 (fun l2 z2 => ⟨_, _, rfl, ?_⟩))
  rw [xA_xA]
  have q1 := hQ l2 z2
  have hsame : xa (xA X 17 l1) 26 = xa X 26 := rfl
  rw [hsame]
  generalize sdP lw (xa X 26) gr (y % F) a b = n at q1 ⊢
  unfold btV liveR at q1
  rw [pgN_of h19 hpg] at q1
  match n with
  | 0 =>
    iterate 3 refine Wp.step rfl ?_
    refine Wp.brF rfl (nI_m1 (by omega)) ?_
    exact X_live_tail (X := xA X 17 l2) hE.2.2.1 hE.2.2.2.1 h19 hpg (by omega) (by omega) (by omega) q1
  | 1 =>
    iterate 3 refine Wp.step rfl ?_
    refine Wp.brF rfl (nI_m1 (by omega)) ?_
    exact X_live_tail (X := xA X 17 l2) hE.2.2.1 hE.2.2.2.1 h19 hpg (by omega) (by omega) (by omega) q1
  | n + 2 =>
    rw [if_neg (by omega), if_neg (by omega)] at q1
    iterate 3 refine Wp.step rfl ?_
    refine Wp.brT rfl rfl ?_
    iterate 4 refine Wp.step rfl ?_
    refine Wp.ldX (k := 18) rfl rfl rfl (by decide) (by decide) ?_
    iterate 2 refine Wp.step rfl ?_
    refine Wp.istX (k := 18) (v := xa X 26 18 + nI 1) rfl rfl rfl rfl (by decide) (by decide) ?_
    refine Wp.step rfl ?_
    exact Wp.fin rfl rfl q1
