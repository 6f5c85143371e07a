/-! TESTS: what a test answers -/
def bB (b : Bool) : Int32 := bif b then nI 1 else nI 0
theorem bB_or (b : Bool) : bB b = 0 ∨ bB b = 1 := by cases b <;> decide
theorem bB_inj {a b : Bool} : bB a = bB b ↔ a = b := by cases a <;> cases b <;> decide
def cmpS (sg a b : Int32) : Bool := if sg = nI 61 then decide (a = b) else if sg = nI 60 then decide (a < b) else decide (b < a)
def isT (ci y : Nat) : Prop := ci = 9 ∧ y = 232 ∨ ci = 10 ∧ y = 233 ∨ ci = 11 ∧ y = 234
theorem isT_find {ci y : Nat} (h : isT ci y) : pm_find [(9, 232), (10, 233), (11, 234)] ci = some y := by
  rcases h with ⟨rfl, rfl⟩ | ⟨rfl, rfl⟩ | ⟨rfl, rfl⟩ <;> rfl
theorem isT_next {ci y : Nat} (h : isT ci y) : pm_find [(9, 0), (10, 0), (11, 0)] ci = some 0 := by
  rcases h with ⟨rfl, rfl⟩ | ⟨rfl, rfl⟩ | ⟨rfl, rfl⟩ <;> rfl
def DenT (k lo hi r : Nat) (P : (Nat → Int32) → Bool) (N : List va_E) : Prop := lo ≤ r ∧ r < hi ∧ hi ≤ N.length ∧ ∃ ci fs y, pm_nth N r = some (.inr (ci, .null :: fs)) ∧ isT ci y ∧ ∀ (d u : Nat) (X : pmXs) (M : pmMs) (Z : pmZs) (Q : pmO → Prop) (nx : Value), k ≤ d → (∀ i, lo ≤ i → i < hi → i ≠ r → pm_nth Z.2.2 i = pm_nth N i) → pm_nth Z.2.2 r = some (.inr (ci, nx :: fs)) → Q (.inl (some (.int (bB (P (xa X 17))))), hp X M Z) → Wp d u y 0 (pm_entry y [.ref (r + 59), .ref 17]) [] (hp X M Z) Q
theorem DenT.mono {k k' lo hi lo' hi' r : Nat} {P : (Nat → Int32) → Bool} {N N' : List va_E} (h : DenT k lo hi r P N) (hk : k ≤ k') (hl : lo' ≤ lo) (hh : hi ≤ hi') (hN' : hi' ≤ N'.length) (hN : ∀ i, lo ≤ i → i < hi → pm_nth N' i = pm_nth N i) : DenT k' lo' hi' r P N' := by
  obtain ⟨h1, h2, h2b, ci, fs, y, h3, h4, h5⟩ := h
  refine ⟨by omega, by omega, hN', ci, fs, y, by rw [hN r h1 h2]; exact h3, h4, ?_⟩
  intro d u X M Z Q nx hd hZ hr hQ
  exact h5 d u X M Z Q nx (by omega) (fun i a b c => by rw [hZ i (by omega) (by omega) c, hN i a b]) hr hQ
/-- the call of a test -/
theorem Wp.callT {d u mi pc idx ln nxp k lo hi r ci : Nat} {cv nx : Value} {L : pmL} {st fs : List Value} {X : pmXs} {M : pmMs} {Z : pmZs} {Q : pmO → Prop} {P : (Nat → Int32) → Bool} {N : List va_E} {nx0 : Value} (e : pm_code mi pc = some (.invokevirtual idx, ln, nxp, cv, 2, [(9, 232), (10, 233), (11, 234)])) (hr : pm_rest st = true) (hD : DenT k lo hi r P N) (hk : k ≤ d) (hNr : pm_nth N r = some (.inr (ci, nx0 :: fs))) (hZ : ∀ i, lo ≤ i → i < hi → i ≠ r → pm_nth Z.2.2 i = pm_nth N i) (hZr : pm_nth Z.2.2 r = some (.inr (ci, nx :: fs))) (kk : Wp (d + 1) u mi nxp L (.int (bB (P (xa X 17))) :: st) (hp X M Z) Q) : Wp (d + 1) u mi pc L (.ref 17 :: .ref (r + 59) :: st) (hp X M Z) Q := by
  obtain ⟨h1, h2, _, ci', fs', y, h3, h4, h5⟩ := hD
  have e1 := Option.some.inj (h3.symm.trans hNr)
  cases e1
  have hcan : ∀ y, y = 232 ∨ y = 233 ∨ y = 234 → pm_can y 2 (.ref 17 :: .ref (r + 59) :: st) = true := by
    intro y hy
    rcases hy with rfl | rfl | rfl
    · show (true && (true && (pm_rest st && true))) = true
      rw [hr]; rfl
    · show (true && (true && (pm_rest st && true))) = true
      rw [hr]; rfl
    · show (true && (true && (pm_rest st && true))) = true
      rw [hr]; rfl
  have hc := hcan y (by rcases h4 with ⟨_, h⟩ | ⟨_, h⟩ | ⟨_, h⟩ <;> simp [h])
  exact Wp.call (u1 := 0) (pm_call_v (as := [.ref 17]) e rfl (show pm_nth (hp X M Z) (r + 59) = _ from hZr) (isT_find h4) hc) (Nat.zero_le _) (h5 d 0 X M Z _ nx hk hZ hZr ⟨_, _, rfl, kk⟩)
theorem DenT.cell {k lo hi r : Nat} {P : (Nat → Int32) → Bool} {N : List va_E} (h : DenT k lo hi r P N) : ∃ ci fs y, pm_nth N r = some (.inr (ci, .null :: fs)) ∧ isT ci y := by
  obtain ⟨_, _, _, ci, fs, y, h3, h4, _⟩ := h
  exact ⟨ci, fs, y, h3, h4⟩
theorem DenT_not {k lo hi t r : Nat} {P : (Nat → Int32) → Bool} {N N' : List va_E} (h : DenT k lo hi t P N) (hr : hi ≤ r) (hN' : pm_nth N' r = some (.inr (9, [.null, .ref (t + 59)]))) (hN : ∀ i, i < hi → pm_nth N' i = pm_nth N i) : DenT (k + 1) lo (r + 1) r (fun l => !P l) N' := by
  have g1 := h.1
  have g2 := h.2.1
  obtain ⟨ci, fs, y, g3, g4⟩ := h.cell
  refine ⟨by omega, by omega, nth_lt hN', 9, _, 232, hN', Or.inl ⟨rfl, rfl⟩, ?_⟩
  intro d u X M Z Q nx hd hZ hZr hQ
  dsimp only at hQ
  obtain ⟨d, rfl⟩ : ∃ d0, d = d0 + 1 := ⟨d - 1, by omega⟩
  refine Wp.step rfl ?_
  refine Wp.gfN rfl hZr rfl rfl ?_
  refine Wp.step rfl ?_
  refine Wp.callT rfl rfl h (by omega) g3 (fun i a b c => by rw [hZ i a (by omega) (by omega), hN i b]) (by rw [hZ t g1 (by omega) (by omega), hN t g2]; exact g3) ?_
  cases hp' : P (xa X 17)
  · rw [hp'] at hQ
    refine Wp.brF rfl (fun q => q rfl) ?_
    iterate 2 refine Wp.step rfl ?_
    exact Wp.finZ rfl (Or.inr rfl) hQ
  · rw [hp'] at hQ
    refine Wp.brT rfl (by decide) ?_
    refine Wp.step rfl ?_
    exact Wp.finZ rfl (Or.inl rfl) hQ
theorem DenT_cmp {k lo m hi a b r : Nat} {F G : (Nat → Int32) → Int32} {N0 N N' : List va_E} {sg : Int32} (hF : DenS k lo m a F N0) (hm : m ≤ r) (hG : DenS k (r + 1) hi b G N) (hN' : pm_nth N' r = some (.inr (10, [.null, .int sg, .ref (a + 59), .ref (b + 59)]))) (hle : hi ≤ N'.length) (hE : ∀ i, i < m → pm_nth N i = pm_nth N0 i) (hN : ∀ i, i < hi → i ≠ r → pm_nth N' i = pm_nth N i) : DenT (k + 1) lo hi r (fun l => cmpS sg (F l) (G l)) N' := by
  have g1 := hF.1
  have g2 := hF.2.1
  have g3 := hG.1
  have g4 := hG.2.1
  refine ⟨by omega, by omega, hle, 10, _, 233, hN', Or.inr (Or.inl ⟨rfl, rfl⟩), ?_⟩
  intro d u X M Z Q nx hd hZ hZr hQ
  dsimp only at hQ
  obtain ⟨d, rfl⟩ : ∃ d0, d = d0 + 1 := ⟨d - 1, by omega⟩
  refine Wp.step rfl ?_
  refine Wp.gfN rfl hZr rfl rfl ?_
  refine Wp.step rfl ?_
  refine Wp.callS rfl rfl hF (by omega) (fun i a b => by rw [hZ i a (by omega) (by omega), hN i (by omega) (by omega), hE i b]) ?_
  iterate 2 refine Wp.step rfl ?_
  refine Wp.gfN rfl hZr rfl rfl ?_
  refine Wp.step rfl ?_
  refine Wp.callS rfl rfl hG (by omega) (fun i a b => by rw [hZ i (by omega) (by omega) (by omega), hN i b (by omega)]) ?_
  iterate 2 refine Wp.step rfl ?_
  refine Wp.gfN rfl hZr rfl rfl ?_
  refine Wp.step rfl ?_
  unfold cmpS at hQ
  by_cases h1 : sg = nI 61
  · refine Wp.brF rfl (fun q => q h1) ?_
    rw [if_pos h1] at hQ
    iterate 2 refine Wp.step rfl ?_
    refine Wp.br rfl (fun h2 => ?_) (fun h2 => ?_)
    · rw [decide_eq_false h2] at hQ
      iterate 2 refine Wp.step rfl ?_
      exact Wp.finZ rfl (Or.inl rfl) hQ
    · rw [decide_eq_true (Decidable.not_not.mp h2)] at hQ
      iterate 2 refine Wp.step rfl ?_
      exact Wp.finZ rfl (Or.inr rfl) hQ
  refine Wp.brT rfl h1 ?_
  rw [if_neg h1] at hQ
  refine Wp.step rfl ?_
  refine Wp.gfN rfl hZr rfl rfl ?_
  refine Wp.step rfl ?_
  by_cases h2 : sg = nI 60
  · refine Wp.brF rfl (fun q => q h2) ?_
    rw [if_pos h2] at hQ
    iterate 2 refine Wp.step rfl ?_
    refine Wp.br rfl (fun h3 => ?_) (fun h3 => ?_)
    · rw [decide_eq_false (Int32.not_lt.mpr h3)] at hQ
      iterate 2 refine Wp.step rfl ?_
      exact Wp.finZ rfl (Or.inl rfl) hQ
    · rw [decide_eq_true (Int32.not_le.mp h3)] at hQ
      iterate 2 refine Wp.step rfl ?_
      exact Wp.finZ rfl (Or.inr rfl) hQ
  refine Wp.brT rfl h2 ?_
  rw [if_neg h2] at hQ
  iterate 2 refine Wp.step rfl ?_
  refine Wp.br rfl (fun h3 => ?_) (fun h3 => ?_)
  · rw [decide_eq_false (Int32.not_lt.mpr h3)] at hQ
    refine Wp.step rfl ?_
    exact Wp.finZ rfl (Or.inl rfl) hQ
  · rw [decide_eq_true (Int32.not_le.mp h3)] at hQ
    iterate 2 refine Wp.step rfl ?_
    exact Wp.finZ rfl (Or.inr rfl) hQ
/-- an open row of tests: behind the last one there is nothing yet; acc: all up to here are as they must be -/
def OT (k lo hi r last : Nat) (al : Bool) (acc : (Nat → Int32) → Bool) (N : List va_E) : Prop := lo ≤ r ∧ r < hi ∧ lo ≤ last ∧ last < hi ∧ hi ≤ N.length ∧ r ≠ last ∧ ∃ v1 cl fl yl, pm_nth N r = some (.inr (11, [.null, .int (bB al), v1, .ref (last + 59)])) ∧ pm_nth N last = some (.inr (cl, .null :: fl)) ∧ isT cl yl ∧
  ∀ (d u : Nat) (X : pmXs) (M : pmMs) (Z : pmZs) (Q : pmO → Prop) (nx w : Value) (nn : Option Nat), k ≤ d → (∀ i, lo ≤ i → i < hi → i ≠ last → i ≠ r → pm_nth Z.2.2 i = pm_nth N i) → pm_nth Z.2.2 r = some (.inr (11, [nx, .int (bB al), v1, w])) → pm_nth Z.2.2 last = some (.inr (cl, va_rf nn :: fl)) →
    (acc (xa X 17) = true → Wp d u 234 5 [some (.ref (r + 59)), some (.ref 17), some (va_rf nn)] [] (hp X M Z) Q) → (acc (xa X 17) = false → Q (.inl (some (.int (bB (!al)))), hp X M Z)) → Wp d u 234 0 (pm_entry 234 [.ref (r + 59), .ref 17]) [] (hp X M Z) Q
theorem row_step {d u k lo hi r last cl : Nat} {al : Bool} {X : pmXs} {M : pmMs} {Z : pmZs} {Q : pmO → Prop} {P : (Nat → Int32) → Bool} {N : List va_E} {fl : List Value} {nn : Option Nat} {nx v1 w nx0 : Value} (hD : DenT k lo hi last P N) (hd : k + 1 ≤ d) (hNl : pm_nth N last = some (.inr (cl, nx0 :: fl))) (hZ : ∀ i, lo ≤ i → i < hi → i ≠ last → pm_nth Z.2.2 i = pm_nth N i) (hZr : pm_nth Z.2.2 r = some (.inr (11, [nx, .int (bB al), v1, w]))) (hZl : pm_nth Z.2.2 last = some (.inr (cl, va_rf nn :: fl)))
    (k1 : P (xa X 17) = al → Wp d u 234 5 [some (.ref (r + 59)), some (.ref 17), some (va_rf nn)] [] (hp X M Z) Q) (k0 : P (xa X 17) ≠ al → Q (.inl (some (.int (bB (!al)))), hp X M Z)) : Wp d u 234 5 [some (.ref (r + 59)), some (.ref 17), some (.ref (last + 59))] [] (hp X M Z) Q := by
  obtain ⟨d, rfl⟩ : ∃ d0, d = d0 + 1 := ⟨d - 1, by omega⟩
  iterate 4 refine Wp.step rfl ?_
  refine Wp.callT rfl rfl hD (by omega) hNl hZ hZl ?_
  refine Wp.step rfl ?_
  refine Wp.gfN rfl hZr rfl rfl ?_
  obtain ⟨ci, fs, y, g3, g4⟩ := hD.cell
  have e1 := Option.some.inj (g3.symm.trans hNl)
  cases e1
  refine Wp.br rfl (fun h => ?_) (fun h => ?_)
  · have k9 := k1 (bB_inj.mp h)
    refine Wp.step rfl ?_
    refine Wp.gfN rfl hZl (isT_next g4) rfl ?_
    cases nn with
    | none => iterate 2 refine Wp.step rfl ?_
              exact k9
    | some q => iterate 2 refine Wp.step rfl ?_
                exact k9
  · have k9 := k0 (fun q => h (bB_inj.mpr q))
    refine Wp.step rfl ?_
    refine Wp.gfN rfl hZr rfl rfl ?_
    cases al
    · refine Wp.brF rfl (fun q => q rfl) ?_
      iterate 2 refine Wp.step rfl ?_
      exact Wp.finZ rfl (Or.inr rfl) k9
    · refine Wp.brT rfl (by decide) ?_
      refine Wp.step rfl ?_
      exact Wp.finZ rfl (Or.inl rfl) k9
theorem OT.close {k lo hi r last : Nat} {al : Bool} {acc : (Nat → Int32) → Bool} {N : List va_E} (h : OT k lo hi r last al acc N) : DenT k lo hi r (fun l => acc l == al) N := by
  obtain ⟨h1, h2, h3, h4, h5, h6, v1, cl, fl, yl, h7, h8, h9, h10⟩ := h
  refine ⟨h1, h2, h5, 11, _, 234, h7, Or.inr (Or.inr ⟨rfl, rfl⟩), ?_⟩
  intro d u X M Z Q nx hd hZ hZr hQ
  dsimp only at hQ
  refine h10 d u X M Z Q nx _ none hd (fun i a b _ c => hZ i a b c) hZr (by rw [hZ last h3 h4 (fun q => h6 q.symm)]; exact h8) (fun q => ?_) (fun q => ?_)
  · rw [q] at hQ
    iterate 3 refine Wp.step rfl ?_
    refine Wp.gfN rfl hZr rfl rfl ?_
    refine Wp.finZ rfl (bB_or al) ?_
    cases al <;> exact hQ
  · rw [q] at hQ
    cases al <;> exact hQ
/-- the row just made: one test -/
theorem OT.first {k lo m t r : Nat} {al : Bool} {P : (Nat → Int32) → Bool} {N0 N : List va_E} (h : DenT k lo m t P N0) (hr : m ≤ r) (hN : pm_nth N r = some (.inr (11, [.null, .int (bB al), .ref (t + 59), .ref (t + 59)]))) (hE : ∀ i, i < m → pm_nth N i = pm_nth N0 i) : OT (k + 1) lo (r + 1) r t al (fun l => P l == al) N := by
  have g1 := h.1
  have g2 := h.2.1
  obtain ⟨ci, fs, y, g3, g4⟩ := h.cell
  refine ⟨by omega, by omega, by omega, by omega, nth_lt hN, by omega, _, ci, fs, y, hN, by rw [hE t g2]; exact g3, g4, ?_⟩
  intro d u X M Z Q nx w nn hd hZ hZr hZl k1 k0
  refine Wp.step rfl ?_
  refine Wp.gfN rfl hZr rfl rfl ?_
  refine Wp.step rfl ?_
  refine row_step h hd g3 (fun i a b c => by rw [hZ i a (by omega) c (by omega), hE i b]) hZr hZl (fun q => k1 (by show (P (xa X 17) == al) = true; rw [q]; cases al <;> rfl)) (fun q => k0 ?_)
  show (P (xa X 17) == al) = false
  cases hP : P (xa X 17) <;> cases al <;> simp_all
theorem OT.more {k lo hi r last t2 hi2 : Nat} {al : Bool} {acc P : (Nat → Int32) → Bool} {N N2 N5 : List va_E} {a b c : Value} {cl : Nat} {fl : List Value} {n0 : Value} (h : OT (k + 1) lo hi r last al acc N) (h2 : DenT k hi hi2 t2 P N2) (hr0 : pm_nth N r = some (.inr (11, [.null, a, b, c]))) (hl0 : pm_nth N last = some (.inr (cl, n0 :: fl))) (hr : pm_nth N5 r = some (.inr (11, [.null, a, b, .ref (t2 + 59)]))) (hl : pm_nth N5 last = some (.inr (cl, .ref (t2 + 59) :: fl))) (hle : hi2 ≤ N5.length) (hN : ∀ i, i < hi2 → i ≠ r → i ≠ last → pm_nth N5 i = pm_nth N2 i) (hE : ∀ i, i < hi → pm_nth N2 i = pm_nth N i) : OT (k + 1) lo hi2 r t2 al (fun l => acc l && (P l == al)) N5 := by
  obtain ⟨g1, g2, g3, g4, g5, g6, v1, cl', fl', yl, h7, h8, h9, h10⟩ := h
  have e1 := Option.some.inj (h7.symm.trans hr0)
  cases e1
  have e2 := Option.some.inj (h8.symm.trans hl0)
  cases e2
  have g8 := h2.1
  have g9 := h2.2.1
  obtain ⟨ci, fs, y, j3, j4⟩ := h2.cell
  refine ⟨by omega, by omega, by omega, by omega, hle, by omega, _, ci, fs, y, hr, by rw [hN t2 g9 (by omega) (by omega)]; exact j3, j4, ?_⟩
  intro d u X M Z Q nx w nn hd hZ hZr hZl k1 k0
  refine h10 d u X M Z Q nx w (some (t2 + 59)) hd (fun i a b c e => by rw [hZ i a (by omega) (by omega) e, hN i (by omega) e c, hE i b]) hZr (by rw [hZ last g3 (by omega) (by omega) (by omega)]; exact hl) (fun q => ?_) (fun q => k0 (by show (acc (xa X 17) && (P (xa X 17) == al)) = false; rw [q]; rfl))
  refine row_step h2 hd j3 (fun i a b c => by rw [hZ i (by omega) b c (by omega), hN i b (by omega) (by omega)]) hZr hZl (fun q2 => k1 (by show (acc (xa X 17) && (P (xa X 17) == al)) = true; rw [q, q2]; cases al <;> rfl)) (fun q2 => k0 ?_)
  show (acc (xa X 17) && (P (xa X 17) == al)) = false
  rw [q]
  cases hP : P (xa X 17) <;> cases al <;> simp_all
/-! makers of tests -/
section MAKERS2
variable {d u : Nat} {X : pmXs} {M : pmMs} {Z : pmZs} {Q : pmO → Prop}
theorem Not_init {i t : Nat} {a b : Value} (ha : pm_nth Z.2.2 i = some (.inr (9, [a, b]))) (hQ : Q (.inl none, hp X M (zN Z (pm_set Z.2.2 i (.inr (9, [a, .ref (t + 59)])))))) : Wp (d + 1) u 259 0 (pm_entry 259 [.ref (i + 59), .ref (t + 59)]) [] (hp X M Z) Q := by
  refine Wp.step rfl ?_
  refine Wp.call rfl (Nat.zero_le _) (Test_init i ⟨_, _, rfl, ?_⟩)
  iterate 2 refine Wp.step rfl ?_
  refine Wp.pfN rfl ha rfl rfl trivial ?_
  exact Wp.fin rfl trivial hQ
theorem Compare_init {i s t : Nat} {sg : Int32} {n a b c : Value} (ha : pm_nth Z.2.2 i = some (.inr (10, [n, a, b, c]))) (hQ : ∀ N, N.length = Z.2.2.length → pm_nth N i = some (.inr (10, [n, .int sg, .ref (s + 59), .ref (t + 59)])) → (∀ j, j ≠ i → pm_nth N j = pm_nth Z.2.2 j) → Q (.inl none, hp X M (zN Z N))) : Wp (d + 1) u 260 0 (pm_entry 260 [.ref (i + 59), .int sg, .ref (s + 59), .ref (t + 59)]) [] (hp X M Z) Q := by
  have hi := nth_lt ha
  refine Wp.step rfl ?_
  refine Wp.call rfl (Nat.zero_le _) (Test_init i ⟨_, _, rfl, ?_⟩)
  iterate 2 refine Wp.step rfl ?_
  refine Wp.pfN rfl ha rfl rfl trivial ?_
  iterate 2 refine Wp.step rfl ?_
  refine Wp.pfN (i := i) (fs := [n, .int sg, b, c]) rfl (nth_set hi) rfl rfl trivial ?_
  iterate 2 refine Wp.step rfl ?_
  refine Wp.pfN (i := i) (fs := [n, .int sg, .ref (s + 59), c]) rfl (nth_set (by simp only [zN, len_set]; exact hi)) rfl rfl trivial ?_
  refine Wp.fin rfl trivial (hQ _ ?_ ?_ ?_)
  · simp only [zN, len_set]
  · exact nth_set (by simp only [zN, len_set]; exact hi)
  · intro j hj
    simp only [zN, nth_setne (fun q : i = j => hj q.symm)]
theorem Several_init {i t : Nat} {al : Bool} {n a b c : Value} (ha : pm_nth Z.2.2 i = some (.inr (11, [n, a, b, c]))) (hQ : ∀ N, N.length = Z.2.2.length → pm_nth N i = some (.inr (11, [n, .int (bB al), .ref (t + 59), .ref (t + 59)])) → (∀ j, j ≠ i → pm_nth N j = pm_nth Z.2.2 j) → Q (.inl none, hp X M (zN Z N))) : Wp (d + 1) u 247 0 (pm_entry 247 [.ref (i + 59), .int (bB al), .ref (t + 59)]) [] (hp X M Z) Q := by
  have hi := nth_lt ha
  refine Wp.step rfl ?_
  refine Wp.call rfl (Nat.zero_le _) (Test_init i ⟨_, _, rfl, ?_⟩)
  iterate 2 refine Wp.step rfl ?_
  refine Wp.pfN rfl ha rfl rfl (bB_or al) ?_
  iterate 2 refine Wp.step rfl ?_
  refine Wp.pfN (i := i) (fs := [n, .int (bB al), b, c]) rfl (nth_set hi) rfl rfl trivial ?_
  iterate 2 refine Wp.step rfl ?_
  refine Wp.pfN (i := i) (fs := [n, .int (bB al), .ref (t + 59), c]) rfl (nth_set (by simp only [zN, len_set]; exact hi)) rfl rfl trivial ?_
  refine Wp.fin rfl trivial (hQ _ ?_ ?_ ?_)
  · simp only [zN, len_set]
  · exact nth_set (by simp only [zN, len_set]; exact hi)
  · intro j hj
    simp only [zN, nth_setne (fun q : i = j => hj q.symm)]
theorem Several_add {i last t cl yl : Nat} {a b c n0 : Value} {fl : List Value} (ha : pm_nth Z.2.2 i = some (.inr (11, [a, b, c, .ref (last + 59)]))) (hl : pm_nth Z.2.2 last = some (.inr (cl, n0 :: fl))) (hT : isT cl yl) (hne : i ≠ last) (hQ : ∀ N, N.length = Z.2.2.length → pm_nth N i = some (.inr (11, [a, b, c, .ref (t + 59)])) → pm_nth N last = some (.inr (cl, .ref (t + 59) :: fl)) → (∀ j, j ≠ i → j ≠ last → pm_nth N j = pm_nth Z.2.2 j) → Q (.inl none, hp X M (zN Z N))) : Wp d u 248 0 (pm_entry 248 [.ref (i + 59), .ref (t + 59)]) [] (hp X M Z) Q := by
  have hi := nth_lt ha
  have hll := nth_lt hl
  refine Wp.step rfl ?_
  refine Wp.gfN rfl ha rfl rfl ?_
  refine Wp.step rfl ?_
  refine Wp.pfN rfl hl (isT_next hT) rfl trivial ?_
  iterate 2 refine Wp.step rfl ?_
  refine Wp.pfN (i := i) rfl ((nth_setne (fun q => hne q.symm)).trans ha) rfl rfl trivial ?_
  refine Wp.fin rfl trivial (hQ _ ?_ ?_ ?_ ?_)
  · simp only [zN, len_set]
  · exact nth_set (by simp only [zN, len_set]; exact hi)
  · exact (nth_setne hne).trans (nth_set hll)
  · intro j h1 h2
    simp only [zN, nth_setne (fun q : i = j => h1 q.symm), nth_setne (fun q : last = j => h2 q.symm)]
end MAKERS2
