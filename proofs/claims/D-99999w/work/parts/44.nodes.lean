/-! NODES: lists of cells -/
theorem nth_app {N K : List va_E} {i : Nat} (h : i < N.length) : pm_nth (N ++ K) i = pm_nth N i := by rw [pm_nth_eq, pm_nth_eq, List.getElem?_append_left h]
theorem nth_end {N : List va_E} {c : va_E} : pm_nth (N ++ [c]) N.length = some c := by rw [pm_nth_eq]; simp
theorem nth_set {N : List va_E} {i : Nat} {c : va_E} (h : i < N.length) : pm_nth (pm_set N i c) i = some c := by rw [pm_nth_eq, pm_set_eq]; simp [h]
theorem nth_setne {N : List va_E} {i j : Nat} {c : va_E} (h : i ≠ j) : pm_nth (pm_set N i c) j = pm_nth N j := by rw [pm_nth_eq, pm_nth_eq, pm_set_eq, List.getElem?_set_ne h]
theorem len_set {N : List va_E} {i : Nat} {c : va_E} : (pm_set N i c).length = N.length := by rw [pm_set_eq, List.length_set]
theorem len_end {N : List va_E} {c : va_E} : (N ++ [c]).length = N.length + 1 := by simp
theorem nth_lt {N : List va_E} {i : Nat} {c : va_E} (h : pm_nth N i = some c) : i < N.length := by
  rw [pm_nth_eq] at h
  exact (List.getElem?_eq_some_iff.mp h).1
/-- the nodes below lo are as they were -/
def Ext (lo : Nat) (A N : List va_E) : Prop := A.length ≤ N.length ∧ ∀ i, i < lo → pm_nth N i = pm_nth A i
theorem Ext.refl (lo : Nat) (A : List va_E) : Ext lo A A := ⟨Nat.le_refl _, fun _ _ => rfl⟩
theorem Ext.trans {lo : Nat} {A B C : List va_E} (h1 : Ext lo A B) (h2 : Ext lo B C) : Ext lo A C := ⟨Nat.le_trans h1.1 h2.1, fun i hi => (h2.2 i hi).trans (h1.2 i hi)⟩
theorem Ext.less {lo lo' : Nat} {A B : List va_E} (h : Ext lo A B) (hl : lo' ≤ lo) : Ext lo' A B := ⟨h.1, fun i hi => h.2 i (by omega)⟩
theorem Ext.app {lo : Nat} {A : List va_E} {c : va_E} (h : lo ≤ A.length) : Ext lo A (A ++ [c]) := ⟨by rw [len_end]; omega, fun i hi => nth_app (by omega)⟩
theorem Ext.set {lo : Nat} {A : List va_E} {j : Nat} {c : va_E} (h : lo ≤ j) : Ext lo A (pm_set A j c) := ⟨by rw [len_set]; exact Nat.le_refl _, fun i hi => nth_setne (by omega)⟩
/-! what a sum answers -/
def DenS (k lo hi r : Nat) (F : (Nat → Int32) → Int32) (N : List va_E) : Prop := lo ≤ r ∧ r < hi ∧ hi ≤ N.length ∧ ∃ ci fs y, pm_nth N r = some (.inr (ci, fs)) ∧ (ci = 4 ∧ y = 235 ∨ ci = 5 ∧ y = 236 ∨ ci = 6 ∧ y = 237) ∧ ∀ (d u : Nat) (X : pmXs) (M : pmMs) (Z : pmZs) (Q : pmO → Prop), k ≤ d → (∀ i, lo ≤ i → i < hi → pm_nth Z.2.2 i = pm_nth N i) → Q (.inl (some (.int (F (xa X 17)))), hp X M Z) → Wp d u y 0 (pm_entry y [.ref (r + 59), .ref 17]) [] (hp X M Z) Q
theorem DenS_const {N : List va_E} {r : Nat} {v : Int32} (hN : pm_nth N r = some (.inr (5, [.int v]))) : DenS 0 r (r + 1) r (fun _ => v) N := by
  refine ⟨Nat.le_refl _, by omega, nth_lt hN, 5, _, 236, hN, Or.inr (Or.inl ⟨rfl, rfl⟩), ?_⟩
  intro d u X M Z Q hd hZ hQ
  have h1 := hZ r (Nat.le_refl _) (by omega)
  rw [hN] at h1
  refine Wp.step rfl ?_
  refine Wp.gf rfl h1 rfl rfl ?_
  exact Wp.fin rfl rfl hQ
theorem DenS_letter {N : List va_E} {r c : Nat} (hc : c < 128) (hN : pm_nth N r = some (.inr (4, [.int (nI c)]))) : DenS 0 r (r + 1) r (fun l => l c) N := by
  refine ⟨Nat.le_refl _, by omega, nth_lt hN, 4, _, 235, hN, Or.inl ⟨rfl, rfl⟩, ?_⟩
  intro d u X M Z Q hd hZ hQ
  have h1 := hZ r (Nat.le_refl _) (by omega)
  rw [hN] at h1
  iterate 2 refine Wp.step rfl ?_
  refine Wp.gf rfl h1 rfl rfl ?_
  refine Wp.ldX (k := c) rfl rfl rfl hc (by decide) ?_
  exact Wp.fin rfl rfl hQ
theorem DenS.mono {k k' lo hi lo' hi' r : Nat} {F : (Nat → Int32) → Int32} {N N' : List va_E} (h : DenS k lo hi r F N) (hk : k ≤ k') (hl : lo' ≤ lo) (hh : hi ≤ hi') (hN' : hi' ≤ N'.length) (hN : ∀ i, lo ≤ i → i < hi → pm_nth N' i = pm_nth N i) : DenS k' lo' hi' r F N' := by
  obtain ⟨h1, h2, h2b, ci, fs, y, h3, h4, h5⟩ := h
  refine ⟨by omega, by omega, hN', ci, fs, y, by rw [hN r h1 h2]; exact h3, h4, ?_⟩
  intro d u X M Z Q hd hZ hQ
  exact h5 d u X M Z Q (by omega) (fun i hi1 hi2 => by rw [hZ i (by omega) (by omega), hN i hi1 hi2]) hQ
/-- the call of a sum -/
theorem Wp.callS {d u mi pc idx ln nx k lo hi r : Nat} {cv : Value} {L : pmL} {st : List Value} {X : pmXs} {M : pmMs} {Z : pmZs} {Q : pmO → Prop} {F : (Nat → Int32) → Int32} {N : List va_E} (e : pm_code mi pc = some (.invokevirtual idx, ln, nx, cv, 2, [(4, 235), (5, 236), (6, 237)])) (hr : pm_rest st = true) (hD : DenS k lo hi r F N) (hk : k ≤ d) (hZ : ∀ i, lo ≤ i → i < hi → pm_nth Z.2.2 i = pm_nth N i) (kk : Wp (d + 1) u mi nx L (.int (F (xa X 17)) :: st) (hp X M Z) Q) : Wp (d + 1) u mi pc L (.ref 17 :: .ref (r + 59) :: st) (hp X M Z) Q := by
  obtain ⟨h1, h2, _, ci, fs, y, h3, h4, h5⟩ := hD
  have ha : pm_nth (hp X M Z) (r + 59) = some (.inr (ci, fs)) := (hZ r h1 h2).trans h3
  have hcan : ∀ y, y = 235 ∨ y = 236 ∨ y = 237 → pm_can y 2 (.ref 17 :: .ref (r + 59) :: st) = true := by
    intro y hy
    rcases hy with rfl | rfl | rfl
    · show (true && (true && (pm_rest st && true))) = true
      rw [hr]; rfl
    · show (true && (true && (pm_rest st && true))) = true
      rw [hr]; rfl
    · show (true && (true && (pm_rest st && true))) = true
      rw [hr]; rfl
  have hf : pm_find [(4, 235), (5, 236), (6, 237)] ci = some y := by
    rcases h4 with ⟨rfl, rfl⟩ | ⟨rfl, rfl⟩ | ⟨rfl, rfl⟩ <;> rfl
  have hc := hcan y (by rcases h4 with ⟨_, h⟩ | ⟨_, h⟩ | ⟨_, h⟩ <;> simp [h])
  exact Wp.call (u1 := 0) (pm_call_v (as := [.ref 17]) e rfl ha hf hc) (Nat.zero_le _) (h5 d 0 X M Z _ hk hZ ⟨_, _, rfl, kk⟩)
/-! chains: a sum of links, worked out from the left -/
def clampL (x : Int64) : Int64 := if (if x < 1000000 then x else 1000000) < -1000000 then -1000000 else (if x < 1000000 then x else 1000000)
def onL (sg : Int32) (a b : Int64) : Int64 := if sg = nI 43 then a + b else if sg = nI 45 then a - b else if sg = nI 42 then a * b else if b = 0 then 0 else a / b
def opS (sg a b : Int32) : Int32 := (clampL (onL sg a.toInt64 b.toInt64)).toInt32
theorem clampL_int (x : Int64) : (clampL x).toInt32.toInt64 = clampL x := by
  have hb : (-1000000 : Int64).toInt = -1000000 := by decide
  have hB : (1000000 : Int64).toInt = 1000000 := by decide
  unfold clampL
  by_cases h1 : x < 1000000
  · rw [if_pos h1]
    by_cases h2 : x < -1000000
    · rw [if_pos h2]
      decide
    · rw [if_neg h2]
      rw [Int64.lt_iff_toInt_lt, hB] at h1
      rw [Int64.lt_iff_toInt_lt, hb] at h2
      exact lg_i2l_l2i (by omega) (by omega)
  · rw [if_neg h1]
    decide
theorem opS_long (sg a b : Int32) : (opS sg a b).toInt64 = clampL (onL sg a.toInt64 b.toInt64) := clampL_int _
theorem M_within {d u : Nat} {h : pmH} {Q : pmO → Prop} (x : Int64) (hQ : Q (.inl (some (.int (clampL x).toInt32)), h)) : Wp d u 223 0 (pm_entry 223 [.long x]) [] h Q := by
  repeat (first | refine Wp.putX rfl rfl rfl ?_ | refine Wp.putM rfl rfl rfl ?_ | refine Wp.step rfl ?_)
  try dsimp only
  exact Wp.fin rfl rfl hQ
theorem Wp.swT {d u mi pc ln nx n t : Nat} {a b c e' : _} {cv : Value} {tb : List (Nat × Nat)} {L : pmL} {r : List Value} {h : pmH} {Q : pmO → Prop} {x : Int32} (e : pm_code mi pc = some (.tableswitch a b c e', ln, nx, cv, n, tb)) (hs : pm_sw tb n x = t) (kk : Wp d u mi t L r h Q) : Wp d u mi pc L (.int x :: r) h Q := by
  subst hs
  refine Wp.step (pc' := pm_sw tb n x) (L' := L) (st' := r) (h' := h) ?_ kk
  unfold pm_step
  rw [e]
  rfl
theorem Wp.swL {d u mi pc ln nx n t : Nat} {a b : _} {cv : Value} {tb : List (Nat × Nat)} {L : pmL} {r : List Value} {h : pmH} {Q : pmO → Prop} {x : Int32} (e : pm_code mi pc = some (.lookupswitch a b, ln, nx, cv, n, tb)) (hs : pm_sw tb n x = t) (kk : Wp d u mi t L r h Q) : Wp d u mi pc L (.int x :: r) h Q := by
  subst hs
  refine Wp.step (pc' := pm_sw tb n x) (L' := L) (st' := r) (h' := h) ?_ kk
  unfold pm_step
  rw [e]
  rfl
theorem sw_on {sg : Int32} (h1 : sg ≠ nI 43) (h2 : sg ≠ nI 45) (h3 : sg ≠ nI 42) : pm_sw [(42, 54), (43, 44), (44, 59), (45, 49)] 59 sg = 59 := by
  show (if sg = nI 42 then 54 else if sg = nI 43 then 44 else if sg = nI 44 then 59 else if sg = nI 45 then 49 else 59) = 59
  rw [if_neg h3, if_neg h1, if_neg h2]
  split <;> rfl
/-- Link.on -/
theorem Link_on {d u k lo hi r2 last : Nat} {X : pmXs} {M : pmMs} {Z : pmZs} {Q : pmO → Prop} {F : (Nat → Int32) → Int32} {N : List va_E} {sg : Int32} {nx : Value} {v : Int64} (hl : pm_nth Z.2.2 last = some (.inr (7, [.int sg, .ref (r2 + 59), nx]))) (hD : DenS k lo hi r2 F N) (hk : k ≤ d) (hZ : ∀ i, lo ≤ i → i < hi → pm_nth Z.2.2 i = pm_nth N i) (hQ : Q (.inl (some (.long (onL sg v (F (xa X 17)).toInt64))), hp X M Z)) : Wp (d + 1) u 243 0 (pm_entry 243 [.ref (last + 59), .long v, .ref 17]) [] (hp X M Z) Q := by
  have hl' : pm_nth (hp X M Z) (last + 59) = some (.inr (7, [.int sg, .ref (r2 + 59), nx])) := hl
  refine Wp.step rfl ?_
  refine Wp.gf rfl hl' rfl rfl ?_
  refine Wp.step rfl ?_
  refine Wp.callS rfl rfl hD hk hZ ?_
  iterate 3 refine Wp.step rfl ?_
  refine Wp.gf rfl hl' rfl rfl ?_
  unfold onL at hQ
  by_cases h1 : sg = nI 43
  · subst h1
    rw [if_pos rfl] at hQ
    repeat (first | refine Wp.putX rfl rfl rfl ?_ | refine Wp.putM rfl rfl rfl ?_ | refine Wp.step rfl ?_)
    try dsimp only
    exact Wp.fin rfl trivial hQ
  rw [if_neg h1] at hQ
  by_cases h2 : sg = nI 45
  · subst h2
    rw [if_pos rfl] at hQ
    repeat (first | refine Wp.putX rfl rfl rfl ?_ | refine Wp.putM rfl rfl rfl ?_ | refine Wp.step rfl ?_)
    try dsimp only
    exact Wp.fin rfl trivial hQ
  rw [if_neg h2] at hQ
  by_cases h3 : sg = nI 42
  · subst h3
    rw [if_pos rfl] at hQ
    repeat (first | refine Wp.putX rfl rfl rfl ?_ | refine Wp.putM rfl rfl rfl ?_ | refine Wp.step rfl ?_)
    try dsimp only
    exact Wp.fin rfl trivial hQ
  rw [if_neg h3] at hQ
  refine Wp.swT rfl (sw_on h1 h2 h3) ?_
  iterate 3 refine Wp.step rfl ?_
  by_cases hb : (F (xa X 17)).toInt64 = 0
  · rw [if_pos hb] at hQ
    refine Wp.brF rfl (fun q => q ((lg_cmp_eq _ _).mpr hb)) ?_
    iterate 2 refine Wp.step rfl ?_
    exact Wp.fin rfl trivial hQ
  · rw [if_neg hb] at hQ
    refine Wp.brT rfl (fun q => hb ((lg_cmp_eq _ _).mp q)) ?_
    iterate 2 refine Wp.step rfl ?_
    refine Wp.stepP rfl hb ?_
    exact Wp.fin rfl trivial hQ
/-- an open chain: its last link has nothing behind it yet -/
def OC (k lo hi r last : Nat) (acc : (Nat → Int32) → Int32) (N : List va_E) : Prop := lo ≤ r ∧ r < hi ∧ lo ≤ last ∧ last < hi ∧ hi ≤ N.length ∧ r ≠ last ∧ ∃ v1 v2 sg sm, pm_nth N r = some (.inr (6, [v1, v2, .ref (last + 59)])) ∧ pm_nth N last = some (.inr (7, [.int sg, sm, .null])) ∧
  ∀ (d u : Nat) (X : pmXs) (M : pmMs) (Z : pmZs) (Q : pmO → Prop) (nx : Option Nat) (w : Value), k ≤ d → (∀ i, lo ≤ i → i < hi → i ≠ last → i ≠ r → pm_nth Z.2.2 i = pm_nth N i) → pm_nth Z.2.2 r = some (.inr (6, [v1, v2, w])) → pm_nth Z.2.2 last = some (.inr (7, [.int sg, sm, va_rf nx])) →
    Wp d u 237 16 [some (.ref (r + 59)), some (.ref 17), some (.long (acc (xa X 17)).toInt64), none, some (va_rf nx)] [] (hp X M Z) Q → Wp d u 237 0 (pm_entry 237 [.ref (r + 59), .ref 17]) [] (hp X M Z) Q
/-- one link gone over -/
theorem chain_step {d u k lo hi r r2 last : Nat} {X : pmXs} {M : pmMs} {Z : pmZs} {Q : pmO → Prop} {F : (Nat → Int32) → Int32} {N : List va_E} {sg a : Int32} {nx : Option Nat} (hl : pm_nth Z.2.2 last = some (.inr (7, [.int sg, .ref (r2 + 59), va_rf nx]))) (hD : DenS k lo hi r2 F N) (hk : k + 2 ≤ d) (hZ : ∀ i, lo ≤ i → i < hi → pm_nth Z.2.2 i = pm_nth N i) (kk : Wp d u 237 16 [some (.ref (r + 59)), some (.ref 17), some (.long (opS sg a (F (xa X 17))).toInt64), none, some (va_rf nx)] [] (hp X M Z) Q) : Wp d u 237 16 [some (.ref (r + 59)), some (.ref 17), some (.long a.toInt64), none, some (.ref (last + 59))] [] (hp X M Z) Q := by
  obtain ⟨d, rfl⟩ : ∃ d0, d = d0 + 2 := ⟨d - 2, by omega⟩
  have hl' : pm_nth (hp X M Z) (last + 59) = some (.inr (7, [.int sg, .ref (r2 + 59), va_rf nx])) := hl
  iterate 7 refine Wp.step rfl ?_
  refine Wp.call (u1 := 0) (pm_call_v rfl rfl hl' rfl rfl) (Nat.zero_le _) (Link_on hl hD (by omega) hZ ⟨_, _, rfl, ?_⟩)
  rw [opS_long] at kk
  iterate 4 refine Wp.step rfl ?_
  refine Wp.gf rfl hl' rfl rfl ?_
  cases nx with
  | none => iterate 2 refine Wp.step rfl ?_
            exact kk
  | some q => iterate 2 refine Wp.step rfl ?_
              exact kk
theorem OC.close {k lo hi r last : Nat} {acc : (Nat → Int32) → Int32} {N : List va_E} (h : OC k lo hi r last acc N) : DenS k lo hi r acc N := by
  obtain ⟨h1, h2, h3, h4, h5, h6, v1, v2, sg, sm, h7, h8, h9⟩ := h
  refine ⟨h1, h2, h5, 6, _, 237, h7, Or.inr (Or.inr ⟨rfl, rfl⟩), ?_⟩
  intro d u X M Z Q hd hZ hQ
  refine h9 d u X M Z Q none (.ref (last + 59)) hd (fun i a b _ _ => hZ i a b) (by rw [hZ r h1 h2]; exact h7) (by rw [hZ last h3 h4]; exact h8) ?_
  have e := lg_l2i_i2l (acc (xa X 17))
  iterate 4 refine Wp.step rfl ?_
  rw [e]
  exact Wp.fin rfl rfl hQ
/-- the first link -/
theorem OC.first {k lo m r s r2 last : Nat} {F0 F2 : (Nat → Int32) → Int32} {N0 N2 N5 : List va_E} {sg : Int32} (hs : DenS k lo m s F0 N0) (hmr : m ≤ r) (h2 : DenS k (r + 1) last r2 F2 N2) (hlo : lo ≤ m) (hr : pm_nth N5 r = some (.inr (6, [.ref (s + 59), .ref (last + 59), .ref (last + 59)]))) (hl : pm_nth N5 last = some (.inr (7, [.int sg, .ref (r2 + 59), .null]))) (hN : ∀ i, i < last → i ≠ r → pm_nth N5 i = pm_nth N2 i) (hE : ∀ i, i < m → pm_nth N2 i = pm_nth N0 i) : OC (k + 2) lo (last + 1) r last (fun l => opS sg (F0 l) (F2 l)) N5 := by
  have g1 := hs.2.1
  have g2 := h2.1
  have g3 := h2.2.1
  have g4 := nth_lt hl
  refine ⟨by omega, by omega, by omega, by omega, by omega, by omega, _, _, _, _, hr, hl, ?_⟩
  intro d u X M Z Q nx w hd hZ hZr hZl kk
  obtain ⟨d, rfl⟩ : ∃ d0, d = d0 + 2 := ⟨d - 2, by omega⟩
  have hZr' : pm_nth (hp X M Z) (r + 59) = some (.inr (6, [.ref (s + 59), .ref (last + 59), w])) := hZr
  refine Wp.step rfl ?_
  refine Wp.gf rfl hZr' rfl rfl ?_
  refine Wp.step rfl ?_
  refine Wp.callS rfl rfl hs (by omega) (fun i a b => by rw [hZ i a (by omega) (by omega) (by omega), hN i (by omega) (by omega), hE i b]) ?_
  iterate 3 refine Wp.step rfl ?_
  refine Wp.gf rfl hZr' rfl rfl ?_
  refine Wp.step rfl ?_
  exact chain_step hZl h2 (by omega) (fun i a b => by rw [hZ i (by omega) (by omega) (by omega) (by omega), hN i b (by omega)]) kk
/-- one link more -/
theorem OC.more {k lo hi r last r2 new : Nat} {acc F2 : (Nat → Int32) → Int32} {N N2 N5 : List va_E} {sg sg0 : Int32} {v1 v2 w0 sm0 : Value} {w1 : Value} (h : OC (k + 2) lo hi r last acc N) (hn : hi ≤ new) (h2 : DenS k hi new r2 F2 N2) (hr0 : pm_nth N r = some (.inr (6, [v1, v2, w0]))) (hl0 : pm_nth N last = some (.inr (7, [.int sg0, sm0, w1]))) (hr : pm_nth N5 r = some (.inr (6, [v1, v2, .ref (new + 59)]))) (hl : pm_nth N5 last = some (.inr (7, [.int sg0, sm0, .ref (new + 59)]))) (hnew : pm_nth N5 new = some (.inr (7, [.int sg, .ref (r2 + 59), .null]))) (hN : ∀ i, i < new → i ≠ r → i ≠ last → pm_nth N5 i = pm_nth N2 i) (hE : ∀ i, i < hi → pm_nth N2 i = pm_nth N i) : OC (k + 2) lo (new + 1) r new (fun l => opS sg (acc l) (F2 l)) N5 := by
  obtain ⟨g1, g2, g3, g4, g5, g6, a1, a2, b1, b2, h7, h8, h9⟩ := h
  have e1 := Option.some.inj (h7.symm.trans hr0)
  cases e1
  have e2 := Option.some.inj (h8.symm.trans hl0)
  cases e2
  have g7 := nth_lt hnew
  have g8 := h2.1
  have g9 := h2.2.1
  refine ⟨by omega, by omega, by omega, by omega, by omega, by omega, _, _, _, _, hr, hnew, ?_⟩
  intro d u X M Z Q nx w hd hZ hZr hZl kk
  refine h9 d u X M Z Q (some (new + 59)) w hd (fun i a b c e => by rw [hZ i a (by omega) (by omega) e, hN i (by omega) e c, hE i b]) hZr (by rw [hZ last g3 (by omega) (by omega) (by omega)]; exact hl) ?_
  exact chain_step hZl h2 hd (fun i a b => by rw [hZ i (by omega) (by omega) (by omega) (by omega), hN i b (by omega) (by omega)]) kk
/-! makers of nodes -/
section MAKERS
variable {d u mi pc : Nat} {L : pmL} {r : List Value} {X : pmXs} {M : pmMs} {Z : pmZs} {Q : pmO → Prop}
theorem Wp.pfN {idx ln nx n0 i ci k : Nat} {cv v : Value} {tb : List (Nat × Nat)} {fs : List Value} (e : pm_code mi pc = some (.putfield idx, ln, nx, cv, n0, tb)) (ha : pm_nth Z.2.2 i = some (.inr (ci, fs))) (hf : pm_find tb ci = some k) (hk : Nat.blt k fs.length = true) (hv : pm_fit n0 v) (kk : Wp d u mi nx L r (hp X M (zN Z (pm_set Z.2.2 i (.inr (ci, pm_set fs k v))))) Q) : Wp d u mi pc L (v :: .ref (i + 59) :: r) (hp X M Z) Q :=
  Wp.pf e (show pm_nth (hp X M Z) (i + 59) = _ from ha) hf hk hv kk
theorem Wp.gfN {idx ln nx n0 i ci k : Nat} {cv v : Value} {tb : List (Nat × Nat)} {fs : List Value} (e : pm_code mi pc = some (.getfield idx, ln, nx, cv, n0, tb)) (ha : pm_nth Z.2.2 i = some (.inr (ci, fs))) (hf : pm_find tb ci = some k) (hk : pm_nth fs k = some v) (kk : Wp d u mi nx L (v :: r) (hp X M Z) Q) : Wp d u mi pc L (.ref (i + 59) :: r) (hp X M Z) Q :=
  Wp.gf e (show pm_nth (hp X M Z) (i + 59) = _ from ha) hf hk kk
theorem Sum_init (i : Nat) {h : pmH} (hQ : Q (.inl none, h)) : Wp d u 251 0 (pm_entry 251 [.ref (i + 59)]) [] h Q := by
  iterate 2 refine Wp.step rfl ?_
  exact Wp.fin rfl trivial hQ
theorem Test_init (i : Nat) {h : pmH} (hQ : Q (.inl none, h)) : Wp d u 253 0 (pm_entry 253 [.ref (i + 59)]) [] h Q := by
  iterate 2 refine Wp.step rfl ?_
  exact Wp.fin rfl trivial hQ
theorem Letter_init {i : Nat} {v w : Int32} (ha : pm_nth Z.2.2 i = some (.inr (4, [.int w]))) (hQ : Q (.inl none, hp X M (zN Z (pm_set Z.2.2 i (.inr (4, [.int v])))))) : Wp (d + 1) u 257 0 (pm_entry 257 [.ref (i + 59), .int v]) [] (hp X M Z) Q := by
  refine Wp.step rfl ?_
  refine Wp.call rfl (Nat.zero_le _) (Sum_init i ⟨_, _, rfl, ?_⟩)
  iterate 2 refine Wp.step rfl ?_
  refine Wp.pfN rfl ha rfl rfl trivial ?_
  exact Wp.fin rfl trivial hQ
theorem Constant_init {i : Nat} {v w : Int32} (ha : pm_nth Z.2.2 i = some (.inr (5, [.int w]))) (hQ : Q (.inl none, hp X M (zN Z (pm_set Z.2.2 i (.inr (5, [.int v])))))) : Wp (d + 1) u 258 0 (pm_entry 258 [.ref (i + 59), .int v]) [] (hp X M Z) Q := by
  refine Wp.step rfl ?_
  refine Wp.call rfl (Nat.zero_le _) (Sum_init i ⟨_, _, rfl, ?_⟩)
  iterate 2 refine Wp.step rfl ?_
  refine Wp.pfN rfl ha rfl rfl trivial ?_
  exact Wp.fin rfl trivial hQ
theorem Chain_init {i s : Nat} {a b c : Value} (ha : pm_nth Z.2.2 i = some (.inr (6, [a, b, c]))) (hQ : Q (.inl none, hp X M (zN Z (pm_set Z.2.2 i (.inr (6, [.ref (s + 59), b, c])))))) : Wp (d + 1) u 245 0 (pm_entry 245 [.ref (i + 59), .ref (s + 59)]) [] (hp X M Z) Q := by
  refine Wp.step rfl ?_
  refine Wp.call rfl (Nat.zero_le _) (Sum_init i ⟨_, _, rfl, ?_⟩)
  iterate 2 refine Wp.step rfl ?_
  refine Wp.pfN rfl ha rfl rfl trivial ?_
  exact Wp.fin rfl trivial hQ
theorem Link_init {i s : Nat} {sg : Int32} {a b c : Value} (ha : pm_nth Z.2.2 i = some (.inr (7, [a, b, c]))) (hQ : Q (.inl none, hp X M (zN Z (pm_set (pm_set Z.2.2 i (.inr (7, [.int sg, b, c]))) i (.inr (7, [.int sg, .ref (s + 59), c])))))) : Wp d u 252 0 (pm_entry 252 [.ref (i + 59), .int sg, .ref (s + 59)]) [] (hp X M Z) Q := by
  iterate 4 refine Wp.step rfl ?_
  refine Wp.pfN rfl ha rfl rfl trivial ?_
  iterate 2 refine Wp.step rfl ?_
  refine Wp.pfN (i := i) (fs := [.int sg, b, c]) rfl (nth_set (nth_lt ha)) rfl rfl trivial ?_
  exact Wp.fin rfl trivial hQ
/-- the first link of a chain -/
theorem Chain_add1 {i s : Nat} {sg : Int32} {v1 : Value} (ha : pm_nth Z.2.2 i = some (.inr (6, [v1, .null, .null]))) (hu : 4 ≤ u) (hQ : ∀ N, N.length = Z.2.2.length + 1 → pm_nth N i = some (.inr (6, [v1, .ref (Z.2.2.length + 59), .ref (Z.2.2.length + 59)])) → pm_nth N Z.2.2.length = some (.inr (7, [.int sg, .ref (s + 59), .null])) → (∀ j, j < Z.2.2.length → j ≠ i → pm_nth N j = pm_nth Z.2.2 j) → Q (.inl none, hp X M (zN Z N))) : Wp (d + 1) u 246 0 (pm_entry 246 [.ref (i + 59), .int sg, .ref (s + 59)]) [] (hp X M Z) Q := by
  have hi := nth_lt ha
  refine Wp.newZ rfl rfl hu ?_
  iterate 3 refine Wp.step rfl ?_
  refine Wp.call (u1 := 0) rfl (Nat.zero_le _) (Link_init (i := Z.2.2.length) (s := s) (a := .int 0) (b := .null) (c := .null) nth_end ⟨_, _, rfl, ?_⟩)
  iterate 2 refine Wp.step rfl ?_
  have hi2 : pm_nth (pm_set (pm_set (Z.2.2 ++ [.inr (7, pm_def 7)]) Z.2.2.length (.inr (7, [.int sg, .null, .null]))) Z.2.2.length (.inr (7, [.int sg, .ref (s + 59), .null]))) i = some (.inr (6, [v1, .null, .null])) := by
    rw [nth_setne (by omega), nth_setne (by omega), nth_app hi]
    exact ha
  refine Wp.gfN rfl hi2 rfl rfl ?_
  iterate 3 refine Wp.step rfl ?_
  refine Wp.pfN rfl hi2 rfl rfl trivial ?_
  iterate 3 refine Wp.step rfl ?_
  refine Wp.pfN (i := i) rfl (nth_set (nth_lt hi2)) rfl rfl trivial ?_
  refine Wp.fin rfl trivial (hQ _ ?_ ?_ ?_ ?_)
  · simp only [len_set, zN, len_end]
  · exact nth_set (by simp only [len_set, zN, len_end]; omega)
  · show pm_nth (pm_set (pm_set _ _ _) _ _) _ = _
    rw [nth_setne (by omega), nth_setne (by omega)]
    exact nth_set (by simp only [zN, len_set, len_end]; omega)
  · intro j hj hji
    show pm_nth (pm_set (pm_set _ _ _) _ _) _ = _
    rw [nth_setne (fun q => hji q.symm), nth_setne (fun q => hji q.symm)]
    show pm_nth (pm_set (pm_set _ _ _) _ _) _ = _
    rw [nth_setne (by omega), nth_setne (by omega)]
    exact nth_app hj
/-- a later link -/
theorem Chain_add2 {i last s : Nat} {sg sg0 : Int32} {v1 v2 sm0 w1 : Value} (ha : pm_nth Z.2.2 i = some (.inr (6, [v1, v2, .ref (last + 59)]))) (hl : pm_nth Z.2.2 last = some (.inr (7, [.int sg0, sm0, w1]))) (hne : i ≠ last) (hu : 4 ≤ u) (hQ : ∀ N, N.length = Z.2.2.length + 1 → pm_nth N i = some (.inr (6, [v1, v2, .ref (Z.2.2.length + 59)])) → pm_nth N last = some (.inr (7, [.int sg0, sm0, .ref (Z.2.2.length + 59)])) → pm_nth N Z.2.2.length = some (.inr (7, [.int sg, .ref (s + 59), .null])) → (∀ j, j < Z.2.2.length → j ≠ i → j ≠ last → pm_nth N j = pm_nth Z.2.2 j) → Q (.inl none, hp X M (zN Z N))) : Wp (d + 1) u 246 0 (pm_entry 246 [.ref (i + 59), .int sg, .ref (s + 59)]) [] (hp X M Z) Q := by
  have hi := nth_lt ha
  have hll := nth_lt hl
  refine Wp.newZ rfl rfl hu ?_
  iterate 3 refine Wp.step rfl ?_
  refine Wp.call (u1 := 0) rfl (Nat.zero_le _) (Link_init (i := Z.2.2.length) (s := s) (a := .int 0) (b := .null) (c := .null) nth_end ⟨_, _, rfl, ?_⟩)
  iterate 2 refine Wp.step rfl ?_
  have hi2 : pm_nth (pm_set (pm_set (Z.2.2 ++ [.inr (7, pm_def 7)]) Z.2.2.length (.inr (7, [.int sg, .null, .null]))) Z.2.2.length (.inr (7, [.int sg, .ref (s + 59), .null]))) i = some (.inr (6, [v1, v2, .ref (last + 59)])) := by
    rw [nth_setne (by omega), nth_setne (by omega), nth_app hi]
    exact ha
  have hl2 : pm_nth (pm_set (pm_set (Z.2.2 ++ [.inr (7, pm_def 7)]) Z.2.2.length (.inr (7, [.int sg, .null, .null]))) Z.2.2.length (.inr (7, [.int sg, .ref (s + 59), .null]))) last = some (.inr (7, [.int sg0, sm0, w1])) := by
    rw [nth_setne (by omega), nth_setne (by omega), nth_app hll]
    exact hl
  refine Wp.gfN rfl hi2 rfl rfl ?_
  iterate 2 refine Wp.step rfl ?_
  refine Wp.gfN rfl hi2 rfl rfl ?_
  refine Wp.step rfl ?_
  refine Wp.pfN rfl hl2 rfl rfl trivial ?_
  iterate 2 refine Wp.step rfl ?_
  refine Wp.pfN (i := i) rfl ((nth_setne (fun q => hne q.symm)).trans hi2) rfl rfl trivial ?_
  refine Wp.fin rfl trivial (hQ _ ?_ ?_ ?_ ?_ ?_)
  · simp only [len_set, zN, len_end]
  · exact nth_set (by simp only [len_set, zN, len_end]; omega)
  · show pm_nth (pm_set (pm_set _ _ _) _ _) _ = _
    rw [nth_setne hne]
    exact nth_set (by simp only [len_set, zN, len_end]; omega)
  · show pm_nth (pm_set (pm_set _ _ _) _ _) _ = _
    rw [nth_setne (by omega), nth_setne (by omega)]
    exact nth_set (by simp only [zN, len_set, len_end]; omega)
  · intro j hj hji hjl
    show pm_nth (pm_set (pm_set _ _ _) _ _) _ = _
    rw [nth_setne (fun q => hji q.symm), nth_setne (fun q => hjl q.symm)]
    show pm_nth (pm_set (pm_set _ _ _) _ _) _ = _
    rw [nth_setne (by omega), nth_setne (by omega)]
    exact nth_app hj
end MAKERS
