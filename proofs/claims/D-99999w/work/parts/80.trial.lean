/-! years that would be -/
theorem xA_comm (X : pmXs) {a b : Nat} (h : a ≠ b) (f g : Nat → Int32) : xA (xA X a f) b g = xA (xA X b g) a f := by
  have : va_up (va_up X.2.2.1 a f) b g = va_up (va_up X.2.2.1 b g) a f := by
    funext j
    unfold va_up
    by_cases q : j = b
    · subst q
      rw [if_pos rfl, if_neg (fun z => h z.symm), if_pos rfl]
    · rw [if_neg q]
      by_cases p : j = a
      · rw [if_pos p, if_pos p]
      · rw [if_neg p, if_neg p, if_neg q]
  show (X.1, X.2.1, va_up (va_up X.2.2.1 a f) b g, X.2.2.2) = (X.1, X.2.1, va_up (va_up X.2.2.1 b g) a f, X.2.2.2)
  rw [this]
/-- X in a trial: aside laid, letters l, the row r -/
def TS (X0 : pmXs) (l r : Nat → Int32) : pmXs := xA (xA (xA X0 28 (va_cpy (xa X0 26) (xa X0 28) 0 0 110)) 17 l) 26 r
theorem TS_26 (X0 : pmXs) (l r : Nat → Int32) : xa (TS X0 l r) 26 = r := xA_same _ _ _
theorem TS_17 (X0 : pmXs) (l r : Nat → Int32) : xa (TS X0 l r) 17 = l := by
  unfold TS
  rw [xA_ne _ _ (by decide), xA_same]
theorem TS_1 (X0 : pmXs) (l r : Nat → Int32) : (TS X0 l r).1 = X0.1 := rfl
theorem TS_a {X0 : pmXs} {l r : Nat → Int32} {a : Nat} (h1 : a ≠ 17) (h2 : a ≠ 26) (h3 : a ≠ 28) : xa (TS X0 l r) a = xa X0 a := by
  unfold TS
  rw [xA_ne _ _ h2, xA_ne _ _ h1, xA_ne _ _ h3]
theorem TS_row (X0 : pmXs) (l r r' : Nat → Int32) : xA (TS X0 l r) 26 r' = TS X0 l r' := xA_xA _ _ _ _
theorem TS_let (X0 : pmXs) (l r l' : Nat → Int32) : xA (TS X0 l r) 17 l' = TS X0 l' r := by
  unfold TS
  rw [xA_comm _ (by decide), xA_xA]
theorem TS_step (X0 : pmXs) (l r l' r' : Nat → Int32) : xA (xA (TS X0 l r) 17 l') 26 r' = TS X0 l' r' := by rw [TS_let, TS_row]
section TRI
variable {d u K F rt lm : Nat} {gr : Nat → Int32} {G : Nat → (Nat → Int32) → Int32} {lw : pmLw} {X X0 : pmXs} {M : pmMs} {Z : pmZs} {Q : pmO → Prop}
theorem TS_xe (h : XE X0 Z K F gr rt lw) {l : Nat → Int32} (hl : LZ l) (r : Nat → Int32) : XE (TS X0 l r) Z K F gr rt lw := ((h.aside _).let hl).row r
theorem TS_cq (h : Cq K F gr rt lm G lw X0 M Z) {l : Nat → Int32} (hl : LZ l) : Cq K F gr rt lm G lw (TS X0 l (xa X0 26)) M Z := by
  have := ((h.aside (va_cpy (xa X0 26) (xa X0 28) 0 0 110)).let hl).row h.2.2.2.2.2.2.2.1
  rw [mA_self] at this
  exact this
theorem X_asideT (hQ : Q (.inl none, hp (TS X0 (xa X0 17) (xa X0 26)) M Z)) : Wp d u 64 0 (pm_entry 64 [.ref 14]) [] (hp X0 M Z) Q := by
  refine X_putAside X0 M Z ?_
  have e : TS X0 (xa X0 17) (xa X0 26) = xA X0 28 (va_cpy (xa X0 26) (xa X0 28) 0 0 110) := by
    unfold TS
    have e1 : ∀ f : Nat → Int32, xA (xA X0 28 f) 17 (xa X0 17) = xA X0 28 f := fun f => by rw [xA_comm _ (by decide), xA_self]
    have e2 : ∀ f : Nat → Int32, xA (xA X0 28 f) 26 (xa X0 26) = xA X0 28 f := fun f => by rw [xA_comm _ (by decide), xA_self]
    rw [e1, e2]
  rw [e] at hQ
  exact hQ
theorem X_takeT {l r : Nat → Int32} (hr : ∀ j, 110 ≤ j → r j = xa X0 26 j) (hQ : Q (.inl none, hp (TS X0 l (xa X0 26)) M Z)) : Wp d u 67 0 (pm_entry 67 [.ref 14]) [] (hp (TS X0 l r) M Z) Q := by
  refine X_takeBack (TS X0 l r) M Z ?_
  have e : va_cpy (xa (TS X0 l r) 28) (xa (TS X0 l r) 26) 0 0 110 = xa X0 26 := by
    rw [TS_26]
    have e28 : xa (TS X0 l r) 28 = va_cpy (xa X0 26) (xa X0 28) 0 0 110 := by
      unfold TS
      rw [xA_ne _ _ (by decide), xA_ne _ _ (by decide), xA_same]
    rw [e28]
    funext j
    unfold va_cpy
    by_cases q : j < 110
    · rw [if_pos (by omega), if_pos (by omega)]
      exact congrArg (xa X0 26) (by omega)
    · rw [if_neg (by omega)]
      exact hr j (by omega)
  rw [e, TS_row]
  exact hQ
theorem M_copy {N : Nat} {now : Nat → Int32} (hR : RR N (ma M 48) now) (hN : 110 ≤ N) (hQ : ∀ w, RR 110 w now → LI w → Q (.inl none, hp X (mA M 49 w) Z)) : Wp d u 183 0 (pm_entry 183 [.ref 48, .ref 49]) [] (hp X M Z) Q := by
  iterate 2 refine Wp.step rfl ?_
  have k0 := cpy_L (f := ma M 48) (g := ma M 49) (sp := 0) (dp := 0) 110 (fun i q => Wp d u 183 2 [some (.ref 48), some (.ref 49), some (.int (nI i))] [] (hp X (mA M 49 q) Z) Q) ?_ ?_
  · rw [mA_self] at k0
    exact k0
  · repeat (refine Wp.step rfl ?_)
    refine Wp.brT rfl (nI_le (by omega) (by omega)) ?_
    repeat (refine Wp.step rfl ?_)
    refine Wp.istM (k := 110) rfl rfl rfl (by first | (simp only [nI_add, pk_mul, Nat.zero_add, Nat.add_zero]; done) | (simp only [nI_add, pk_mul, Nat.zero_add, Nat.add_zero]; exact rfl) | exact rfl) (by omega) (by decide) ?_
    rw [mA_mA, mA_same]
    refine Wp.fin rfl trivial (hQ _ ⟨fun k i hk hi => ?_, fun j a b => ?_⟩ ⟨0, by omega, pk_us⟩)
    · rw [pk_un (by omega)]
      unfold va_cpy
      rw [if_pos (by omega)]
      exact (congrArg (ma M 48) (by omega)).trans (hR.1 k i hk hi)
    · rw [pk_un (by omega)]
      unfold va_cpy
      rw [if_pos (by omega)]
      exact (congrArg (ma M 48) (by omega)).trans (hR.2 j a (by omega))
  · intro i q hi k9
    rw [← nI_add i 1, Nat.zero_add] at k9
    repeat (refine Wp.step rfl ?_)
    refine Wp.brF rfl (nI_ge hi (by omega)) ?_
    repeat (refine Wp.step rfl ?_)
    refine Wp.ldM (k := i) rfl rfl (by first | (simp only [nI_add, pk_mul, Nat.zero_add, Nat.add_zero]; done) | (simp only [nI_add, pk_mul, Nat.zero_add, Nat.add_zero]; exact rfl) | exact rfl) (by omega) (by decide) ?_
    rw [mA_ne _ _ (by decide)]
    refine Wp.istM (k := i) rfl rfl rfl (by first | (simp only [nI_add, pk_mul, Nat.zero_add, Nat.add_zero]; done) | (simp only [nI_add, pk_mul, Nat.zero_add, Nat.add_zero]; exact rfl) | exact rfl) (by omega) (by decide) ?_
    rw [mA_mA, mA_same]
    repeat (first | exact k9 | refine Wp.step rfl ?_)
/-- a year of a trial on X -/
theorem X_liveT {Y y : Nat} {l r : Nat → Int32} (hd : 153 ≤ d) (hE : XE X0 Z K F gr rt lw) (hG : GE K F gr rt) (hF : 0 < F) (hl : LZ l) (hI : RI K F Y r) (hY : Y < 2000) (hQ : ∀ l', LZ l' → Q (.inl (some (.int (btP lw r gr F))), hp (TS X0 l' (liveP lw r gr F rt)) M Z)) : Wp d u 72 0 (pm_entry 72 [.ref 14]) [] (hp (TS X0 l r) M Z) Q := by
  refine X_liveYear hd (TS_xe hE hl r) hG hF (by rw [TS_26]; exact hI) hY (fun l' hl' => ?_)
  rw [TS_step, TS_26]
  exact hQ l' hl'
/-- M in a trial on the row r -/
def TM (K F : Nat) (gr : Nat → Int32) (rt lm : Nat) (G : Nat → (Nat → Int32) → Int32) (lw : pmLw) (Xf : pmXs) (M : pmMs) (Z : pmZs) (r : Nat → Int32) : Prop := Cq K F gr rt lm G lw Xf M Z ∧ RR 110 (ma M 49) r ∧ LI (ma M 49)
theorem M_goT {Y : Nat} {r : Nat → Int32} (hd : 170 ≤ d) (hT : TM K F gr rt lm G lw X0 M Z r) (hF : 0 < F) (hI : RI K F Y r) (hY : Y < 2000) (hQ : ∀ M1, TM K F gr rt lm G lw X0 M1 Z (liveP lw r gr F rt) → Q (.inl (some (.int (btP lw r gr F))), hp X M1 Z)) : Wp d u 176 0 (pm_entry 176 [.ref 35, .ref 49]) [] (hp X M Z) Q := by
  obtain ⟨hC, hR, hL⟩ := hT
  refine M_goYear (a := 49) hd hC.2.2.2.1 hC.1 hF (Or.inr rfl) hR (by omega) hI hY hL (fun M1 w1 j1 j2 j3 j4 => hQ _ ⟨(hC.jf j1 j2).trial _, ?_, ?_⟩)
  · rw [mA_same]; exact j3.log110 _ _ _
  · rw [mA_same]
    refine LI.log ?_ _ _ _
    obtain ⟨lg, a, b⟩ := hL
    exact ⟨lg, a, (j4 110 (by omega)).trans b⟩
theorem M_copyT (h : Cq K F gr rt lm G lw X0 M Z) (hQ : ∀ M1, TM K F gr rt lm G lw X0 M1 Z (xa X0 26) → Q (.inl none, hp X M1 Z)) : Wp d u 183 0 (pm_entry 183 [.ref 48, .ref 49]) [] (hp X M Z) Q := by
  refine M_copy h.2.2.2.2.2.2.2.1.1 (by omega) (fun w a b => hQ _ ⟨h.trial w, ?_, ?_⟩)
  · rw [mA_same]; exact a
  · rw [mA_same]; exact b
end TRI
