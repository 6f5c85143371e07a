/-! PARSER of M: where it looks -/
/-- M in the midst of a text: its place, how deep, its fault -/
def KM (M : pmMs) (p e f : Int32) : pmMs := (upd (upd (upd M.1 10 p) 12 e) 11 f, M.2)
theorem KM_p (M : pmMs) (p e f q : Int32) : mI (KM M p e f) 10 q = KM M q e f := by
  show (upd (upd (upd (upd M.1 10 p) 12 e) 11 f) 10 q, M.2) = (upd (upd (upd M.1 10 q) 12 e) 11 f, M.2)
  congr 1
  funext j
  by_cases h3 : j = 10
  · subst h3; rw [pk_us, pk_un (by decide), pk_un (by decide), pk_us]
  · rw [pk_un h3]
    by_cases h5 : j = 11
    · subst h5; rw [pk_us, pk_us]
    · rw [pk_un h5, pk_un h5]
      by_cases h4 : j = 12
      · subst h4; rw [pk_us, pk_us]
      · rw [pk_un h4, pk_un h4, pk_un h3, pk_un h3]
theorem KM_e (M : pmMs) (p e f q : Int32) : mI (KM M p e f) 12 q = KM M p q f := by
  show (upd (upd (upd (upd M.1 10 p) 12 e) 11 f) 12 q, M.2) = (upd (upd (upd M.1 10 p) 12 q) 11 f, M.2)
  congr 1
  funext j
  by_cases h4 : j = 12
  · subst h4; rw [pk_us, pk_un (by decide), pk_us]
  · rw [pk_un h4]
    by_cases h5 : j = 11
    · subst h5; rw [pk_us, pk_us]
    · rw [pk_un h5, pk_un h5, pk_un h4, pk_un h4]
theorem KM_f (M : pmMs) (p e f q : Int32) : mI (KM M p e f) 11 q = KM M p e q := by
  show (upd (upd (upd (upd M.1 10 p) 12 e) 11 f) 11 q, M.2) = (upd (upd (upd M.1 10 p) 12 e) 11 q, M.2)
  rw [upd_upd]
theorem KM_10 (M : pmMs) (p e f : Int32) : (KM M p e f).1 10 = p := rfl
theorem KM_11 (M : pmMs) (p e f : Int32) : (KM M p e f).1 11 = f := rfl
theorem KM_12 (M : pmMs) (p e f : Int32) : (KM M p e f).1 12 = e := rfl
theorem KM_8 (M : pmMs) (p e f : Int32) : (KM M p e f).1 8 = M.1 8 := rfl
theorem KM_9 (M : pmMs) (p e f : Int32) : (KM M p e f).1 9 = M.1 9 := rfl
/-- the text that M reads: t, n long -/
def MT (M : pmMs) (t : Nat → Int32) (n : Nat) : Prop := ∃ b, (M.2.2.1 = 36 ∧ b + n ≤ 240 ∨ M.2.2.1 = 37 ∧ b + n ≤ 960) ∧ M.1 8 = nI b ∧ M.1 9 = nI n ∧ n ≤ 240 ∧ ∀ j, j < n → ma M M.2.2.1 (b + j) = t j
theorem MT_n {M : pmMs} {t : Nat → Int32} {n : Nat} (hT : MT M t n) : M.1 9 = nI n := by
  obtain ⟨b, _, _, h, _⟩ := hT
  exact h
theorem MT_le {M : pmMs} {t : Nat → Int32} {n : Nat} (hT : MT M t n) : n ≤ 240 := by
  obtain ⟨b, _, _, _, h, _⟩ := hT
  exact h
/-- a byte of the text -/
theorem Wp.bldT {d u mi pc : Nat} {L : pmL} {r : List Value} {X : pmXs} {M : pmMs} {Z : pmZs} {Q : pmO → Prop} {ln nx n0 : Nat} {cv : Value} {tb : List (Nat × Nat)} {t : Nat → Int32} {n p : Nat} {a e f : Int32} (ec : pm_code mi pc = some (.baload, ln, nx, cv, n0, tb)) (hT : MT M t n) (hp' : p < n) (kk : Wp d u mi nx L (.int (t p) :: r) (hp X (KM M a e f) Z) Q) : Wp d u mi pc L (.int (M.1 8 + nI p) :: .ref M.2.2.1 :: r) (hp X (KM M a e f) Z) Q := by
  obtain ⟨b, h1, h2, h3, h4, h5⟩ := hT
  rw [h2, nI_add]
  rw [← h5 p hp'] at kk
  rcases h1 with ⟨h1, h6⟩ | ⟨h1, h6⟩
  · rw [h1] at kk ⊢
    exact Wp.bldM (k := b + p) ec rfl rfl (by omega) (by decide) kk
  · rw [h1] at kk ⊢
    exact Wp.bldM (k := b + p) ec rfl rfl (by omega) (by decide) kk
theorem M_look_l {d u : Nat} (X : pmXs) (M : pmMs) (Z : pmZs) {t : Nat → Int32} {n : Nat} {e f : Int32} (hT : MT M t n) {Q : pmO → Prop} : ∀ m p, p + m = n → Q (.inl (some (.int (ch t n (lk t n p)))), hp X (KM M (nI (lk t n p)) e f) Z) → Wp d u 202 0 (pm_entry 202 [.ref 35]) [] (hp X (KM M (nI p) e f) Z) Q := by
  have h1 := MT_n hT
  have h2 := MT_le hT
  intro m
  induction m with
  | zero =>
    intro p hp hQ
    rw [lk_stop (by omega)] at hQ
    repeat (first | refine Wp.putX rfl rfl rfl ?_ | refine Wp.putM rfl rfl rfl ?_ | refine Wp.step rfl ?_)
    try dsimp only
    refine Wp.brT rfl (show M.1 9 ≤ nI p by rw [h1]; exact nI_le (by omega) (by omega)) ?_
    repeat (first | refine Wp.putX rfl rfl rfl ?_ | refine Wp.putM rfl rfl rfl ?_ | refine Wp.step rfl ?_)
    try dsimp only
    refine Wp.brT rfl (show M.1 9 ≤ nI p by rw [h1]; exact nI_le (by omega) (by omega)) ?_
    repeat (first | refine Wp.putX rfl rfl rfl ?_ | refine Wp.putM rfl rfl rfl ?_ | refine Wp.step rfl ?_)
    try dsimp only
    rw [show ch t n p = -1 from if_neg (by omega)] at hQ
    exact Wp.fin rfl rfl hQ
  | succ m ih =>
    intro p hp hQ
    have hpn : ¬ nI n ≤ nI p := nI_ge (by omega) (by omega)
    repeat (first | refine Wp.putX rfl rfl rfl ?_ | refine Wp.putM rfl rfl rfl ?_ | refine Wp.step rfl ?_)
    try dsimp only
    refine Wp.brF rfl (show ¬ M.1 9 ≤ nI p by rw [h1]; exact hpn) ?_
    repeat (first | refine Wp.putX rfl rfl rfl ?_ | refine Wp.putM rfl rfl rfl ?_ | refine Wp.step rfl ?_)
    try dsimp only
    refine Wp.bldT (p := p) rfl hT (by omega) ?_
    repeat (first | refine Wp.putX rfl rfl rfl ?_ | refine Wp.putM rfl rfl rfl ?_ | refine Wp.step rfl ?_)
    try dsimp only
    refine Wp.br rfl (fun hb => ?_) (fun hb => ?_)
    · rw [lk_stop (fun q => hb q.2)] at hQ
      repeat (first | refine Wp.putX rfl rfl rfl ?_ | refine Wp.putM rfl rfl rfl ?_ | refine Wp.step rfl ?_)
      try dsimp only
      refine Wp.brF rfl (show ¬ M.1 9 ≤ nI p by rw [h1]; exact hpn) ?_
      repeat (first | refine Wp.putX rfl rfl rfl ?_ | refine Wp.putM rfl rfl rfl ?_ | refine Wp.step rfl ?_)
      try dsimp only
      refine Wp.bldT (p := p) rfl hT (by omega) ?_
      repeat (first | refine Wp.putX rfl rfl rfl ?_ | refine Wp.putM rfl rfl rfl ?_ | refine Wp.step rfl ?_)
      try dsimp only
      rw [show ch t n p = t p &&& nI 255 from if_pos (by omega)] at hQ
      exact Wp.fin rfl rfl hQ
    · have hb := Decidable.not_not.mp hb
      rw [lk_on (by omega) hb] at hQ
      have k9 := ih (p + 1) (by omega) hQ
      rw [← KM_p M (nI p) e f (nI (p + 1)), ← nI_add p 1] at k9
      repeat (first | exact k9 | refine Wp.putX rfl rfl rfl ?_ | refine Wp.putM rfl rfl rfl ?_ | refine Wp.step rfl ?_)
theorem M_look {d u : Nat} (X : pmXs) (M : pmMs) (Z : pmZs) {t : Nat → Int32} {n p : Nat} {e f : Int32} (hT : MT M t n) (h : p ≤ n) {Q : pmO → Prop} (hQ : Q (.inl (some (.int (ch t n (lk t n p)))), hp X (KM M (nI (lk t n p)) e f) Z)) : Wp d u 202 0 (pm_entry 202 [.ref 35]) [] (hp X (KM M (nI p) e f) Z) Q := M_look_l X M Z hT (n - p) p (by omega) hQ
/-- fails: the first fault is kept -/
theorem M_fails0 {d u : Nat} (X : pmXs) (M : pmMs) (Z : pmZs) {p e : Int32} {Q : pmO → Prop} (hQ : Q (.inl (some (.int 0)), hp X (KM M p e p) Z)) : Wp d u 204 0 (pm_entry 204 [.ref 35]) [] (hp X (KM M p e (-1)) Z) Q := by
  repeat (first | refine Wp.putX rfl rfl rfl ?_ | refine Wp.putM rfl rfl rfl ?_ | refine Wp.step rfl ?_)
  try dsimp only
  refine Wp.brF rfl (fun q => q (KM_11 _ _ _ _)) ?_
  rw [← KM_f M p e (-1) p] at hQ
  repeat (first | refine Wp.putX rfl rfl rfl ?_ | refine Wp.putM rfl rfl rfl ?_ | refine Wp.step rfl ?_)
  try dsimp only
  exact Wp.fin rfl rfl hQ
theorem M_fails1 {d u : Nat} (X : pmXs) (M : pmMs) (Z : pmZs) {p e f : Int32} (hf : f ≠ -1) {Q : pmO → Prop} (hQ : Q (.inl (some (.int 0)), hp X (KM M p e f) Z)) : Wp d u 204 0 (pm_entry 204 [.ref 35]) [] (hp X (KM M p e f) Z) Q := by
  repeat (first | refine Wp.putX rfl rfl rfl ?_ | refine Wp.putM rfl rfl rfl ?_ | refine Wp.step rfl ?_)
  try dsimp only
  refine Wp.brT rfl (fun q => hf ((KM_11 _ _ _ _).symm.trans q)) ?_
  repeat (first | refine Wp.putX rfl rfl rfl ?_ | refine Wp.putM rfl rfl rfl ?_ | refine Wp.step rfl ?_)
  try dsimp only
  exact Wp.fin rfl rfl hQ
theorem nI_m1 {p : Nat} (h : p < 2 ^ 31) : nI p ≠ -1 := by
  intro q
  have := congrArg Int32.toInt q
  rw [show (nI p).toInt = p from nI_toInt h] at this
  have h2 : (-1 : Int32).toInt = -1 := rfl
  rw [h2] at this
  omega
