/-! PARSERS' small ones -/
abbrev isS (c : Int32) : Prop := c = nI 61 ∨ c = nI 60 ∨ c = nI 62
abbrev isD (c : Int32) : Prop := nI 48 ≤ c ∧ c ≤ nI 57
section LEAFP
variable {d u : Nat} {h : pmH} {Q : pmO → Prop}
theorem X_isDigit (c : Int32) (hQ : Q (.inl (some (.int (bI (isD c)))), h)) : Wp d u 115 0 (pm_entry 115 [.int c]) [] h Q := by
  repeat (first | refine Wp.putX rfl rfl rfl ?_ | refine Wp.putM rfl rfl rfl ?_ | refine Wp.step rfl ?_)
  try dsimp only
  refine Wp.br rfl (fun h1 => ?_) (fun h1 => ?_)
  · repeat (first | refine Wp.putX rfl rfl rfl ?_ | refine Wp.putM rfl rfl rfl ?_ | refine Wp.step rfl ?_)
    try dsimp only
    refine Wp.fin rfl rfl ?_
    rwa [show bI (isD c) = nI 0 from if_neg (fun q => absurd h1 (Int32.not_lt.mpr q.1))] at hQ
  · repeat (first | refine Wp.putX rfl rfl rfl ?_ | refine Wp.putM rfl rfl rfl ?_ | refine Wp.step rfl ?_)
    try dsimp only
    refine Wp.br rfl (fun h2 => ?_) (fun h2 => ?_)
    · repeat (first | refine Wp.putX rfl rfl rfl ?_ | refine Wp.putM rfl rfl rfl ?_ | refine Wp.step rfl ?_)
      try dsimp only
      refine Wp.fin rfl rfl ?_
      rwa [show bI (isD c) = nI 0 from if_neg (fun q => absurd h2 (Int32.not_lt.mpr q.2))] at hQ
    · repeat (first | refine Wp.putX rfl rfl rfl ?_ | refine Wp.putM rfl rfl rfl ?_ | refine Wp.step rfl ?_)
      try dsimp only
      refine Wp.fin rfl rfl ?_
      rwa [show bI (isD c) = nI 1 from if_pos ⟨Int32.not_lt.mp h1, Int32.not_lt.mp h2⟩] at hQ
theorem X_isSign (c : Int32) (hQ : Q (.inl (some (.int (bI (isS c)))), h)) : Wp d u 109 0 (pm_entry 109 [.int c]) [] h Q := by
  repeat (first | refine Wp.putX rfl rfl rfl ?_ | refine Wp.putM rfl rfl rfl ?_ | refine Wp.step rfl ?_)
  try dsimp only
  refine Wp.br rfl (fun h1 => ?_) (fun h1 => ?_)
  · repeat (first | refine Wp.putX rfl rfl rfl ?_ | refine Wp.putM rfl rfl rfl ?_ | refine Wp.step rfl ?_)
    try dsimp only
    refine Wp.fin rfl rfl ?_
    rwa [show bI (isS c) = nI 1 from if_pos (Or.inl h1)] at hQ
  · repeat (first | refine Wp.putX rfl rfl rfl ?_ | refine Wp.putM rfl rfl rfl ?_ | refine Wp.step rfl ?_)
    try dsimp only
    refine Wp.br rfl (fun h2 => ?_) (fun h2 => ?_)
    · repeat (first | refine Wp.putX rfl rfl rfl ?_ | refine Wp.putM rfl rfl rfl ?_ | refine Wp.step rfl ?_)
      try dsimp only
      refine Wp.fin rfl rfl ?_
      rwa [show bI (isS c) = nI 1 from if_pos (Or.inr (Or.inl h2))] at hQ
    · repeat (first | refine Wp.putX rfl rfl rfl ?_ | refine Wp.putM rfl rfl rfl ?_ | refine Wp.step rfl ?_)
      try dsimp only
      refine Wp.br rfl (fun h3 => ?_) (fun h3 => ?_)
      · repeat (first | refine Wp.putX rfl rfl rfl ?_ | refine Wp.putM rfl rfl rfl ?_ | refine Wp.step rfl ?_)
        try dsimp only
        refine Wp.fin rfl rfl ?_
        rwa [show bI (isS c) = nI 0 from if_neg (fun q => by rcases q with q | q | q <;> contradiction)] at hQ
      · repeat (first | refine Wp.putX rfl rfl rfl ?_ | refine Wp.putM rfl rfl rfl ?_ | refine Wp.step rfl ?_)
        try dsimp only
        refine Wp.fin rfl rfl ?_
        rwa [show bI (isS c) = nI 1 from if_pos (Or.inr (Or.inr (Decidable.not_not.mp h3)))] at hQ
theorem M_isSign (c : Int32) (hQ : Q (.inl (some (.int (bI (isS c)))), h)) : Wp d u 216 0 (pm_entry 216 [.int c]) [] h Q := by
  repeat (first | refine Wp.putX rfl rfl rfl ?_ | refine Wp.putM rfl rfl rfl ?_ | refine Wp.step rfl ?_)
  try dsimp only
  refine Wp.br rfl (fun h1 => ?_) (fun h1 => ?_)
  · repeat (first | refine Wp.putX rfl rfl rfl ?_ | refine Wp.putM rfl rfl rfl ?_ | refine Wp.step rfl ?_)
    try dsimp only
    refine Wp.fin rfl rfl ?_
    rwa [show bI (isS c) = nI 1 from if_pos (Or.inl h1)] at hQ
  · repeat (first | refine Wp.putX rfl rfl rfl ?_ | refine Wp.putM rfl rfl rfl ?_ | refine Wp.step rfl ?_)
    try dsimp only
    refine Wp.br rfl (fun h2 => ?_) (fun h2 => ?_)
    · repeat (first | refine Wp.putX rfl rfl rfl ?_ | refine Wp.putM rfl rfl rfl ?_ | refine Wp.step rfl ?_)
      try dsimp only
      refine Wp.fin rfl rfl ?_
      rwa [show bI (isS c) = nI 1 from if_pos (Or.inr (Or.inl h2))] at hQ
    · repeat (first | refine Wp.putX rfl rfl rfl ?_ | refine Wp.putM rfl rfl rfl ?_ | refine Wp.step rfl ?_)
      try dsimp only
      refine Wp.br rfl (fun h3 => ?_) (fun h3 => ?_)
      · repeat (first | refine Wp.putX rfl rfl rfl ?_ | refine Wp.putM rfl rfl rfl ?_ | refine Wp.step rfl ?_)
        try dsimp only
        refine Wp.fin rfl rfl ?_
        rwa [show bI (isS c) = nI 0 from if_neg (fun q => by rcases q with q | q | q <;> contradiction)] at hQ
      · repeat (first | refine Wp.putX rfl rfl rfl ?_ | refine Wp.putM rfl rfl rfl ?_ | refine Wp.step rfl ?_)
        try dsimp only
        refine Wp.fin rfl rfl ?_
        rwa [show bI (isS c) = nI 1 from if_pos (Or.inr (Or.inr (Decidable.not_not.mp h3)))] at hQ
end LEAFP
theorem X_opens1 {d u : Nat} (X : pmXs) (M : pmMs) (Z : pmZs) {p e : Nat} (he : e < 6) {Q : pmO → Prop} (hQ : Q (.inl none, hp (PX X (p + 1) (e + 1)) M Z)) : Wp (d + 1) u 121 0 (pm_entry 121 [.ref 14]) [] (hp (PX X p e) M Z) Q := by
  rw [← PX_p X p (e + 1) (p + 1), ← PX_e X p e (e + 1), ← nI_add p 1, ← nI_add e 1] at hQ
  repeat (first | refine Wp.putX rfl rfl rfl ?_ | refine Wp.putM rfl rfl rfl ?_ | refine Wp.step rfl ?_)
  try dsimp only
  refine Wp.brF rfl (nI_ge he (by omega)) ?_
  repeat (first | refine Wp.putX rfl rfl rfl ?_ | refine Wp.putM rfl rfl rfl ?_ | refine Wp.step rfl ?_)
  try dsimp only
  refine Wp.call rfl (Nat.zero_le _) (X_need1 ⟨_, _, rfl, ?_⟩)
  repeat (first | refine Wp.putX rfl rfl rfl ?_ | refine Wp.putM rfl rfl rfl ?_ | refine Wp.step rfl ?_)
  try dsimp only
  exact Wp.fin rfl trivial hQ
theorem X_opens0 {d u : Nat} (X : pmXs) (M : pmMs) (Z : pmZs) {p e : Nat} (he : 6 ≤ e) (he2 : e < 100) {Q : pmO → Prop} (hQ : Q (.inr 2, hp (PX X p e) M Z)) : Wp (d + 1) u 121 0 (pm_entry 121 [.ref 14]) [] (hp (PX X p e) M Z) Q := by
  repeat (first | refine Wp.putX rfl rfl rfl ?_ | refine Wp.putM rfl rfl rfl ?_ | refine Wp.step rfl ?_)
  try dsimp only
  refine Wp.brT rfl (nI_le he (by omega)) ?_
  repeat (first | refine Wp.putX rfl rfl rfl ?_ | refine Wp.putM rfl rfl rfl ?_ | refine Wp.step rfl ?_)
  try dsimp only
  refine Wp.callF rfl rfl (Nat.zero_le _) (X_need0 _ M Z (Or.inr ⟨_, _, rfl, hQ⟩))
theorem X_closes1 {d u : Nat} (X : pmXs) (M : pmMs) (Z : pmZs) {t : Nat → Int32} {n p e : Nat} (hT : XT X t n) (h : p ≤ n) {c : Int32} (hc : ch t n (lk t n p) = c) {Q : pmO → Prop} (hQ : Q (.inl none, hp (PX X (lk t n p + 1) e) M Z)) : Wp (d + 1) u 122 0 (pm_entry 122 [.ref 14, .int c]) [] (hp (PX X p (e + 1)) M Z) Q := by
  iterate 2 refine Wp.step rfl ?_
  refine Wp.call rfl (Nat.zero_le _) (X_look X M Z hT h ⟨_, _, rfl, ?_⟩)
  repeat (first | refine Wp.putX rfl rfl rfl ?_ | refine Wp.putM rfl rfl rfl ?_ | refine Wp.step rfl ?_)
  try dsimp only
  refine Wp.brF rfl (fun q => q hc) ?_
  repeat (first | refine Wp.putX rfl rfl rfl ?_ | refine Wp.putM rfl rfl rfl ?_ | refine Wp.step rfl ?_)
  try dsimp only
  refine Wp.call rfl (Nat.zero_le _) (X_need1 ⟨_, _, rfl, ?_⟩)
  rw [← PX_e X (lk t n p + 1) (e + 1) e, ← PX_p X (lk t n p) (e + 1) (lk t n p + 1), ← nI_add _ 1, show nI e = nI (e + 1) - nI 1 from (pk_sub (a := e + 1) (b := 1) (by omega)).symm] at hQ
  repeat (first | refine Wp.putX rfl rfl rfl ?_ | refine Wp.putM rfl rfl rfl ?_ | refine Wp.step rfl ?_)
  try dsimp only
  exact Wp.fin rfl trivial hQ
theorem X_closes0 {d u : Nat} (X : pmXs) (M : pmMs) (Z : pmZs) {t : Nat → Int32} {n p e : Nat} (hT : XT X t n) (h : p ≤ n) {c : Int32} (hc : ch t n (lk t n p) ≠ c) {Q : pmO → Prop} (hQ : Q (.inr 2, hp (PX X (lk t n p) e) M Z)) : Wp (d + 1) u 122 0 (pm_entry 122 [.ref 14, .int c]) [] (hp (PX X p e) M Z) Q := by
  iterate 2 refine Wp.step rfl ?_
  refine Wp.call rfl (Nat.zero_le _) (X_look X M Z hT h ⟨_, _, rfl, ?_⟩)
  repeat (first | refine Wp.putX rfl rfl rfl ?_ | refine Wp.putM rfl rfl rfl ?_ | refine Wp.step rfl ?_)
  try dsimp only
  refine Wp.brT rfl hc ?_
  repeat (first | refine Wp.putX rfl rfl rfl ?_ | refine Wp.putM rfl rfl rfl ?_ | refine Wp.step rfl ?_)
  try dsimp only
  refine Wp.callF rfl rfl (Nat.zero_le _) (X_need0 _ M Z (Or.inr ⟨_, _, rfl, hQ⟩))
theorem M_goesIn1 {d u : Nat} (X : pmXs) (M : pmMs) (Z : pmZs) {p e : Nat} {f : Int32} (he : e < 6) {Q : pmO → Prop} (hQ : Q (.inl (some (.int 1)), hp X (KM M (nI (p + 1)) (nI (e + 1)) f) Z)) : Wp d u 228 0 (pm_entry 228 [.ref 35]) [] (hp X (KM M (nI p) (nI e) f) Z) Q := by
  rw [← KM_p M (nI p) (nI (e + 1)) f (nI (p + 1)), ← KM_e M (nI p) (nI e) f (nI (e + 1)), ← nI_add p 1, ← nI_add e 1] at hQ
  repeat (first | refine Wp.putX rfl rfl rfl ?_ | refine Wp.putM rfl rfl rfl ?_ | refine Wp.step rfl ?_)
  try dsimp only
  refine Wp.brT rfl (fun q => absurd ((nI_eq (by omega) (by omega)).mp q) (by omega)) ?_
  repeat (first | refine Wp.putX rfl rfl rfl ?_ | refine Wp.putM rfl rfl rfl ?_ | refine Wp.step rfl ?_)
  try dsimp only
  exact Wp.fin rfl rfl hQ
theorem M_goesIn0 {d u : Nat} (X : pmXs) (M : pmMs) (Z : pmZs) {p : Int32} {Q : pmO → Prop} (hQ : Q (.inl (some (.int 0)), hp X (KM M p (nI 6) p) Z)) : Wp (d + 1) u 228 0 (pm_entry 228 [.ref 35]) [] (hp X (KM M p (nI 6) (-1)) Z) Q := by
  repeat (first | refine Wp.putX rfl rfl rfl ?_ | refine Wp.putM rfl rfl rfl ?_ | refine Wp.step rfl ?_)
  try dsimp only
  refine Wp.brF rfl (fun q => q rfl) ?_
  repeat (first | refine Wp.putX rfl rfl rfl ?_ | refine Wp.putM rfl rfl rfl ?_ | refine Wp.step rfl ?_)
  try dsimp only
  refine Wp.call rfl (Nat.zero_le _) (M_fails0 X M Z ⟨_, _, rfl, ?_⟩)
  exact Wp.fin rfl rfl hQ
/-- takes: on -/
theorem M_takes1 {d u : Nat} (X : pmXs) (M : pmMs) (Z : pmZs) {t : Nat → Int32} {n p : Nat} {e : Int32} (hT : MT M t n) (h : p ≤ n) {c : Int32} (hc : ch t n (lk t n p) = c) {Q : pmO → Prop} (hQ : Q (.inl (some (.int 1)), hp X (KM M (nI (lk t n p + 1)) e (-1)) Z)) : Wp (d + 1) u 213 0 (pm_entry 213 [.ref 35, .int c]) [] (hp X (KM M (nI p) e (-1)) Z) Q := by
  rw [← KM_p M (nI (lk t n p)) e (-1) (nI (lk t n p + 1)), ← nI_add _ 1] at hQ
  repeat (first | refine Wp.putX rfl rfl rfl ?_ | refine Wp.putM rfl rfl rfl ?_ | refine Wp.step rfl ?_)
  try dsimp only
  refine Wp.brF rfl (fun q => q rfl) ?_
  refine Wp.step rfl ?_
  refine Wp.call rfl (Nat.zero_le _) (M_look X M Z hT h ⟨_, _, rfl, ?_⟩)
  repeat (first | refine Wp.putX rfl rfl rfl ?_ | refine Wp.putM rfl rfl rfl ?_ | refine Wp.step rfl ?_)
  try dsimp only
  refine Wp.brT rfl hc ?_
  repeat (first | refine Wp.putX rfl rfl rfl ?_ | refine Wp.putM rfl rfl rfl ?_ | refine Wp.step rfl ?_)
  try dsimp only
  exact Wp.fin rfl rfl hQ
/-- takes: another mark is there -/
theorem M_takes0 {d u : Nat} (X : pmXs) (M : pmMs) (Z : pmZs) {t : Nat → Int32} {n p : Nat} {e : Int32} (hT : MT M t n) (h : p ≤ n) {c : Int32} (hc : ch t n (lk t n p) ≠ c) {Q : pmO → Prop} (hQ : Q (.inl (some (.int 0)), hp X (KM M (nI (lk t n p)) e (nI (lk t n p))) Z)) : Wp (d + 1) u 213 0 (pm_entry 213 [.ref 35, .int c]) [] (hp X (KM M (nI p) e (-1)) Z) Q := by
  repeat (first | refine Wp.putX rfl rfl rfl ?_ | refine Wp.putM rfl rfl rfl ?_ | refine Wp.step rfl ?_)
  try dsimp only
  refine Wp.brF rfl (fun q => q rfl) ?_
  refine Wp.step rfl ?_
  refine Wp.call rfl (Nat.zero_le _) (M_look X M Z hT h ⟨_, _, rfl, ?_⟩)
  repeat (first | refine Wp.putX rfl rfl rfl ?_ | refine Wp.putM rfl rfl rfl ?_ | refine Wp.step rfl ?_)
  try dsimp only
  refine Wp.brF rfl hc ?_
  repeat (first | refine Wp.putX rfl rfl rfl ?_ | refine Wp.putM rfl rfl rfl ?_ | refine Wp.step rfl ?_)
  try dsimp only
  refine Wp.call rfl (Nat.zero_le _) (M_fails0 X M Z ⟨_, _, rfl, ?_⟩)
  exact Wp.fin rfl rfl hQ
/-- takes: a fault is there already -/
theorem M_takesF {d u : Nat} (X : pmXs) (M : pmMs) (Z : pmZs) {p e f c : Int32} (hf : f ≠ -1) {Q : pmO → Prop} (hQ : Q (.inl (some (.int 0)), hp X (KM M p e f) Z)) : Wp (d + 1) u 213 0 (pm_entry 213 [.ref 35, .int c]) [] (hp X (KM M p e f) Z) Q := by
  repeat (first | refine Wp.putX rfl rfl rfl ?_ | refine Wp.putM rfl rfl rfl ?_ | refine Wp.step rfl ?_)
  try dsimp only
  refine Wp.brT rfl hf ?_
  repeat (first | refine Wp.putX rfl rfl rfl ?_ | refine Wp.putM rfl rfl rfl ?_ | refine Wp.step rfl ?_)
  try dsimp only
  refine Wp.call rfl (Nat.zero_le _) (M_fails1 X M Z hf ⟨_, _, rfl, ?_⟩)
  exact Wp.fin rfl rfl hQ
/-- a digit is here -/
def dg (t : Nat → Int32) (n p : Nat) : Prop := p < n ∧ nI 48 ≤ t p ∧ t p ≤ nI 57
theorem M_isDigit1 {d u : Nat} (X : pmXs) (M : pmMs) (Z : pmZs) {t : Nat → Int32} {n p : Nat} {e f : Int32} (hT : MT M t n) (h : dg t n p) {Q : pmO → Prop} (hQ : Q (.inl (some (.int 1)), hp X (KM M (nI p) e f) Z)) : Wp d u 218 0 (pm_entry 218 [.ref 35]) [] (hp X (KM M (nI p) e f) Z) Q := by
  obtain ⟨h1, h2, h3⟩ := h
  have g1 := MT_n hT
  have g2 := MT_le hT
  repeat (first | refine Wp.putX rfl rfl rfl ?_ | refine Wp.putM rfl rfl rfl ?_ | refine Wp.step rfl ?_)
  try dsimp only
  refine Wp.brF rfl (show ¬ M.1 9 ≤ nI p by rw [g1]; exact nI_ge h1 (by omega)) ?_
  repeat (first | refine Wp.putX rfl rfl rfl ?_ | refine Wp.putM rfl rfl rfl ?_ | refine Wp.step rfl ?_)
  try dsimp only
  refine Wp.bldT (p := p) rfl hT h1 ?_
  repeat (first | refine Wp.putX rfl rfl rfl ?_ | refine Wp.putM rfl rfl rfl ?_ | refine Wp.step rfl ?_)
  try dsimp only
  refine Wp.brF rfl (Int32.not_lt.mpr h2) ?_
  repeat (first | refine Wp.putX rfl rfl rfl ?_ | refine Wp.putM rfl rfl rfl ?_ | refine Wp.step rfl ?_)
  try dsimp only
  refine Wp.bldT (p := p) rfl hT h1 ?_
  repeat (first | refine Wp.putX rfl rfl rfl ?_ | refine Wp.putM rfl rfl rfl ?_ | refine Wp.step rfl ?_)
  try dsimp only
  refine Wp.brF rfl (Int32.not_lt.mpr h3) ?_
  repeat (first | refine Wp.putX rfl rfl rfl ?_ | refine Wp.putM rfl rfl rfl ?_ | refine Wp.step rfl ?_)
  try dsimp only
  exact Wp.fin rfl rfl hQ
theorem M_isDigit0 {d u : Nat} (X : pmXs) (M : pmMs) (Z : pmZs) {t : Nat → Int32} {n p : Nat} {e f : Int32} (hT : MT M t n) (hp' : p ≤ n) (h : ¬ dg t n p) {Q : pmO → Prop} (hQ : Q (.inl (some (.int 0)), hp X (KM M (nI p) e f) Z)) : Wp d u 218 0 (pm_entry 218 [.ref 35]) [] (hp X (KM M (nI p) e f) Z) Q := by
  have g1 := MT_n hT
  have g2 := MT_le hT
  repeat (first | refine Wp.putX rfl rfl rfl ?_ | refine Wp.putM rfl rfl rfl ?_ | refine Wp.step rfl ?_)
  try dsimp only
  by_cases h1 : p < n
  · refine Wp.brF rfl (show ¬ M.1 9 ≤ nI p by rw [g1]; exact nI_ge h1 (by omega)) ?_
    repeat (first | refine Wp.putX rfl rfl rfl ?_ | refine Wp.putM rfl rfl rfl ?_ | refine Wp.step rfl ?_)
    try dsimp only
    refine Wp.bldT (p := p) rfl hT h1 ?_
    repeat (first | refine Wp.putX rfl rfl rfl ?_ | refine Wp.putM rfl rfl rfl ?_ | refine Wp.step rfl ?_)
    try dsimp only
    refine Wp.br rfl (fun h2 => ?_) (fun h2 => ?_)
    · repeat (first | refine Wp.putX rfl rfl rfl ?_ | refine Wp.putM rfl rfl rfl ?_ | refine Wp.step rfl ?_)
      try dsimp only
      exact Wp.fin rfl rfl hQ
    · repeat (first | refine Wp.putX rfl rfl rfl ?_ | refine Wp.putM rfl rfl rfl ?_ | refine Wp.step rfl ?_)
      try dsimp only
      refine Wp.bldT (p := p) rfl hT h1 ?_
      repeat (first | refine Wp.putX rfl rfl rfl ?_ | refine Wp.putM rfl rfl rfl ?_ | refine Wp.step rfl ?_)
      try dsimp only
      refine Wp.brT rfl (Int32.not_le.mp (fun h3 => h ⟨h1, Int32.not_lt.mp h2, h3⟩)) ?_
      repeat (first | refine Wp.putX rfl rfl rfl ?_ | refine Wp.putM rfl rfl rfl ?_ | refine Wp.step rfl ?_)
      try dsimp only
      exact Wp.fin rfl rfl hQ
  · refine Wp.brT rfl (show M.1 9 ≤ nI p by rw [g1]; exact nI_le (by omega) (by omega)) ?_
    repeat (first | refine Wp.putX rfl rfl rfl ?_ | refine Wp.putM rfl rfl rfl ?_ | refine Wp.step rfl ?_)
    try dsimp only
    exact Wp.fin rfl rfl hQ
