/-! PARSER: where a look goes to, what it sees -/
def skp (t : Nat → Int32) (n : Nat) : Nat → Nat → Nat
  | 0, p => p
  | k + 1, p => if p < n ∧ t p = nI 32 then skp t n k (p + 1) else p
def lk (t : Nat → Int32) (n p : Nat) : Nat := skp t n (n - p) p
def ch (t : Nat → Int32) (n p : Nat) : Int32 := if p < n then t p &&& nI 255 else -1
theorem lk_on {t : Nat → Int32} {n p : Nat} (h : p < n) (hb : t p = nI 32) : lk t n p = lk t n (p + 1) := by
  unfold lk
  rw [show n - p = (n - (p + 1)) + 1 by omega]
  show (if p < n ∧ t p = nI 32 then _ else p) = _
  rw [if_pos ⟨h, hb⟩]
theorem lk_stop {t : Nat → Int32} {n p : Nat} (h : ¬ (p < n ∧ t p = nI 32)) : lk t n p = p := by
  unfold lk
  cases n - p with
  | zero => rfl
  | succ k => exact if_neg h
theorem lk_le {t : Nat → Int32} {n : Nat} : ∀ m p, p + m = n → p ≤ lk t n p ∧ lk t n p ≤ n ∧ ¬ (lk t n p < n ∧ t (lk t n p) = nI 32) := by
  intro m
  induction m with
  | zero => intro p hp
            rw [lk_stop (by omega)]
            exact ⟨by omega, by omega, by omega⟩
  | succ m ih =>
    intro p hp
    by_cases hb : t p = nI 32
    · rw [lk_on (by omega) hb]
      have := ih (p + 1) (by omega)
      exact ⟨by omega, this.2.1, this.2.2⟩
    · rw [lk_stop (fun q => hb q.2)]
      exact ⟨by omega, by omega, fun q => hb q.2⟩
theorem lk_ge (t : Nat → Int32) {n p : Nat} (h : p ≤ n) : p ≤ lk t n p := (lk_le (n - p) p (by omega)).1
theorem lk_n (t : Nat → Int32) {n p : Nat} (h : p ≤ n) : lk t n p ≤ n := (lk_le (n - p) p (by omega)).2.1
theorem lk_lk (t : Nat → Int32) {n p : Nat} (h : p ≤ n) : lk t n (lk t n p) = lk t n p := lk_stop (lk_le (n - p) p (by omega)).2.2
/-- X in the midst of a text: its place and how deep -/
def PX (X : pmXs) (p e : Nat) : pmXs := (upd (upd X.1 3 (nI p)) 4 (nI e), X.2)
theorem PX_p (X : pmXs) (p e q : Nat) : xI (PX X p e) 3 (nI q) = PX X q e := by
  show (upd (upd (upd X.1 3 (nI p)) 4 (nI e)) 3 (nI q), X.2) = (upd (upd X.1 3 (nI q)) 4 (nI e), X.2)
  congr 1
  funext j
  by_cases h3 : j = 3
  · subst h3; rw [pk_us, pk_un (by decide), pk_us]
  · rw [pk_un h3]
    by_cases h4 : j = 4
    · subst h4; rw [pk_us, pk_us]
    · rw [pk_un h4, pk_un h4, pk_un h3, pk_un h3]
theorem PX_e (X : pmXs) (p e q : Nat) : xI (PX X p e) 4 (nI q) = PX X p q := by
  show (upd (upd (upd X.1 3 (nI p)) 4 (nI e)) 4 (nI q), X.2) = (upd (upd X.1 3 (nI p)) 4 (nI q), X.2)
  rw [upd_upd]
theorem PX_3 (X : pmXs) (p e : Nat) : (PX X p e).1 3 = nI p := rfl
theorem PX_4 (X : pmXs) (p e : Nat) : (PX X p e).1 4 = nI e := rfl
theorem PX_2 (X : pmXs) (p e : Nat) : (PX X p e).1 2 = X.1 2 := rfl
theorem PX_a (X : pmXs) (p e a : Nat) : xa (PX X p e) a = xa X a := rfl
/-- the text that X reads: t, n long -/
def XT (X : pmXs) (t : Nat → Int32) (n : Nat) : Prop := X.1 2 = nI n ∧ n ≤ 240 ∧ ∀ j, j < n → xa X 16 j = t j
theorem X_look_l {d u : Nat} (X : pmXs) (M : pmMs) (Z : pmZs) {t : Nat → Int32} {n e : Nat} (hT : XT X t n) {Q : pmO → Prop} : ∀ m p, p + m = n → Q (.inl (some (.int (ch t n (lk t n p)))), hp (PX X (lk t n p) e) M Z) → Wp d u 102 0 (pm_entry 102 [.ref 14]) [] (hp (PX X p e) M Z) Q := by
  obtain ⟨h1, h2, h3⟩ := hT
  intro m
  induction m with
  | zero =>
    intro p hp hQ
    rw [lk_stop (by omega)] at hQ
    repeat (first | refine Wp.putX rfl rfl rfl ?_ | refine Wp.putM rfl rfl rfl ?_ | refine Wp.step rfl ?_)
    try dsimp only
    refine Wp.brT rfl (by rw [PX_2, PX_3, h1]; exact nI_le (by omega) (by omega)) ?_
    repeat (first | refine Wp.putX rfl rfl rfl ?_ | refine Wp.putM rfl rfl rfl ?_ | refine Wp.step rfl ?_)
    try dsimp only
    refine Wp.brT rfl (by rw [PX_2, PX_3, h1]; exact nI_le (by omega) (by omega)) ?_
    repeat (first | refine Wp.putX rfl rfl rfl ?_ | refine Wp.putM rfl rfl rfl ?_ | refine Wp.step rfl ?_)
    try dsimp only
    rw [show ch t n p = -1 from if_neg (by omega)] at hQ
    exact Wp.fin rfl rfl hQ
  | succ m ih =>
    intro p hp hQ
    have hpn : ¬ nI n ≤ nI p := nI_ge (by omega) (by omega)
    repeat (first | refine Wp.putX rfl rfl rfl ?_ | refine Wp.putM rfl rfl rfl ?_ | refine Wp.step rfl ?_)
    try dsimp only
    refine Wp.brF rfl (by rw [PX_2, PX_3, h1]; exact hpn) ?_
    repeat (first | refine Wp.putX rfl rfl rfl ?_ | refine Wp.putM rfl rfl rfl ?_ | refine Wp.step rfl ?_)
    try dsimp only
    refine Wp.bldX (k := p) rfl rfl rfl (by omega) (by decide) ?_
    rw [PX_a, h3 p (by omega)]
    repeat (first | refine Wp.putX rfl rfl rfl ?_ | refine Wp.putM rfl rfl rfl ?_ | refine Wp.step rfl ?_)
    try dsimp only
    refine Wp.br rfl (fun hb => ?_) (fun hb => ?_)
    · rw [lk_stop (fun q => hb q.2)] at hQ
      repeat (first | refine Wp.putX rfl rfl rfl ?_ | refine Wp.putM rfl rfl rfl ?_ | refine Wp.step rfl ?_)
      try dsimp only
      refine Wp.brF rfl (by rw [PX_2, PX_3, h1]; exact hpn) ?_
      repeat (first | refine Wp.putX rfl rfl rfl ?_ | refine Wp.putM rfl rfl rfl ?_ | refine Wp.step rfl ?_)
      try dsimp only
      refine Wp.bldX (k := p) rfl rfl rfl (by omega) (by decide) ?_
      rw [PX_a, h3 p (by omega)]
      repeat (first | refine Wp.putX rfl rfl rfl ?_ | refine Wp.putM rfl rfl rfl ?_ | refine Wp.step rfl ?_)
      try dsimp only
      rw [show ch t n p = t p &&& nI 255 from if_pos (by omega)] at hQ
      exact Wp.fin rfl rfl hQ
    · have hb := Decidable.not_not.mp hb
      rw [lk_on (by omega) hb] at hQ
      have k9 := ih (p + 1) (by omega) hQ
      rw [← PX_p X p e (p + 1), ← nI_add p 1] at k9
      repeat (first | exact k9 | refine Wp.putX rfl rfl rfl ?_ | refine Wp.putM rfl rfl rfl ?_ | refine Wp.step rfl ?_)
theorem X_look {d u : Nat} (X : pmXs) (M : pmMs) (Z : pmZs) {t : Nat → Int32} {n p e : Nat} (hT : XT X t n) (h : p ≤ n) {Q : pmO → Prop} (hQ : Q (.inl (some (.int (ch t n (lk t n p)))), hp (PX X (lk t n p) e) M Z)) : Wp d u 102 0 (pm_entry 102 [.ref 14]) [] (hp (PX X p e) M Z) Q := X_look_l X M Z hT (n - p) p (by omega) hQ
/-- need: a fault, or on -/
theorem X_need1 {d u : Nat} {h : pmH} {Q : pmO → Prop} (hQ : Q (.inl none, h)) : Wp d u 103 0 (pm_entry 103 [.ref 14, .int 1]) [] h Q := by
  repeat (first | refine Wp.putX rfl rfl rfl ?_ | refine Wp.putM rfl rfl rfl ?_ | refine Wp.step rfl ?_)
  try dsimp only
  refine Wp.brT rfl (by decide) ?_
  exact Wp.fin rfl trivial hQ
theorem X_need0 {d u : Nat} (X : pmXs) (M : pmMs) (Z : pmZs) {Q : pmO → Prop} (hQ : Q (.inr 2, hp X M Z)) : Wp d u 103 0 (pm_entry 103 [.ref 14, .int 0]) [] (hp X M Z) Q := by
  repeat (first | refine Wp.putX rfl rfl rfl ?_ | refine Wp.putM rfl rfl rfl ?_ | refine Wp.step rfl ?_)
  try dsimp only
  refine Wp.brF rfl (by decide) ?_
  repeat (first | refine Wp.putX rfl rfl rfl ?_ | refine Wp.putM rfl rfl rfl ?_ | refine Wp.step rfl ?_)
  try dsimp only
  exact Wp.thr (ci := 2) rfl hQ
theorem X_need {d u : Nat} (X : pmXs) (M : pmMs) (Z : pmZs) (c : Prop) [Decidable c] {Q : pmO → Prop} (h1 : c → Q (.inl none, hp X M Z)) (h0 : ¬ c → Q (.inr 2, hp X M Z)) : Wp d u 103 0 (pm_entry 103 [.ref 14, .int (bI c)]) [] (hp X M Z) Q := by
  unfold bI
  split
  · exact X_need1 (h1 ‹_›)
  · exact X_need0 X M Z (h0 ‹_›)
