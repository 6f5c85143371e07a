/-! TEXTS of the two systems: their marks -/
def SB (h : pmH) (s : Nat) (B : List Int32) : Prop := pm_nth h s = some (.inr (12, [.ref (s + 1), .int 0])) ∧ pm_nth h (s + 1) = some (.inl (5, B.length, .inl (fun j => B.getD j 0))) ∧ s + 1 < 14 ∧ B.length < 100
def SA (B : List Int32) : Prop := ∀ b ∈ B, ((b &&& nI 255).toUInt32 % 65536).toInt32 = b ∧ narrow .char (.int b) = .int b ∧ 0 ≤ b ∧ b < 128
/-- the first place of c, or -1 -/
def fnd (c : Int32) : Nat → List Int32 → Int32
  | _, [] => -1
  | i, b :: l => if b = c then nI i else fnd c (i + 1) l
theorem shr0 (x : Int32) : x >>> ((0 : Int32) &&& 31) = x := by
  have : (0 : Int32) &&& 31 = 0 := by decide
  rw [this]
  simp
section STR
variable {d u : Nat} {h : pmH} {s : Nat} {B : List Int32} {Q : pmO → Prop}
theorem S_coder (hS : SB h s B) (hQ : Q (.inl (some (.int 0)), h)) : Wp d u 240 0 (pm_entry 240 [.ref s]) [] h Q := by
  obtain ⟨h1, h2, h3, h4⟩ := hS
  repeat (first | refine Wp.putX rfl rfl rfl ?_ | refine Wp.putM rfl rfl rfl ?_ | refine Wp.step rfl ?_)
  try dsimp only
  refine Wp.brF rfl (by decide) ?_
  refine Wp.step rfl ?_
  refine Wp.gf rfl h1 rfl rfl ?_
  repeat (first | refine Wp.putX rfl rfl rfl ?_ | refine Wp.putM rfl rfl rfl ?_ | refine Wp.step rfl ?_)
  try dsimp only
  exact Wp.fin rfl rfl hQ
theorem S_isLatin1 (hS : SB h s B) (hQ : Q (.inl (some (.int 1)), h)) : Wp d u 241 0 (pm_entry 241 [.ref s]) [] h Q := by
  obtain ⟨h1, h2, h3, h4⟩ := hS
  repeat (first | refine Wp.putX rfl rfl rfl ?_ | refine Wp.putM rfl rfl rfl ?_ | refine Wp.step rfl ?_)
  try dsimp only
  refine Wp.brF rfl (by decide) ?_
  refine Wp.step rfl ?_
  refine Wp.gf rfl h1 rfl rfl ?_
  refine Wp.brF rfl (by decide) ?_
  repeat (first | refine Wp.putX rfl rfl rfl ?_ | refine Wp.putM rfl rfl rfl ?_ | refine Wp.step rfl ?_)
  try dsimp only
  exact Wp.fin rfl rfl hQ
theorem S_length (hS : SB h s B) (hQ : Q (.inl (some (.int (nI B.length))), h)) : Wp (d + 1) u 230 0 (pm_entry 230 [.ref s]) [] h Q := by
  have hS' := hS
  obtain ⟨h1, h2, h3, h4⟩ := hS
  refine Wp.step rfl ?_
  refine Wp.gf rfl h1 rfl rfl ?_
  refine Wp.len rfl h2 (by simp [Nat.blt]; omega) ?_
  refine Wp.step rfl ?_
  refine Wp.call (pm_call_v rfl rfl h1 rfl rfl) (Nat.zero_le _) (S_coder hS' ⟨_, _, rfl, ?_⟩)
  repeat (first | refine Wp.putX rfl rfl rfl ?_ | refine Wp.putM rfl rfl rfl ?_ | refine Wp.step rfl ?_)
  try dsimp only
  show Wp _ _ _ _ _ [Value.int (nI B.length >>> ((0 : Int32) &&& 31))] _ _
  rw [shr0]
  exact Wp.fin rfl rfl hQ
theorem S_check {i n : Nat} (hi : i < n) (hn : n < 2 ^ 31) (hQ : Q (.inl none, h)) : Wp (d + 1) u 249 0 (pm_entry 249 [.int (nI i), .int (nI n)]) [] h Q := by
  repeat (first | refine Wp.putX rfl rfl rfl ?_ | refine Wp.putM rfl rfl rfl ?_ | refine Wp.step rfl ?_)
  try dsimp only
  refine Wp.call (u1 := 0) rfl (Nat.zero_le _) ?_
  repeat (first | refine Wp.putX rfl rfl rfl ?_ | refine Wp.putM rfl rfl rfl ?_ | refine Wp.step rfl ?_)
  try dsimp only
  refine Wp.brF rfl (fun q => absurd q (Int32.not_lt.mpr (nI_le (Nat.zero_le i) (by omega)))) ?_
  repeat (first | refine Wp.putX rfl rfl rfl ?_ | refine Wp.putM rfl rfl rfl ?_ | refine Wp.step rfl ?_)
  try dsimp only
  refine Wp.brT rfl (nI_lt hi (by omega)) ?_
  repeat (first | refine Wp.putX rfl rfl rfl ?_ | refine Wp.putM rfl rfl rfl ?_ | refine Wp.step rfl ?_)
  try dsimp only
  refine Wp.fin rfl rfl ⟨_, _, rfl, ?_⟩
  repeat (first | refine Wp.putX rfl rfl rfl ?_ | refine Wp.putM rfl rfl rfl ?_ | refine Wp.step rfl ?_)
  try dsimp only
  exact Wp.fin rfl trivial hQ
theorem T_charAt (hS : SB h s B) (hA : SA B) {i : Nat} (hi : i < B.length) (hQ : Q (.inl (some (.int (B.getD i 0))), h)) : Wp (d + 2) u 242 0 (pm_entry 242 [.ref (s + 1), .int (nI i)]) [] h Q := by
  have hS' := hS
  obtain ⟨h1, h2, h3, h4⟩ := hS
  have hb : B.getD i 0 ∈ B := by
    rw [List.getD_eq_getElem?_getD, List.getElem?_eq_getElem hi]
    exact List.getElem_mem hi
  obtain ⟨a1, a2, a3, a4⟩ := hA _ hb
  iterate 2 refine Wp.step rfl ?_
  refine Wp.len rfl h2 (by simp [Nat.blt]; omega) ?_
  refine Wp.call rfl (Nat.zero_le _) (S_check hi (by omega) ⟨_, _, rfl, ?_⟩)
  iterate 2 refine Wp.step rfl ?_
  refine Wp.bldR rfl h2 h3 hi (by omega) ?_
  repeat (first | refine Wp.putX rfl rfl rfl ?_ | refine Wp.putM rfl rfl rfl ?_ | refine Wp.step rfl ?_)
  try dsimp only
  rw [a1]
  exact Wp.fin rfl a2 hQ
theorem S_charAt (hS : SB h s B) (hA : SA B) {i : Nat} (hi : i < B.length) (hQ : Q (.inl (some (.int (B.getD i 0))), h)) : Wp (d + 3) u 231 0 (pm_entry 231 [.ref s, .int (nI i)]) [] h Q := by
  have hS' := hS
  obtain ⟨h1, h2, h3, h4⟩ := hS
  have hb : B.getD i 0 ∈ B := by
    rw [List.getD_eq_getElem?_getD, List.getElem?_eq_getElem hi]
    exact List.getElem_mem hi
  obtain ⟨a1, a2, a3, a4⟩ := hA _ hb
  refine Wp.step rfl ?_
  refine Wp.call (pm_call_v rfl rfl h1 rfl rfl) (Nat.zero_le _) (S_isLatin1 hS' ⟨_, _, rfl, ?_⟩)
  refine Wp.brF rfl (by decide) ?_
  refine Wp.step rfl ?_
  refine Wp.gf rfl h1 rfl rfl ?_
  repeat (first | refine Wp.putX rfl rfl rfl ?_ | refine Wp.putM rfl rfl rfl ?_ | refine Wp.step rfl ?_)
  try dsimp only
  refine Wp.call rfl (Nat.zero_le _) (T_charAt hS' hA hi ⟨_, _, rfl, ?_⟩)
  exact Wp.fin rfl a2 hQ
end STR
section STR2
variable {d u : Nat} {h : pmH} {s : Nat} {B : List Int32} {Q : pmO → Prop}
theorem fnd_get {c : Int32} {B l : List Int32} {i : Nat} (hl : B.drop i = l) : (l = [] ∧ B.length ≤ i) ∨ (∃ b l', l = b :: l' ∧ i < B.length ∧ B.getD i 0 = b ∧ B.drop (i + 1) = l' ∧ b ∈ B) := by
  cases l with
  | nil => exact Or.inl ⟨rfl, by have := congrArg List.length hl; simp at this; omega⟩
  | cons b l' =>
    have hi : i < B.length := by
      have := congrArg List.length hl
      simp at this
      omega
    rw [List.drop_eq_getElem_cons hi] at hl
    obtain ⟨e1, e2⟩ := List.cons.inj hl
    exact Or.inr ⟨b, l', rfl, hi, by rw [List.getD_eq_getElem?_getD, List.getElem?_eq_getElem hi]; exact e1, e2, e1 ▸ List.getElem_mem hi⟩
/-- M's two seekers -/
theorem M_isAmong_l (hS : SB h s B) (hA : SA B) (c : Int32) : ∀ (l : List Int32) (i : Nat), i ≤ B.length → B.drop i = l → Q (.inl (some (.int (bI (fnd c i l ≠ -1)))), h) → Wp (d + 4) u 212 2 [some (.ref s), some (.int c), some (.int (nI i))] [] h Q := by
  have hS' := hS
  obtain ⟨h1, h2, h3, h4⟩ := hS
  intro l
  induction l with
  | nil =>
    intro i hle hl hQ
    rcases fnd_get (c := c) hl with ⟨_, hi⟩ | ⟨b, l', e, _⟩
    · iterate 2 refine Wp.step rfl ?_
      refine Wp.call (pm_call_v rfl rfl h1 rfl rfl) (Nat.zero_le _) (S_length hS' ⟨_, _, rfl, ?_⟩)
      refine Wp.brT rfl (nI_le hi (by omega)) ?_
      repeat (first | refine Wp.putX rfl rfl rfl ?_ | refine Wp.putM rfl rfl rfl ?_ | refine Wp.step rfl ?_)
      try dsimp only
      exact Wp.fin rfl rfl hQ
    · cases e
  | cons b l ih =>
    intro i hle hl hQ
    rcases fnd_get (c := c) hl with ⟨e, _⟩ | ⟨b', l', e, hi, hb, hd, hm⟩
    · cases e
    · obtain ⟨rfl, rfl⟩ := List.cons.inj e
      iterate 2 refine Wp.step rfl ?_
      refine Wp.call (pm_call_v rfl rfl h1 rfl rfl) (Nat.zero_le _) (S_length hS' ⟨_, _, rfl, ?_⟩)
      refine Wp.brF rfl (nI_ge hi (by omega)) ?_
      iterate 2 refine Wp.step rfl ?_
      refine Wp.call (pm_call_v rfl rfl h1 rfl rfl) (Nat.zero_le _) (S_charAt hS' hA hi ⟨_, _, rfl, ?_⟩)
      repeat (first | refine Wp.putX rfl rfl rfl ?_ | refine Wp.putM rfl rfl rfl ?_ | refine Wp.step rfl ?_)
      try dsimp only
      rw [hb]
      refine Wp.br rfl (fun hc => ?_) (fun hc => ?_)
      · have k9 := ih (i + 1) hi hd (by rw [show fnd c i (b :: l) = fnd c (i + 1) l from if_neg hc] at hQ; exact hQ)
        rw [← nI_add i 1] at k9
        repeat (first | exact k9 | refine Wp.putX rfl rfl rfl ?_ | refine Wp.putM rfl rfl rfl ?_ | refine Wp.step rfl ?_)
      · rw [show fnd c i (b :: l) = nI i from if_pos (Decidable.not_not.mp hc)] at hQ
        rw [show bI (nI i ≠ -1) = 1 from if_pos (nI_m1 (by omega))] at hQ
        repeat (first | refine Wp.putX rfl rfl rfl ?_ | refine Wp.putM rfl rfl rfl ?_ | refine Wp.step rfl ?_)
        try dsimp only
        exact Wp.fin rfl rfl hQ
theorem M_isAmong (hS : SB h s B) (hA : SA B) (c : Int32) (hQ : Q (.inl (some (.int (bI (fnd c 0 B ≠ -1)))), h)) : Wp (d + 4) u 212 0 (pm_entry 212 [.ref s, .int c]) [] h Q := by
  iterate 2 refine Wp.step rfl ?_
  exact M_isAmong_l hS hA c B 0 (Nat.zero_le _) rfl hQ
theorem M_spotOf_l (hS : SB h s B) (hA : SA B) (c : Int32) : ∀ (l : List Int32) (i : Nat), i ≤ B.length → B.drop i = l → Q (.inl (some (.int (fnd c i l))), h) → Wp (d + 4) u 217 2 [some (.ref s), some (.int c), some (.int (nI i))] [] h Q := by
  have hS' := hS
  obtain ⟨h1, h2, h3, h4⟩ := hS
  intro l
  induction l with
  | nil =>
    intro i hle hl hQ
    rcases fnd_get (c := c) hl with ⟨_, hi⟩ | ⟨b, l', e, _⟩
    · iterate 2 refine Wp.step rfl ?_
      refine Wp.call (pm_call_v rfl rfl h1 rfl rfl) (Nat.zero_le _) (S_length hS' ⟨_, _, rfl, ?_⟩)
      refine Wp.brT rfl (nI_le hi (by omega)) ?_
      repeat (first | refine Wp.putX rfl rfl rfl ?_ | refine Wp.putM rfl rfl rfl ?_ | refine Wp.step rfl ?_)
      try dsimp only
      exact Wp.fin rfl rfl hQ
    · cases e
  | cons b l ih =>
    intro i hle hl hQ
    rcases fnd_get (c := c) hl with ⟨e, _⟩ | ⟨b', l', e, hi, hb, hd, hm⟩
    · cases e
    · obtain ⟨rfl, rfl⟩ := List.cons.inj e
      iterate 2 refine Wp.step rfl ?_
      refine Wp.call (pm_call_v rfl rfl h1 rfl rfl) (Nat.zero_le _) (S_length hS' ⟨_, _, rfl, ?_⟩)
      refine Wp.brF rfl (nI_ge hi (by omega)) ?_
      iterate 2 refine Wp.step rfl ?_
      refine Wp.call (pm_call_v rfl rfl h1 rfl rfl) (Nat.zero_le _) (S_charAt hS' hA hi ⟨_, _, rfl, ?_⟩)
      repeat (first | refine Wp.putX rfl rfl rfl ?_ | refine Wp.putM rfl rfl rfl ?_ | refine Wp.step rfl ?_)
      try dsimp only
      rw [hb]
      refine Wp.br rfl (fun hc => ?_) (fun hc => ?_)
      · have k9 := ih (i + 1) hi hd (by rw [show fnd c i (b :: l) = fnd c (i + 1) l from if_neg hc] at hQ; exact hQ)
        rw [← nI_add i 1] at k9
        repeat (first | exact k9 | refine Wp.putX rfl rfl rfl ?_ | refine Wp.putM rfl rfl rfl ?_ | refine Wp.step rfl ?_)
      · rw [show fnd c i (b :: l) = nI i from if_pos (Decidable.not_not.mp hc)] at hQ
        repeat (first | refine Wp.putX rfl rfl rfl ?_ | refine Wp.putM rfl rfl rfl ?_ | refine Wp.step rfl ?_)
        try dsimp only
        exact Wp.fin rfl rfl hQ
theorem M_spotOf (hS : SB h s B) (hA : SA B) (c : Int32) (hQ : Q (.inl (some (.int (fnd c 0 B))), h)) : Wp (d + 4) u 217 0 (pm_entry 217 [.ref s, .int c]) [] h Q := by
  iterate 2 refine Wp.step rfl ?_
  exact M_spotOf_l hS hA c B 0 (Nat.zero_le _) rfl hQ
/-- X's seeker -/
theorem T_char_l (hS : SB h s B) (c c2 : Int32) (hc2 : ∀ b ∈ B, b = c2 ↔ b = c) (j0 : Int32) : ∀ (l : List Int32) (i : Nat), i ≤ B.length → B.drop i = l → Q (.inl (some (.int (fnd c i l))), h) → Wp d u 256 7 [some (.ref (s + 1)), some (.int c), some (.int j0), some (.int (nI B.length)), some (.int c2), some (.int (nI i))] [] h Q := by
  have hS' := hS
  obtain ⟨h1, h2, h3, h4⟩ := hS
  intro l
  induction l with
  | nil =>
    intro i hle hl hQ
    rcases fnd_get (c := c) hl with ⟨_, hi⟩ | ⟨b, l', e, _⟩
    · repeat (first | refine Wp.putX rfl rfl rfl ?_ | refine Wp.putM rfl rfl rfl ?_ | refine Wp.step rfl ?_)
      try dsimp only
      refine Wp.brT rfl (nI_le hi (by omega)) ?_
      repeat (first | refine Wp.putX rfl rfl rfl ?_ | refine Wp.putM rfl rfl rfl ?_ | refine Wp.step rfl ?_)
      try dsimp only
      exact Wp.fin rfl rfl hQ
    · cases e
  | cons b l ih =>
    intro i hle hl hQ
    rcases fnd_get (c := c) hl with ⟨e, _⟩ | ⟨b', l', e, hi, hb, hd, hm⟩
    · cases e
    · obtain ⟨rfl, rfl⟩ := List.cons.inj e
      repeat (first | refine Wp.putX rfl rfl rfl ?_ | refine Wp.putM rfl rfl rfl ?_ | refine Wp.step rfl ?_)
      try dsimp only
      refine Wp.brF rfl (nI_ge hi (by omega)) ?_
      iterate 2 refine Wp.step rfl ?_
      refine Wp.bldR rfl h2 h3 hi (by omega) ?_
      rw [hb]
      repeat (first | refine Wp.putX rfl rfl rfl ?_ | refine Wp.putM rfl rfl rfl ?_ | refine Wp.step rfl ?_)
      try dsimp only
      refine Wp.br rfl (fun hc => ?_) (fun hc => ?_)
      · have k9 := ih (i + 1) hi hd (by rw [show fnd c i (b :: l) = fnd c (i + 1) l from if_neg (fun q => hc ((hc2 b hm).mpr q))] at hQ; exact hQ)
        rw [← nI_add i 1] at k9
        repeat (first | exact k9 | refine Wp.putX rfl rfl rfl ?_ | refine Wp.putM rfl rfl rfl ?_ | refine Wp.step rfl ?_)
      · rw [show fnd c i (b :: l) = nI i from if_pos ((hc2 b hm).mp (Decidable.not_not.mp hc))] at hQ
        repeat (first | refine Wp.putX rfl rfl rfl ?_ | refine Wp.putM rfl rfl rfl ?_ | refine Wp.step rfl ?_)
        try dsimp only
        exact Wp.fin rfl rfl hQ
theorem T_indexOf (hS : SB h s B) (hB : 0 < B.length) {c : Int32} (h0 : nI 0 ≤ c) (h1 : c ≤ nI 255) (hc2 : ∀ b ∈ B, b = c.toInt8.toInt32 ↔ b = c) (hQ : Q (.inl (some (.int (fnd c 0 B))), h)) : Wp (d + 1) u 250 0 (pm_entry 250 [.ref (s + 1), .int c, .int (nI 0), .int (nI B.length)]) [] h Q := by
  have hS' := hS
  obtain ⟨g1, g2, g3, g4⟩ := hS
  refine Wp.step rfl ?_
  refine Wp.call (u1 := 0) rfl (Nat.zero_le _) ?_
  refine Wp.step rfl ?_
  refine Wp.brF rfl (Int32.not_lt.mpr h0) ?_
  repeat (first | refine Wp.putX rfl rfl rfl ?_ | refine Wp.putM rfl rfl rfl ?_ | refine Wp.step rfl ?_)
  try dsimp only
  refine Wp.brF rfl (Int32.not_lt.mpr h1) ?_
  repeat (first | refine Wp.putX rfl rfl rfl ?_ | refine Wp.putM rfl rfl rfl ?_ | refine Wp.step rfl ?_)
  try dsimp only
  refine Wp.fin rfl rfl ⟨_, _, rfl, ?_⟩
  refine Wp.brT rfl (by decide) ?_
  iterate 6 refine Wp.step rfl ?_
  refine Wp.len rfl g2 (by simp [Nat.blt]; omega) ?_
  iterate 4 refine Wp.step rfl ?_
  refine Wp.brT rfl ?_ ?_
  · rw [if_neg (by decide), if_neg (Int32.lt_irrefl)]
    exact nI_lt hB (by omega)
  rw [if_neg (by decide), if_neg (Int32.lt_irrefl)]
  repeat (first | refine Wp.putX rfl rfl rfl ?_ | refine Wp.putM rfl rfl rfl ?_ | refine Wp.step rfl ?_)
  try dsimp only
  refine Wp.call rfl (Nat.zero_le _) ?_
  iterate 5 refine Wp.step rfl ?_
  refine T_char_l hS' c _ hc2 _ B 0 (Nat.zero_le _) rfl ⟨_, _, rfl, ?_⟩
  exact Wp.fin rfl rfl hQ
theorem S_indexOf2 (hS : SB h s B) (hB : 0 < B.length) {c : Int32} (h0 : nI 0 ≤ c) (h1 : c ≤ nI 255) (hc2 : ∀ b ∈ B, b = c.toInt8.toInt32 ↔ b = c) (hQ : Q (.inl (some (.int (fnd c 0 B))), h)) : Wp (d + 2) u 244 0 (pm_entry 244 [.ref s, .int c, .int (nI 0)]) [] h Q := by
  have hS' := hS
  obtain ⟨g1, g2, g3, g4⟩ := hS
  refine Wp.step rfl ?_
  refine Wp.call (pm_call_v rfl rfl g1 rfl rfl) (Nat.zero_le _) (S_isLatin1 hS' ⟨_, _, rfl, ?_⟩)
  refine Wp.brF rfl (by decide) ?_
  refine Wp.step rfl ?_
  refine Wp.gf rfl g1 rfl rfl ?_
  iterate 3 refine Wp.step rfl ?_
  refine Wp.call (pm_call_v rfl rfl g1 rfl rfl) (Nat.zero_le _) (S_length hS' ⟨_, _, rfl, ?_⟩)
  refine Wp.call rfl (Nat.zero_le _) (T_indexOf hS' hB h0 h1 hc2 ⟨_, _, rfl, ?_⟩)
  repeat (first | refine Wp.putX rfl rfl rfl ?_ | refine Wp.putM rfl rfl rfl ?_ | refine Wp.step rfl ?_)
  try dsimp only
  exact Wp.fin rfl rfl hQ
theorem S_indexOf (hS : SB h s B) (hB : 0 < B.length) {c : Int32} (h0 : nI 0 ≤ c) (h1 : c ≤ nI 255) (hc2 : ∀ b ∈ B, b = c.toInt8.toInt32 ↔ b = c) (hQ : Q (.inl (some (.int (fnd c 0 B))), h)) : Wp (d + 3) u 238 0 (pm_entry 238 [.ref s, .int c]) [] h Q := by
  have hS' := hS
  obtain ⟨g1, g2, g3, g4⟩ := hS
  iterate 3 refine Wp.step rfl ?_
  refine Wp.call (pm_call_v rfl rfl g1 rfl rfl) (Nat.zero_le _) (S_indexOf2 hS' hB h0 h1 hc2 ⟨_, _, rfl, ?_⟩)
  exact Wp.fin rfl rfl hQ
end STR2
