/-! ITEMS from their start: the usual numbers first; printed by tools/rstart.py -/
def U6 : Nat → Int32 := fun j => nI (([1, 20] : List Nat).getD j 0)
theorem X_items_s115 {d u B : Nat} {X : pmXs} {M : pmMs} {Z : pmZs} {Q : pmO → Prop} (hB : B + 2 ≤ 2) (kk : ∀ f', (∀ j, j < 2 → f' (B + j) = U6 j) → (∀ j, (j < B ∨ B + 2 ≤ j) → f' j = xa X 18 j) → Wp (d + 1) u 105 31 [some (.ref 14), some (.int (nI 115)), some (.ref 18), some (.int (nI B)), some (.int (nI 2)), some (.int (nI 0)), none] [] (hp (xA X 18 f') M Z) Q) : Wp (d + 1) u 105 0 (pm_entry 105 [.ref 14, .int (nI 115), .ref 18, .int (nI B), .int (nI 2)]) [] (hp X M Z) Q := by
  have f1 : ∀ j, j < 2 → (upd (upd (xa X 18) (B + 0) (nI 1)) (B + 1) (nI 20)) (B + j) = U6 j := by
    intro j hj
    have hj2 : j = 0 ∨ j = 1 := by omega
    rcases hj2 with rfl | rfl <;> simp only [upd, Nat.add_left_cancel_iff] <;> rfl
  have f2 : ∀ j, (j < B ∨ B + 2 ≤ j) → (upd (upd (xa X 18) (B + 0) (nI 1)) (B + 1) (nI 20)) j = xa X 18 j := by
    intro j hj
    rw [pk_un (by omega), pk_un (by omega)]
  have k9 := kk _ f1 f2
  iterate 2 refine Wp.step rfl ?_
  iterate 2 refine Wp.step rfl ?_
  refine Wp.brF rfl (by decide) ?_
  iterate 6 refine Wp.step rfl ?_
  refine Wp.call rfl (Nat.zero_le _) (X_usual_115_0 ⟨_, _, rfl, ?_⟩)
  refine Wp.istX (k := B + 0) rfl rfl rfl (show nI B + nI 0 = nI (B + 0) from nI_add B 0) (by omega) (by decide) ?_
  iterate 2 refine Wp.step rfl ?_
  iterate 2 refine Wp.step rfl ?_
  refine Wp.brF rfl (by decide) ?_
  iterate 6 refine Wp.step rfl ?_
  refine Wp.call rfl (Nat.zero_le _) (X_usual_115_1 ⟨_, _, rfl, ?_⟩)
  refine Wp.istX (k := B + 1) rfl rfl rfl (show nI B + nI 1 = nI (B + 1) from nI_add B 1) (by omega) (by decide) ?_
  rw [xA_xA, xA_same]
  iterate 2 refine Wp.step rfl ?_
  iterate 2 refine Wp.step rfl ?_
  refine Wp.brT rfl (by decide) ?_
  iterate 2 refine Wp.step rfl ?_
  exact k9
theorem M_items_s115 {d u B : Nat} {X : pmXs} {M : pmMs} {Z : pmZs} {Q : pmO → Prop} (hB : B + 2 ≤ 2) (kk : ∀ f', (∀ j, j < 2 → f' (B + j) = U6 j) → (∀ j, (j < B ∨ B + 2 ≤ j) → f' j = ma M 41 j) → Wp (d + 4) u 211 34 [some (.ref 35), some (.int (nI 115)), some (.ref 41), some (.int (nI B)), some (.ref 6), some (.int (nI 0)), none] [] (hp X (mA M 41 f') Z) Q) : Wp (d + 4) u 211 0 (pm_entry 211 [.ref 35, .int (nI 115), .ref 41, .int (nI B), .ref 6]) [] (hp X M Z) Q := by
  have f1 : ∀ j, j < 2 → (upd (upd (ma M 41) (B + 0) (nI 1)) (B + 1) (nI 20)) (B + j) = U6 j := by
    intro j hj
    have hj2 : j = 0 ∨ j = 1 := by omega
    rcases hj2 with rfl | rfl <;> simp only [upd, Nat.add_left_cancel_iff] <;> rfl
  have f2 : ∀ j, (j < B ∨ B + 2 ≤ j) → (upd (upd (ma M 41) (B + 0) (nI 1)) (B + 1) (nI 20)) j = ma M 41 j := by
    intro j hj
    rw [pk_un (by omega), pk_un (by omega)]
  have k9 := kk _ f1 f2
  iterate 2 refine Wp.step rfl ?_
  iterate 2 refine Wp.step rfl ?_
  refine Wp.call (pm_call_v rfl rfl (SB6 _ _ _).1 rfl rfl) (Nat.zero_le _) (S_length (SB6 _ _ _) ⟨_, _, rfl, ?_⟩)
  refine Wp.brF rfl (by decide) ?_
  iterate 6 refine Wp.step rfl ?_
  refine Wp.call rfl (Nat.zero_le _) (M_usual_115_0 ⟨_, _, rfl, ?_⟩)
  refine Wp.istM (k := B + 0) rfl rfl rfl (show nI B + nI 0 = nI (B + 0) from nI_add B 0) (by omega) (by decide) ?_
  iterate 2 refine Wp.step rfl ?_
  iterate 2 refine Wp.step rfl ?_
  refine Wp.call (pm_call_v rfl rfl (SB6 _ _ _).1 rfl rfl) (Nat.zero_le _) (S_length (SB6 _ _ _) ⟨_, _, rfl, ?_⟩)
  refine Wp.brF rfl (by decide) ?_
  iterate 6 refine Wp.step rfl ?_
  refine Wp.call rfl (Nat.zero_le _) (M_usual_115_1 ⟨_, _, rfl, ?_⟩)
  refine Wp.istM (k := B + 1) rfl rfl rfl (show nI B + nI 1 = nI (B + 1) from nI_add B 1) (by omega) (by decide) ?_
  rw [mA_mA, mA_same]
  iterate 2 refine Wp.step rfl ?_
  iterate 2 refine Wp.step rfl ?_
  refine Wp.call (pm_call_v rfl rfl (SB6 _ _ _).1 rfl rfl) (Nat.zero_le _) (S_length (SB6 _ _ _) ⟨_, _, rfl, ?_⟩)
  refine Wp.brT rfl (by decide) ?_
  iterate 2 refine Wp.step rfl ?_
  exact k9
theorem U6_ok : ∀ j, j < 2 → ∃ v, v ≤ H6.getD j 0 ∧ U6 j = nI v := by
  intro j hj
  have hj2 : j = 0 ∨ j = 1 := by omega
  rcases hj2 with rfl | rfl
  · exact ⟨1, by decide, rfl⟩
  · exact ⟨20, by decide, rfl⟩
def U8 : Nat → Int32 := fun j => nI (([8, 2, 3] : List Nat).getD j 0)
theorem X_items_s107 {d u B : Nat} {X : pmXs} {M : pmMs} {Z : pmZs} {Q : pmO → Prop} (hB : B + 3 ≤ 12) (kk : ∀ f', (∀ j, j < 3 → f' (B + j) = U8 j) → (∀ j, (j < B ∨ B + 3 ≤ j) → f' j = xa X 19 j) → Wp (d + 1) u 105 31 [some (.ref 14), some (.int (nI 107)), some (.ref 19), some (.int (nI B)), some (.int (nI 3)), some (.int (nI 0)), none] [] (hp (xA X 19 f') M Z) Q) : Wp (d + 1) u 105 0 (pm_entry 105 [.ref 14, .int (nI 107), .ref 19, .int (nI B), .int (nI 3)]) [] (hp X M Z) Q := by
  have f1 : ∀ j, j < 3 → (upd (upd (upd (xa X 19) (B + 0) (nI 8)) (B + 1) (nI 2)) (B + 2) (nI 3)) (B + j) = U8 j := by
    intro j hj
    have hj2 : j = 0 ∨ j = 1 ∨ j = 2 := by omega
    rcases hj2 with rfl | rfl | rfl <;> simp only [upd, Nat.add_left_cancel_iff] <;> rfl
  have f2 : ∀ j, (j < B ∨ B + 3 ≤ j) → (upd (upd (upd (xa X 19) (B + 0) (nI 8)) (B + 1) (nI 2)) (B + 2) (nI 3)) j = xa X 19 j := by
    intro j hj
    rw [pk_un (by omega), pk_un (by omega), pk_un (by omega)]
  have k9 := kk _ f1 f2
  iterate 2 refine Wp.step rfl ?_
  iterate 2 refine Wp.step rfl ?_
  refine Wp.brF rfl (by decide) ?_
  iterate 6 refine Wp.step rfl ?_
  refine Wp.call rfl (Nat.zero_le _) (X_usual_107_0 ⟨_, _, rfl, ?_⟩)
  refine Wp.istX (k := B + 0) rfl rfl rfl (show nI B + nI 0 = nI (B + 0) from nI_add B 0) (by omega) (by decide) ?_
  iterate 2 refine Wp.step rfl ?_
  iterate 2 refine Wp.step rfl ?_
  refine Wp.brF rfl (by decide) ?_
  iterate 6 refine Wp.step rfl ?_
  refine Wp.call rfl (Nat.zero_le _) (X_usual_107_1 ⟨_, _, rfl, ?_⟩)
  refine Wp.istX (k := B + 1) rfl rfl rfl (show nI B + nI 1 = nI (B + 1) from nI_add B 1) (by omega) (by decide) ?_
  rw [xA_xA, xA_same]
  iterate 2 refine Wp.step rfl ?_
  iterate 2 refine Wp.step rfl ?_
  refine Wp.brF rfl (by decide) ?_
  iterate 6 refine Wp.step rfl ?_
  refine Wp.call rfl (Nat.zero_le _) (X_usual_107_2 ⟨_, _, rfl, ?_⟩)
  refine Wp.istX (k := B + 2) rfl rfl rfl (show nI B + nI 2 = nI (B + 2) from nI_add B 2) (by omega) (by decide) ?_
  rw [xA_xA, xA_same]
  iterate 2 refine Wp.step rfl ?_
  iterate 2 refine Wp.step rfl ?_
  refine Wp.brT rfl (by decide) ?_
  iterate 2 refine Wp.step rfl ?_
  exact k9
theorem M_items_s107 {d u B : Nat} {X : pmXs} {M : pmMs} {Z : pmZs} {Q : pmO → Prop} (hB : B + 3 ≤ 12) (kk : ∀ f', (∀ j, j < 3 → f' (B + j) = U8 j) → (∀ j, (j < B ∨ B + 3 ≤ j) → f' j = ma M 43 j) → Wp (d + 4) u 211 34 [some (.ref 35), some (.int (nI 107)), some (.ref 43), some (.int (nI B)), some (.ref 8), some (.int (nI 0)), none] [] (hp X (mA M 43 f') Z) Q) : Wp (d + 4) u 211 0 (pm_entry 211 [.ref 35, .int (nI 107), .ref 43, .int (nI B), .ref 8]) [] (hp X M Z) Q := by
  have f1 : ∀ j, j < 3 → (upd (upd (upd (ma M 43) (B + 0) (nI 8)) (B + 1) (nI 2)) (B + 2) (nI 3)) (B + j) = U8 j := by
    intro j hj
    have hj2 : j = 0 ∨ j = 1 ∨ j = 2 := by omega
    rcases hj2 with rfl | rfl | rfl <;> simp only [upd, Nat.add_left_cancel_iff] <;> rfl
  have f2 : ∀ j, (j < B ∨ B + 3 ≤ j) → (upd (upd (upd (ma M 43) (B + 0) (nI 8)) (B + 1) (nI 2)) (B + 2) (nI 3)) j = ma M 43 j := by
    intro j hj
    rw [pk_un (by omega), pk_un (by omega), pk_un (by omega)]
  have k9 := kk _ f1 f2
  iterate 2 refine Wp.step rfl ?_
  iterate 2 refine Wp.step rfl ?_
  refine Wp.call (pm_call_v rfl rfl (SB8 _ _ _).1 rfl rfl) (Nat.zero_le _) (S_length (SB8 _ _ _) ⟨_, _, rfl, ?_⟩)
  refine Wp.brF rfl (by decide) ?_
  iterate 6 refine Wp.step rfl ?_
  refine Wp.call rfl (Nat.zero_le _) (M_usual_107_0 ⟨_, _, rfl, ?_⟩)
  refine Wp.istM (k := B + 0) rfl rfl rfl (show nI B + nI 0 = nI (B + 0) from nI_add B 0) (by omega) (by decide) ?_
  iterate 2 refine Wp.step rfl ?_
  iterate 2 refine Wp.step rfl ?_
  refine Wp.call (pm_call_v rfl rfl (SB8 _ _ _).1 rfl rfl) (Nat.zero_le _) (S_length (SB8 _ _ _) ⟨_, _, rfl, ?_⟩)
  refine Wp.brF rfl (by decide) ?_
  iterate 6 refine Wp.step rfl ?_
  refine Wp.call rfl (Nat.zero_le _) (M_usual_107_1 ⟨_, _, rfl, ?_⟩)
  refine Wp.istM (k := B + 1) rfl rfl rfl (show nI B + nI 1 = nI (B + 1) from nI_add B 1) (by omega) (by decide) ?_
  rw [mA_mA, mA_same]
  iterate 2 refine Wp.step rfl ?_
  iterate 2 refine Wp.step rfl ?_
  refine Wp.call (pm_call_v rfl rfl (SB8 _ _ _).1 rfl rfl) (Nat.zero_le _) (S_length (SB8 _ _ _) ⟨_, _, rfl, ?_⟩)
  refine Wp.brF rfl (by decide) ?_
  iterate 6 refine Wp.step rfl ?_
  refine Wp.call rfl (Nat.zero_le _) (M_usual_107_2 ⟨_, _, rfl, ?_⟩)
  refine Wp.istM (k := B + 2) rfl rfl rfl (show nI B + nI 2 = nI (B + 2) from nI_add B 2) (by omega) (by decide) ?_
  rw [mA_mA, mA_same]
  iterate 2 refine Wp.step rfl ?_
  iterate 2 refine Wp.step rfl ?_
  refine Wp.call (pm_call_v rfl rfl (SB8 _ _ _).1 rfl rfl) (Nat.zero_le _) (S_length (SB8 _ _ _) ⟨_, _, rfl, ?_⟩)
  refine Wp.brT rfl (by decide) ?_
  iterate 2 refine Wp.step rfl ?_
  exact k9
theorem U8_ok : ∀ j, j < 3 → ∃ v, v ≤ H8.getD j 0 ∧ U8 j = nI v := by
  intro j hj
  have hj2 : j = 0 ∨ j = 1 ∨ j = 2 := by omega
  rcases hj2 with rfl | rfl | rfl
  · exact ⟨8, by decide, rfl⟩
  · exact ⟨2, by decide, rfl⟩
  · exact ⟨3, by decide, rfl⟩
def U10 : Nat → Int32 := fun j => nI (([0, 1, 0, 7] : List Nat).getD j 0)
theorem X_items_s102 {d u B : Nat} {X : pmXs} {M : pmMs} {Z : pmZs} {Q : pmO → Prop} (hB : B + 4 ≤ 32) (kk : ∀ f', (∀ j, j < 4 → f' (B + j) = U10 j) → (∀ j, (j < B ∨ B + 4 ≤ j) → f' j = xa X 20 j) → Wp (d + 1) u 105 31 [some (.ref 14), some (.int (nI 102)), some (.ref 20), some (.int (nI B)), some (.int (nI 4)), some (.int (nI 0)), none] [] (hp (xA X 20 f') M Z) Q) : Wp (d + 1) u 105 0 (pm_entry 105 [.ref 14, .int (nI 102), .ref 20, .int (nI B), .int (nI 4)]) [] (hp X M Z) Q := by
  have f1 : ∀ j, j < 4 → (upd (upd (upd (upd (xa X 20) (B + 0) (nI 0)) (B + 1) (nI 1)) (B + 2) (nI 0)) (B + 3) (nI 7)) (B + j) = U10 j := by
    intro j hj
    have hj2 : j = 0 ∨ j = 1 ∨ j = 2 ∨ j = 3 := by omega
    rcases hj2 with rfl | rfl | rfl | rfl <;> simp only [upd, Nat.add_left_cancel_iff] <;> rfl
  have f2 : ∀ j, (j < B ∨ B + 4 ≤ j) → (upd (upd (upd (upd (xa X 20) (B + 0) (nI 0)) (B + 1) (nI 1)) (B + 2) (nI 0)) (B + 3) (nI 7)) j = xa X 20 j := by
    intro j hj
    rw [pk_un (by omega), pk_un (by omega), pk_un (by omega), pk_un (by omega)]
  have k9 := kk _ f1 f2
  iterate 2 refine Wp.step rfl ?_
  iterate 2 refine Wp.step rfl ?_
  refine Wp.brF rfl (by decide) ?_
  iterate 6 refine Wp.step rfl ?_
  refine Wp.call rfl (Nat.zero_le _) (X_usual_102_0 ⟨_, _, rfl, ?_⟩)
  refine Wp.istX (k := B + 0) rfl rfl rfl (show nI B + nI 0 = nI (B + 0) from nI_add B 0) (by omega) (by decide) ?_
  iterate 2 refine Wp.step rfl ?_
  iterate 2 refine Wp.step rfl ?_
  refine Wp.brF rfl (by decide) ?_
  iterate 6 refine Wp.step rfl ?_
  refine Wp.call rfl (Nat.zero_le _) (X_usual_102_1 ⟨_, _, rfl, ?_⟩)
  refine Wp.istX (k := B + 1) rfl rfl rfl (show nI B + nI 1 = nI (B + 1) from nI_add B 1) (by omega) (by decide) ?_
  rw [xA_xA, xA_same]
  iterate 2 refine Wp.step rfl ?_
  iterate 2 refine Wp.step rfl ?_
  refine Wp.brF rfl (by decide) ?_
  iterate 6 refine Wp.step rfl ?_
  refine Wp.call rfl (Nat.zero_le _) (X_usual_102_2 ⟨_, _, rfl, ?_⟩)
  refine Wp.istX (k := B + 2) rfl rfl rfl (show nI B + nI 2 = nI (B + 2) from nI_add B 2) (by omega) (by decide) ?_
  rw [xA_xA, xA_same]
  iterate 2 refine Wp.step rfl ?_
  iterate 2 refine Wp.step rfl ?_
  refine Wp.brF rfl (by decide) ?_
  iterate 6 refine Wp.step rfl ?_
  refine Wp.call rfl (Nat.zero_le _) (X_usual_102_3 ⟨_, _, rfl, ?_⟩)
  refine Wp.istX (k := B + 3) rfl rfl rfl (show nI B + nI 3 = nI (B + 3) from nI_add B 3) (by omega) (by decide) ?_
  rw [xA_xA, xA_same]
  iterate 2 refine Wp.step rfl ?_
  iterate 2 refine Wp.step rfl ?_
  refine Wp.brT rfl (by decide) ?_
  iterate 2 refine Wp.step rfl ?_
  exact k9
theorem M_items_s102 {d u B : Nat} {X : pmXs} {M : pmMs} {Z : pmZs} {Q : pmO → Prop} (hB : B + 4 ≤ 32) (kk : ∀ f', (∀ j, j < 4 → f' (B + j) = U10 j) → (∀ j, (j < B ∨ B + 4 ≤ j) → f' j = ma M 45 j) → Wp (d + 4) u 211 34 [some (.ref 35), some (.int (nI 102)), some (.ref 45), some (.int (nI B)), some (.ref 10), some (.int (nI 0)), none] [] (hp X (mA M 45 f') Z) Q) : Wp (d + 4) u 211 0 (pm_entry 211 [.ref 35, .int (nI 102), .ref 45, .int (nI B), .ref 10]) [] (hp X M Z) Q := by
  have f1 : ∀ j, j < 4 → (upd (upd (upd (upd (ma M 45) (B + 0) (nI 0)) (B + 1) (nI 1)) (B + 2) (nI 0)) (B + 3) (nI 7)) (B + j) = U10 j := by
    intro j hj
    have hj2 : j = 0 ∨ j = 1 ∨ j = 2 ∨ j = 3 := by omega
    rcases hj2 with rfl | rfl | rfl | rfl <;> simp only [upd, Nat.add_left_cancel_iff] <;> rfl
  have f2 : ∀ j, (j < B ∨ B + 4 ≤ j) → (upd (upd (upd (upd (ma M 45) (B + 0) (nI 0)) (B + 1) (nI 1)) (B + 2) (nI 0)) (B + 3) (nI 7)) j = ma M 45 j := by
    intro j hj
    rw [pk_un (by omega), pk_un (by omega), pk_un (by omega), pk_un (by omega)]
  have k9 := kk _ f1 f2
  iterate 2 refine Wp.step rfl ?_
  iterate 2 refine Wp.step rfl ?_
  refine Wp.call (pm_call_v rfl rfl (SB10 _ _ _).1 rfl rfl) (Nat.zero_le _) (S_length (SB10 _ _ _) ⟨_, _, rfl, ?_⟩)
  refine Wp.brF rfl (by decide) ?_
  iterate 6 refine Wp.step rfl ?_
  refine Wp.call rfl (Nat.zero_le _) (M_usual_102_0 ⟨_, _, rfl, ?_⟩)
  refine Wp.istM (k := B + 0) rfl rfl rfl (show nI B + nI 0 = nI (B + 0) from nI_add B 0) (by omega) (by decide) ?_
  iterate 2 refine Wp.step rfl ?_
  iterate 2 refine Wp.step rfl ?_
  refine Wp.call (pm_call_v rfl rfl (SB10 _ _ _).1 rfl rfl) (Nat.zero_le _) (S_length (SB10 _ _ _) ⟨_, _, rfl, ?_⟩)
  refine Wp.brF rfl (by decide) ?_
  iterate 6 refine Wp.step rfl ?_
  refine Wp.call rfl (Nat.zero_le _) (M_usual_102_1 ⟨_, _, rfl, ?_⟩)
  refine Wp.istM (k := B + 1) rfl rfl rfl (show nI B + nI 1 = nI (B + 1) from nI_add B 1) (by omega) (by decide) ?_
  rw [mA_mA, mA_same]
  iterate 2 refine Wp.step rfl ?_
  iterate 2 refine Wp.step rfl ?_
  refine Wp.call (pm_call_v rfl rfl (SB10 _ _ _).1 rfl rfl) (Nat.zero_le _) (S_length (SB10 _ _ _) ⟨_, _, rfl, ?_⟩)
  refine Wp.brF rfl (by decide) ?_
  iterate 6 refine Wp.step rfl ?_
  refine Wp.call rfl (Nat.zero_le _) (M_usual_102_2 ⟨_, _, rfl, ?_⟩)
  refine Wp.istM (k := B + 2) rfl rfl rfl (show nI B + nI 2 = nI (B + 2) from nI_add B 2) (by omega) (by decide) ?_
  rw [mA_mA, mA_same]
  iterate 2 refine Wp.step rfl ?_
  iterate 2 refine Wp.step rfl ?_
  refine Wp.call (pm_call_v rfl rfl (SB10 _ _ _).1 rfl rfl) (Nat.zero_le _) (S_length (SB10 _ _ _) ⟨_, _, rfl, ?_⟩)
  refine Wp.brF rfl (by decide) ?_
  iterate 6 refine Wp.step rfl ?_
  refine Wp.call rfl (Nat.zero_le _) (M_usual_102_3 ⟨_, _, rfl, ?_⟩)
  refine Wp.istM (k := B + 3) rfl rfl rfl (show nI B + nI 3 = nI (B + 3) from nI_add B 3) (by omega) (by decide) ?_
  rw [mA_mA, mA_same]
  iterate 2 refine Wp.step rfl ?_
  iterate 2 refine Wp.step rfl ?_
  refine Wp.call (pm_call_v rfl rfl (SB10 _ _ _).1 rfl rfl) (Nat.zero_le _) (S_length (SB10 _ _ _) ⟨_, _, rfl, ?_⟩)
  refine Wp.brT rfl (by decide) ?_
  iterate 2 refine Wp.step rfl ?_
  exact k9
theorem U10_ok : ∀ j, j < 4 → ∃ v, v ≤ H10.getD j 0 ∧ U10 j = nI v := by
  intro j hj
  have hj2 : j = 0 ∨ j = 1 ∨ j = 2 ∨ j = 3 := by omega
  rcases hj2 with rfl | rfl | rfl | rfl
  · exact ⟨0, by decide, rfl⟩
  · exact ⟨1, by decide, rfl⟩
  · exact ⟨0, by decide, rfl⟩
  · exact ⟨7, by decide, rfl⟩
/-! WHETHER a realm is whole -/
def WG (K : Nat) (f : Nat → Int32) (i : Nat) : Prop := f (4 * i) < nI K ∧ f (4 * i + 1) < nI K ∧ f (4 * i) ≠ f (4 * i + 1)
def WH (K F : Nat) (f : Nat → Int32) : Prop := 1 < K ∧ 0 < F ∧ ∀ i, i < F → WG K f i
theorem X_whole_l {d u : Nat} (X : pmXs) (M : pmMs) (Z : pmZs) {K F : Nat} {f : Nat → Int32} (hK : X.1 11 = nI K) (hF : X.1 12 = nI F) (hF8 : F ≤ 8) (hf : ∀ j, j < 4 * F → xa X 20 j = f j) {Q : pmO → Prop} : ∀ (m i : Nat) (b : Bool) (l3 l4 : Option Value), i + m = F → (l3 = none ∨ ∃ v, l3 = some (.int v)) → (b = true → (∀ j, i ≤ j → j < F → WG K f j) → Q (.inl (some (.int 1)), hp X M Z)) → (¬ (b = true ∧ ∀ j, i ≤ j → j < F → WG K f j) → Q (.inl (some (.int 0)), hp X M Z)) → Wp d u 106 23 [some (.ref 14), some (.int (bB b)), some (.int (nI i)), l3, l4] [] (hp X M Z) Q := by
  intro m
  induction m with
  | zero =>
    intro i b l3 l4 hi hl h1 h0
    obtain rfl : i = F := by omega
    iterate 3 refine Wp.step rfl ?_
    refine Wp.brT rfl (by rw [hF]; exact nI_le (Nat.le_refl _) (by omega)) ?_
    refine Wp.step rfl ?_
    cases b
    · exact Wp.finZ rfl (Or.inl rfl) (h0 (fun q => by cases q.1))
    · exact Wp.finZ rfl (Or.inr rfl) (h1 rfl (fun j a c => by omega))
  | succ m ih =>
    intro i b l3 l4 hi hl h1 h0
    have hiF : i < F := by omega
    iterate 3 refine Wp.step rfl ?_
    refine Wp.brF rfl (by rw [hF]; exact nI_ge hiF (by omega)) ?_
    have key : Wp d u 106 54 [some (.ref 14), some (.int (bB b)), some (.int (nI i)), some (.int (f (4 * i))), some (.int (f (4 * i + 1)))] [] (hp X M Z) Q := by
      have next : ∀ b' : Bool, (b' = true ↔ (b = true ∧ WG K f i)) → Wp d u 106 86 [some (.ref 14), some (.int (bB b)), some (.int (nI i)), some (.int (f (4 * i))), some (.int (f (4 * i + 1)))] [.int (bB b')] (hp X M Z) Q := by
        intro b' hb'
        have k9 := ih (i + 1) b' (some (.int (f (4 * i)))) (some (.int (f (4 * i + 1)))) (by omega) (Or.inr ⟨_, rfl⟩) (fun q1 q2 => h1 (hb'.mp q1).1 (fun j a c => by
          by_cases hj : j = i
          · subst hj; exact (hb'.mp q1).2
          · exact q2 j (by omega) c)) (fun q => h0 (fun z => q ⟨hb'.mpr ⟨z.1, z.2 i (Nat.le_refl _) hiF⟩, fun j a c => z.2 j (by omega) c⟩))
        rw [← nI_add i 1] at k9
        iterate 3 refine Wp.step rfl ?_
        exact k9
      refine Wp.step rfl ?_
      cases b
      · refine Wp.brT rfl rfl ?_
        refine Wp.step rfl ?_
        exact next false (by constructor <;> intro q <;> cases q <;> contradiction)
      refine Wp.brF rfl (by decide) ?_
      iterate 3 refine Wp.step rfl ?_
      by_cases g1 : f (4 * i) < nI K
      case neg =>
        refine Wp.brT rfl (by rw [hK]; exact Int32.not_lt.mp g1) ?_
        refine Wp.step rfl ?_
        exact next false ⟨fun q => (by cases q), fun q => absurd q.2.1 g1⟩
      refine Wp.brF rfl (by rw [hK]; exact Int32.not_le.mpr g1) ?_
      iterate 3 refine Wp.step rfl ?_
      by_cases g2 : f (4 * i + 1) < nI K
      case neg =>
        refine Wp.brT rfl (by rw [hK]; exact Int32.not_lt.mp g2) ?_
        refine Wp.step rfl ?_
        exact next false ⟨fun q => (by cases q), fun q => absurd q.2.2.1 g2⟩
      refine Wp.brF rfl (by rw [hK]; exact Int32.not_le.mpr g2) ?_
      iterate 2 refine Wp.step rfl ?_
      by_cases g3 : f (4 * i) = f (4 * i + 1)
      · refine Wp.brT rfl g3 ?_
        refine Wp.step rfl ?_
        exact next false ⟨fun q => (by cases q), fun q => absurd g3 q.2.2.2⟩
      refine Wp.brF rfl g3 ?_
      iterate 2 refine Wp.step rfl ?_
      exact next true ⟨fun _ => ⟨rfl, g1, g2, g3⟩, fun _ => rfl⟩
    rcases hl with rfl | ⟨v, rfl⟩
    · iterate 7 refine Wp.step rfl ?_
      refine Wp.ldX (k := 4 * i) rfl rfl (by first | (simp only [nI_add, pk_mul]; done) | (simp only [nI_add, pk_mul]; exact rfl) | exact rfl) (by omega) (by decide) ?_
      rw [hf _ (by omega)]
      iterate 8 refine Wp.step rfl ?_
      refine Wp.ldX (k := 4 * i + 1) rfl rfl (by first | (simp only [nI_add, pk_mul]; done) | (simp only [nI_add, pk_mul]; exact rfl) | exact rfl) (by omega) (by decide) ?_
      rw [hf _ (by omega)]
      refine Wp.step rfl ?_
      exact key
    · iterate 7 refine Wp.step rfl ?_
      refine Wp.ldX (k := 4 * i) rfl rfl (by first | (simp only [nI_add, pk_mul]; done) | (simp only [nI_add, pk_mul]; exact rfl) | exact rfl) (by omega) (by decide) ?_
      rw [hf _ (by omega)]
      iterate 8 refine Wp.step rfl ?_
      refine Wp.ldX (k := 4 * i + 1) rfl rfl (by first | (simp only [nI_add, pk_mul]; done) | (simp only [nI_add, pk_mul]; exact rfl) | exact rfl) (by omega) (by decide) ?_
      rw [hf _ (by omega)]
      refine Wp.step rfl ?_
      exact key
theorem X_isWhole {d u : Nat} (X : pmXs) (M : pmMs) (Z : pmZs) {K F : Nat} {f : Nat → Int32} (hK : X.1 11 = nI K) (hK4 : K ≤ 4) (hF : X.1 12 = nI F) (hF8 : F ≤ 8) (hf : ∀ j, j < 4 * F → xa X 20 j = f j) {Q : pmO → Prop} (h1 : WH K F f → Q (.inl (some (.int 1)), hp X M Z)) (h0 : ¬ WH K F f → Q (.inl (some (.int 0)), hp X M Z)) : Wp d u 106 0 (pm_entry 106 [.ref 14]) [] (hp X M Z) Q := by
  iterate 3 refine Wp.step rfl ?_
  have k9 : ∀ b : Bool, (b = true ↔ 1 < K ∧ 0 < F) → Wp d u 106 20 [some (.ref 14), none, none, none, none] [.int (bB b)] (hp X M Z) Q := by
    intro b hb
    iterate 3 refine Wp.step rfl ?_
    refine X_whole_l X M Z hK hF hF8 hf F 0 b none none (by omega) (Or.inl rfl) (fun q1 q2 => h1 ⟨(hb.mp q1).1, (hb.mp q1).2, fun i hi => q2 i (Nat.zero_le _) hi⟩) (fun q => h0 (fun z => q ⟨hb.mpr ⟨z.1, z.2.1⟩, fun j _ c => z.2.2 j c⟩))
  by_cases g1 : 1 < K
  case neg =>
    refine Wp.brT rfl (by rw [hK]; exact nI_le (by omega) (by omega)) ?_
    refine Wp.step rfl ?_
    exact k9 false ⟨fun q => (by cases q), fun q => absurd q.1 g1⟩
  refine Wp.brF rfl (by rw [hK]; exact nI_ge g1 (by omega)) ?_
  iterate 2 refine Wp.step rfl ?_
  by_cases g2 : 0 < F
  case neg =>
    obtain rfl : F = 0 := by omega
    refine Wp.brT rfl (by rw [hF]; decide) ?_
    refine Wp.step rfl ?_
    exact k9 false ⟨fun q => (by cases q), fun q => absurd q.2 g2⟩
  refine Wp.brF rfl (by rw [hF]; exact nI_nle g2 (by omega)) ?_
  iterate 2 refine Wp.step rfl ?_
  exact k9 true ⟨fun _ => ⟨g1, g2⟩, fun _ => rfl⟩
theorem M_whole_l {d u : Nat} (X : pmXs) (M : pmMs) (Z : pmZs) {K F : Nat} {f : Nat → Int32} (hK : M.1 28 = nI K) (hK4 : K ≤ 4) (hF : M.1 29 = nI F) (hF8 : F ≤ 8) (hf : ∀ j, j < 4 * F → ma M 45 j = f j) {Q : pmO → Prop} : ∀ (m i : Nat) (l2 l3 : Option Value), i + m = F → (l2 = none ∨ ∃ v, l2 = some (.int v)) → (1 < K → 0 < F → (∀ j, i ≤ j → j < F → WG K f j) → Q (.inl (some (.int 1)), hp X M Z)) → (¬ (1 < K ∧ 0 < F ∧ ∀ j, i ≤ j → j < F → WG K f j) → Q (.inl (some (.int 0)), hp X M Z)) → Wp d u 203 2 [some (.ref 35), some (.int (nI i)), l2, l3] [] (hp X M Z) Q := by
  intro m
  induction m with
  | zero =>
    intro i l2 l3 hi hl h1 h0
    obtain rfl : i = F := by omega
    iterate 3 refine Wp.step rfl ?_
    refine Wp.brT rfl (by rw [hF]; exact nI_le (Nat.le_refl _) (by omega)) ?_
    iterate 3 refine Wp.step rfl ?_
    by_cases g1 : 1 < K
    case neg =>
      refine Wp.brT rfl (by rw [hK]; exact nI_le (by omega) (by omega)) ?_
      refine Wp.step rfl ?_
      exact Wp.finZ rfl (Or.inl rfl) (h0 (fun q => g1 q.1))
    refine Wp.brF rfl (by rw [hK]; exact nI_ge g1 (by omega)) ?_
    iterate 2 refine Wp.step rfl ?_
    by_cases g2 : 0 < i
    case neg =>
      obtain rfl : i = 0 := by omega
      refine Wp.brT rfl (by rw [hF]; decide) ?_
      refine Wp.step rfl ?_
      exact Wp.finZ rfl (Or.inl rfl) (h0 (fun q => g2 q.2.1))
    refine Wp.brF rfl (by rw [hF]; exact nI_nle g2 (by omega)) ?_
    iterate 2 refine Wp.step rfl ?_
    exact Wp.finZ rfl (Or.inr rfl) (h1 g1 g2 (fun j a c => by omega))
  | succ m ih =>
    intro i l2 l3 hi hl h1 h0
    have hiF : i < F := by omega
    iterate 3 refine Wp.step rfl ?_
    refine Wp.brF rfl (by rw [hF]; exact nI_ge hiF (by omega)) ?_
    have key : Wp d u 203 30 [some (.ref 35), some (.int (nI i)), some (.int (f (4 * i))), some (.int (f (4 * i + 1)))] [] (hp X M Z) Q := by
      have bad : ¬ WG K f i → Wp d u 203 51 [some (.ref 35), some (.int (nI i)), some (.int (f (4 * i))), some (.int (f (4 * i + 1)))] [] (hp X M Z) Q := by
        intro hg
        refine Wp.step rfl ?_
        exact Wp.finZ rfl (Or.inl rfl) (h0 (fun q => hg (q.2.2 i (Nat.le_refl _) hiF)))
      iterate 3 refine Wp.step rfl ?_
      by_cases g1 : f (4 * i) < nI K
      case neg =>
        exact Wp.brT rfl (by rw [hK]; exact Int32.not_lt.mp g1) (bad (fun q => g1 q.1))
      refine Wp.brF rfl (by rw [hK]; exact Int32.not_le.mpr g1) ?_
      iterate 3 refine Wp.step rfl ?_
      by_cases g2 : f (4 * i + 1) < nI K
      case neg =>
        exact Wp.brT rfl (by rw [hK]; exact Int32.not_lt.mp g2) (bad (fun q => g2 q.2.1))
      refine Wp.brF rfl (by rw [hK]; exact Int32.not_le.mpr g2) ?_
      iterate 2 refine Wp.step rfl ?_
      by_cases g3 : f (4 * i) = f (4 * i + 1)
      · exact Wp.brF rfl (fun q => q g3) (bad (fun q => q.2.2 g3))
      refine Wp.brT rfl g3 ?_
      have k9 := ih (i + 1) (some (.int (f (4 * i)))) (some (.int (f (4 * i + 1)))) (by omega) (Or.inr ⟨_, rfl⟩) (fun a b q2 => h1 a b (fun j x c => by
          by_cases hj : j = i
          · subst hj; exact ⟨g1, g2, g3⟩
          · exact q2 j (by omega) c)) (fun q => h0 (fun z => q ⟨z.1, z.2.1, fun j a c => z.2.2 j (by omega) c⟩))
      rw [← nI_add i 1] at k9
      iterate 2 refine Wp.step rfl ?_
      exact k9
    rcases hl with rfl | ⟨v, rfl⟩
    · iterate 5 refine Wp.step rfl ?_
      refine Wp.ldM (k := 4 * i) rfl rfl (by first | (simp only [nI_add, pk_mul]; done) | (simp only [nI_add, pk_mul]; exact rfl) | exact rfl) (by omega) (by decide) ?_
      rw [hf _ (by omega)]
      iterate 8 refine Wp.step rfl ?_
      refine Wp.ldM (k := 4 * i + 1) rfl rfl (by first | (simp only [nI_add, pk_mul]; done) | (simp only [nI_add, pk_mul]; exact rfl) | exact rfl) (by omega) (by decide) ?_
      rw [hf _ (by omega)]
      refine Wp.step rfl ?_
      exact key
    · iterate 5 refine Wp.step rfl ?_
      refine Wp.ldM (k := 4 * i) rfl rfl (by first | (simp only [nI_add, pk_mul]; done) | (simp only [nI_add, pk_mul]; exact rfl) | exact rfl) (by omega) (by decide) ?_
      rw [hf _ (by omega)]
      iterate 8 refine Wp.step rfl ?_
      refine Wp.ldM (k := 4 * i + 1) rfl rfl (by first | (simp only [nI_add, pk_mul]; done) | (simp only [nI_add, pk_mul]; exact rfl) | exact rfl) (by omega) (by decide) ?_
      rw [hf _ (by omega)]
      refine Wp.step rfl ?_
      exact key
theorem M_isWhole {d u : Nat} (X : pmXs) (M : pmMs) (Z : pmZs) {K F : Nat} {f : Nat → Int32} (hK : M.1 28 = nI K) (hK4 : K ≤ 4) (hF : M.1 29 = nI F) (hF8 : F ≤ 8) (hf : ∀ j, j < 4 * F → ma M 45 j = f j) {Q : pmO → Prop} (h1 : WH K F f → Q (.inl (some (.int 1)), hp X M Z)) (h0 : ¬ WH K F f → Q (.inl (some (.int 0)), hp X M Z)) : Wp d u 203 0 (pm_entry 203 [.ref 35]) [] (hp X M Z) Q := by
  iterate 2 refine Wp.step rfl ?_
  exact M_whole_l X M Z hK hK4 hF hF8 hf F 0 none none (by omega) (Or.inl rfl) (fun a b c => h1 ⟨a, b, fun i hi => c i (Nat.zero_le _) hi⟩) (fun q => h0 (fun z => q ⟨z.1, z.2.1, fun j _ c => z.2.2 j c⟩))
