/-! ITEMS of a realm, in both: printed by tools/items.py -/
theorem fnd_cases (c : Int32) (l : List Int32) : fnd c 0 l = -1 ∧ c ∉ l ∨ ∃ j, j < l.length ∧ fnd c 0 l = nI j ∧ c ∈ l := by
  by_cases h : c ∈ l
  · obtain ⟨j, _, h2, h3⟩ := fnd_in l 0 h
    exact Or.inr ⟨j, by omega, h3, h⟩
  · exact Or.inl ⟨fnd_not l 0 h, h⟩
theorem MT_mA {M : pmMs} {t : Nat → Int32} {n k : Nat} {f : Nat → Int32} (h : MT M t n) (h1 : k ≠ 36) (h2 : k ≠ 37) : MT (mA M k f) t n := by
  obtain ⟨b, g1, g2, g3, g4, g5⟩ := h
  refine ⟨b, g1, g2, g3, g4, fun j hj => ?_⟩
  rw [← g5 j hj]
  show ma (mA M k f) M.2.2.1 (b + j) = _
  rcases g1 with ⟨g, _⟩ | ⟨g, _⟩
  · rw [g, mA_ne _ _ (fun q => h1 q.symm)]
  · rw [g, mA_ne _ _ (fun q => h2 q.symm)]
def L6 : List Int32 := [119, 99]
def H6 : List Nat := [9, 99]
theorem SB6 (X : pmXs) (M : pmMs) (Z : pmZs) : SB (hp X M Z) 6 L6 := ⟨rfl, rfl, by decide, by decide⟩
theorem SA6 : SA L6 := by
  intro b hb
  simp only [L6, List.mem_cons, List.not_mem_nil, or_false] at hb
  rcases hb with rfl | rfl <;> exact ⟨by decide, by rfl, by decide, by decide⟩
theorem low_L6 : ∀ m, m < 256 → ∀ b ∈ L6, (b = (nI m).toInt8.toInt32 ↔ b = nI m) := by decide +kernel
theorem X_item_115 {d u m : Nat} {X : pmXs} {M : pmMs} {Z : pmZs} {Q : pmO → Prop} (hm : m < 256) (hQ : Q (.inl (some (.int (fnd (nI m) 0 L6))), hp X M Z)) : Wp (d + 5) u 112 0 (pm_entry 112 [.int (nI 115), .int (nI m)]) [] (hp X M Z) Q := by
  repeat (first | refine Wp.step rfl ?_ | refine Wp.brT rfl (by decide) ?_ | refine Wp.brF rfl (by decide) ?_)
  refine Wp.call (pm_call_v rfl rfl (SB6 _ _ _).1 rfl rfl) (Nat.zero_le _) (S_indexOf (SB6 _ _ _) (by decide) (nI_le (Nat.zero_le _) (by omega)) (nI_le (by omega) (by omega)) (low_L6 m hm) ⟨_, _, rfl, ?_⟩)
  exact Wp.fin rfl rfl hQ
theorem items_115_pk {t : Nat → Int32} {n : Nat} (hB : ∀ j, j < n → isB (t j)) : ∀ (N p : Nat) (G : Int32) (r : Nat → Int32), n - p ≤ N → p ≤ n → (∀ j, j < 2 → ∃ v, v ≤ H6.getD j 0 ∧ r j = nI v) →
    (∃ (q : Nat) (r' : Nat → Int32), lk t n p ≤ q ∧ q ≤ n ∧ lk t n q = q ∧ (∀ j, j < 2 → ∃ v, v ≤ H6.getD j 0 ∧ r' j = nI v) ∧
      (∀ (d u : Nat) (X : pmXs) (M : pmMs) (Z : pmZs) (Q : pmO → Prop) (e B : Nat) (l6 : Option Value), 8 ≤ d → XT X t n → B + 2 ≤ 2 → (∀ j, j < 2 → xa X 18 (B + j) = r j) → (∀ f', (∀ j, j < 2 → f' (B + j) = r' j) → (∀ j, (j < B ∨ B + 2 ≤ j) → f' j = xa X 18 j) → Q (.inl none, hp (PX (xA X 18 f') q e) M Z)) → Wp d u 105 31 [some (.ref 14), some (.int (nI 115)), some (.ref 18), some (.int (nI B)), some (.int (nI 2)), some (.int G), l6] [] (hp (PX X p e) M Z) Q) ∧
      ((∀ (d u : Nat) (X : pmXs) (M : pmMs) (Z : pmZs) (Q : pmO → Prop) (e : Int32) (B : Nat), 8 ≤ d → MT M t n → B + 2 ≤ 2 → (∀ j, j < 2 → ma M 41 (B + j) = r j) → (∀ f', (∀ j, j < 2 → f' (B + j) = r' j) → (∀ j, (j < B ∨ B + 2 ≤ j) → f' j = ma M 41 j) → Q (.inl none, hp X (KM (mA M 41 f') (nI q) e (-1)) Z)) → Wp d u 211 45 [some (.ref 35), some (.int (nI 115)), some (.ref 41), some (.int (nI B)), some (.ref 6), some (.int G), some (.int (fnd (ch t n (lk t n p)) 0 L6))] [] (hp X (KM M (nI (lk t n p)) e (-1)) Z) Q) ∨
       (ch t n q ∈ L6 ∧ ∀ (d u : Nat) (X : pmXs) (M : pmMs) (Z : pmZs) (Q : pmO → Prop) (e : Int32) (B : Nat), 8 ≤ d → MT M t n → B + 2 ≤ 2 → (∀ f', (∀ j, (j < B ∨ B + 2 ≤ j) → f' j = ma M 41 j) → ∀ a, Q (.inl none, hp X (KM (mA M 41 f') a e (nI q)) Z)) → Wp d u 211 45 [some (.ref 35), some (.int (nI 115)), some (.ref 41), some (.int (nI B)), some (.ref 6), some (.int G), some (.int (fnd (ch t n (lk t n p)) 0 L6))] [] (hp X (KM M (nI (lk t n p)) e (-1)) Z) Q))) ∨
    (∃ q, lk t n p ≤ q ∧ q ≤ n ∧
      (∀ (d u : Nat) (X : pmXs) (M : pmMs) (Z : pmZs) (Q : pmO → Prop) (e B : Nat) (l6 : Option Value), 8 ≤ d → XT X t n → B + 2 ≤ 2 → (∀ f', (∀ j, (j < B ∨ B + 2 ≤ j) → f' j = xa X 18 j) → Q (.inr 2, hp (PX (xA X 18 f') q e) M Z)) → Wp d u 105 31 [some (.ref 14), some (.int (nI 115)), some (.ref 18), some (.int (nI B)), some (.int (nI 2)), some (.int G), l6] [] (hp (PX X p e) M Z) Q) ∧
      (∀ (d u : Nat) (X : pmXs) (M : pmMs) (Z : pmZs) (Q : pmO → Prop) (e : Int32) (B : Nat), 8 ≤ d → MT M t n → B + 2 ≤ 2 → (∀ f', (∀ j, (j < B ∨ B + 2 ≤ j) → f' j = ma M 41 j) → ∀ a, Q (.inl none, hp X (KM (mA M 41 f') a e (nI q)) Z)) → Wp d u 211 45 [some (.ref 35), some (.int (nI 115)), some (.ref 41), some (.int (nI B)), some (.ref 6), some (.int G), some (.int (fnd (ch t n (lk t n p)) 0 L6))] [] (hp X (KM M (nI (lk t n p)) e (-1)) Z) Q)) := by
  intro N
  induction N with
  | zero =>
    intro p G r hN hp' hr
    obtain rfl : p = n := by omega
    have e1 : lk t p p = p := lk_stop (by omega)
    have e2 : ch t p p = -1 := if_neg (by omega)
    have e3 : fnd (-1) 0 L6 = -1 := by decide
    refine Or.inl ⟨p, r, by omega, by omega, e1, hr, ?_, Or.inl ?_⟩
    · intro d u X M Z Q e B l6 hd hT hBd hX hQ
      obtain ⟨d, rfl⟩ : ∃ d0, d = d0 + 8 := ⟨d - 8, by omega⟩
      refine Wp.step rfl ?_
      refine Wp.call rfl (Nat.zero_le _) (X_look X M Z hT hp' ⟨_, _, rfl, ?_⟩)
      rw [e1, e2]
      refine Wp.step rfl ?_
      refine Wp.brT rfl rfl ?_
      have := hQ (xa X 18) hX (fun _ _ => rfl)
      rw [xA_self] at this
      exact Wp.fin rfl trivial this
    · intro d u X M Z Q e B hd hT hBd hM hQ
      obtain ⟨d, rfl⟩ : ∃ d0, d = d0 + 8 := ⟨d - 8, by omega⟩
      rw [e1, e2, e3]
      iterate 2 refine Wp.step rfl ?_
      refine Wp.brT rfl rfl ?_
      have := hQ (ma M 41) hM (fun _ _ => rfl)
      rw [mA_self] at this
      exact Wp.fin rfl trivial this
  | succ N ih =>
    intro p G r hN hp' hr
    have hge := lk_ge t hp'
    have hln := lk_n t hp'
    rcases fnd_cases (ch t n (lk t n p)) L6 with ⟨hf, hni⟩ | ⟨j, hj, hf, hin⟩
    · refine Or.inl ⟨lk t n p, r, Nat.le_refl _, hln, lk_lk t hp', hr, ?_, Or.inl ?_⟩
      · intro d u X M Z Q e B l6 hd hT hBd hX hQ
        obtain ⟨d, rfl⟩ : ∃ d0, d = d0 + 8 := ⟨d - 8, by omega⟩
        have h9 := hQ (xa X 18) hX (fun _ _ => rfl)
        rw [xA_self] at h9
        refine Wp.step rfl ?_
        refine Wp.call rfl (Nat.zero_le _) (X_look X M Z hT hp' ⟨_, _, rfl, ?_⟩)
        refine Wp.step rfl ?_
        rcases ch_rng t n (lk t n p) with ⟨g1, _⟩ | ⟨g0, m, g1, g2⟩
        · refine Wp.brT rfl g1 ?_
          exact Wp.fin rfl trivial h9
        · refine Wp.brF rfl (by rw [g2]; exact nI_m1 (by omega)) ?_
          iterate 2 refine Wp.step rfl ?_
          refine Wp.call rfl (Nat.zero_le _) (X_byteHere X M Z hT ⟨_, _, rfl, ?_⟩ hln)
          rw [g2] at hf ⊢
          refine Wp.call rfl (Nat.zero_le _) (X_item_115 g1 ⟨_, _, rfl, ?_⟩)
          rw [hf]
          refine Wp.brT rfl (by decide) ?_
          exact Wp.fin rfl trivial h9
      · intro d u X M Z Q e B hd hT hBd hM hQ
        obtain ⟨d, rfl⟩ : ∃ d0, d = d0 + 8 := ⟨d - 8, by omega⟩
        have h9 := hQ (ma M 41) hM (fun _ _ => rfl)
        rw [mA_self] at h9
        rw [hf]
        iterate 2 refine Wp.step rfl ?_
        refine Wp.brT rfl rfl ?_
        exact Wp.fin rfl trivial h9
    · have hj' : j < 2 := hj
      have hm1 : ch t n (lk t n p) ≠ -1 := by
        intro q
        rw [q] at hin
        revert hin
        decide
      have hlt := ch_lt hm1
      obtain ⟨_, m, g1, g2⟩ : lk t n p < n ∧ ∃ m, m < 256 ∧ ch t n (lk t n p) = nI m := by
        rcases ch_rng t n (lk t n p) with ⟨h, _⟩ | h
        · exact absurd h hm1
        · exact h
      have hf2 : fnd (nI m) 0 L6 = nI j := by rw [← g2]; exact hf
      have hne : nI j ≠ -1 := nI_m1 (by omega)
      have keyX : ∀ {d u : Nat} {X : pmXs} {M : pmMs} {Z : pmZs} {Q : pmO → Prop} {e B : Nat} {l6 : Option Value}, XT X t n → Wp (d + 8) u 105 60 [some (.ref 14), some (.int (nI 115)), some (.ref 18), some (.int (nI B)), some (.int (nI 2)), some (.int G), l6] [.int (nI j), .int G] (hp (PX X (lk t n p) e) M Z) Q → Wp (d + 8) u 105 31 [some (.ref 14), some (.int (nI 115)), some (.ref 18), some (.int (nI B)), some (.int (nI 2)), some (.int G), l6] [] (hp (PX X p e) M Z) Q := by
        intro d u X M Z Q e B l6 hT kk
        refine Wp.step rfl ?_
        refine Wp.call rfl (Nat.zero_le _) (X_look X M Z hT hp' ⟨_, _, rfl, ?_⟩)
        refine Wp.step rfl ?_
        refine Wp.brF rfl hm1 ?_
        iterate 2 refine Wp.step rfl ?_
        refine Wp.call rfl (Nat.zero_le _) (X_byteHere X M Z hT ⟨_, _, rfl, ?_⟩ hln)
        rw [g2]
        refine Wp.call rfl (Nat.zero_le _) (X_item_115 g1 ⟨_, _, rfl, ?_⟩)
        rw [hf2]
        refine Wp.brF rfl (nI_pos (by omega)) ?_
        iterate 3 refine Wp.step rfl ?_
        refine Wp.call rfl (Nat.zero_le _) (X_byteHere X M Z hT ⟨_, _, rfl, ?_⟩ hln)
        rw [g2]
        refine Wp.call rfl (Nat.zero_le _) (X_item_115 g1 ⟨_, _, rfl, ?_⟩)
        rw [hf2]
        exact kk
      by_cases hh : hasB G (nI j)
      · refine Or.inl ⟨lk t n p, r, Nat.le_refl _, hln, lk_lk t hp', hr, ?_, Or.inr ⟨hin, ?_⟩⟩
        · intro d u X M Z Q e B l6 hd hT hBd hX hQ
          obtain ⟨d, rfl⟩ : ∃ d0, d = d0 + 8 := ⟨d - 8, by omega⟩
          have h9 := hQ (xa X 18) hX (fun _ _ => rfl)
          rw [xA_self] at h9
          refine keyX hT ?_
          refine Wp.call rfl (Nat.zero_le _) (X_has _ _ (fun _ => ⟨_, _, rfl, ?_⟩) (fun q => absurd hh q))
          refine Wp.brT rfl (by decide) ?_
          exact Wp.fin rfl trivial h9
        · intro d u X M Z Q e B hd hT hBd hQ
          obtain ⟨d, rfl⟩ : ∃ d0, d = d0 + 8 := ⟨d - 8, by omega⟩
          rw [hf]
          iterate 2 refine Wp.step rfl ?_
          refine Wp.brF rfl hne ?_
          iterate 3 refine Wp.step rfl ?_
          refine Wp.brF rfl (fun q => q rfl) ?_
          iterate 2 refine Wp.step rfl ?_
          refine Wp.call rfl (Nat.zero_le _) (M_has _ _ (fun _ => ⟨_, _, rfl, ?_⟩) (fun q => absurd hh q))
          refine Wp.brF rfl (by decide) ?_
          refine Wp.step rfl ?_
          refine Wp.call rfl (Nat.zero_le _) (M_fails0 X M Z ⟨_, _, rfl, ?_⟩)
          refine Wp.step rfl ?_
          have h9 := hQ (ma M 41) (fun _ _ => rfl) (nI (lk t n p))
          rw [mA_self] at h9
          exact Wp.fin rfl trivial h9
      have keyX2 : ∀ {d u : Nat} {X : pmXs} {M : pmMs} {Z : pmZs} {Q : pmO → Prop} {e B : Nat} {l6 : Option Value}, XT X t n → Wp (d + 8) u 105 108 [some (.ref 14), some (.int (nI 115)), some (.ref 18), some (.int (nI B)), some (.int (nI 2)), some (.int (G ||| nI 1 <<< (nI j &&& 31))), some (.int (nI j))] [.int (nI (H6.getD j 0)), .int (nI 0), .ref 14, .int (nI B + nI j), .ref 18] (hp (PX X (lk t n p + 1) e) M Z) Q → Wp (d + 8) u 105 31 [some (.ref 14), some (.int (nI 115)), some (.ref 18), some (.int (nI B)), some (.int (nI 2)), some (.int G), l6] [] (hp (PX X p e) M Z) Q := by
        intro d u X M Z Q e B l6 hT kk
        refine keyX hT ?_
        refine Wp.call rfl (Nat.zero_le _) (X_has _ _ (fun q => absurd q hh) (fun _ => ⟨_, _, rfl, ?_⟩))
        refine Wp.brF rfl (fun q => q rfl) ?_
        iterate 2 refine Wp.step rfl ?_
        refine Wp.call rfl (Nat.zero_le _) (X_byteHere X M Z hT ⟨_, _, rfl, ?_⟩ hln)
        rw [g2]
        refine Wp.call rfl (Nat.zero_le _) (X_item_115 g1 ⟨_, _, rfl, ?_⟩)
        rw [hf2]
        iterate 12 refine Wp.step rfl ?_
        refine Wp.putX rfl rfl rfl ?_
        rw [PX_inc]
        iterate 8 refine Wp.step rfl ?_
        refine Wp.call rfl (Nat.zero_le _) (X_hi_115 hj' ⟨_, _, rfl, ?_⟩)
        exact kk
      have keyM2 : ∀ {d u : Nat} {X : pmXs} {M : pmMs} {Z : pmZs} {Q : pmO → Prop} {e : Int32} {B : Nat}, MT M t n → Wp (d + 8) u 211 106 [some (.ref 35), some (.int (nI 115)), some (.ref 41), some (.int (nI B)), some (.ref 6), some (.int (G ||| nI 1 <<< (nI j &&& 31))), some (.int (nI j))] [.int (nI (H6.getD j 0)), .ref 35, .int (nI B + nI j), .ref 41] (hp X (KM M (nI (lk t n p + 1)) e (-1)) Z) Q → Wp (d + 8) u 211 45 [some (.ref 35), some (.int (nI 115)), some (.ref 41), some (.int (nI B)), some (.ref 6), some (.int G), some (.int (fnd (ch t n (lk t n p)) 0 L6))] [] (hp X (KM M (nI (lk t n p)) e (-1)) Z) Q := by
        intro d u X M Z Q e B hT kk
        rw [hf]
        iterate 2 refine Wp.step rfl ?_
        refine Wp.brF rfl hne ?_
        iterate 3 refine Wp.step rfl ?_
        refine Wp.brF rfl (fun q => q rfl) ?_
        iterate 2 refine Wp.step rfl ?_
        refine Wp.call rfl (Nat.zero_le _) (M_has _ _ (fun q => absurd q hh) (fun _ => ⟨_, _, rfl, ?_⟩))
        refine Wp.brT rfl rfl ?_
        iterate 11 refine Wp.step rfl ?_
        refine Wp.putM rfl rfl rfl ?_
        rw [KM_inc]
        iterate 7 refine Wp.step rfl ?_
        refine Wp.call rfl (Nat.zero_le _) (M_hi_115 hj' ⟨_, _, rfl, ?_⟩)
        exact kk
      have hhi : H6.getD j 0 ≤ 99 := by
        have hj2 : j = 0 ∨ j = 1 := by omega
        rcases hj2 with rfl | rfl <;> decide
      rcases num_pk hB (p := lk t n p + 1) (hi := H6.getD j 0) (by omega) hhi with ⟨q1, v, a1, a2, a3, aX, aM⟩ | ⟨q1, a1, a2, aX, aM⟩
      · have b0 := lk_ge t (n := n) (p := lk t n p + 1) (by omega)
        have hq1 := lk_ge t a2
        have hr2 : ∀ i, i < 2 → ∃ w, w ≤ H6.getD i 0 ∧ upd r j (nI v) i = nI w := by
          intro i hi
          by_cases hij : i = j
          · subst hij; exact ⟨v, a3, pk_us⟩
          · rw [pk_un hij]; exact hr i hi
        have upX : ∀ (f : Nat → Int32) (B : Nat), (∀ i, i < 2 → f (B + i) = r i) → ∀ i, i < 2 → upd f (B + j) (nI v) (B + i) = upd r j (nI v) i := by
          intro f B h i hi
          by_cases hij : i = j
          · subst hij; rw [pk_us, pk_us]
          · rw [pk_un (by omega), pk_un hij]; exact h i hi
        have upO : ∀ (f g : Nat → Int32) (B : Nat) (w : Int32), (∀ i, (i < B ∨ B + 2 ≤ i) → g i = upd f (B + j) w i) → ∀ i, (i < B ∨ B + 2 ≤ i) → g i = f i := by
          intro f g B w h i hi
          rw [h i hi, pk_un (by omega)]
        have nextM : ∀ {d u : Nat} {X : pmXs} {M : pmMs} {Z : pmZs} {Q : pmO → Prop} {e : Int32} {B : Nat}, MT M t n → B + 2 ≤ 2 → Wp (d + 8) u 211 45 [some (.ref 35), some (.int (nI 115)), some (.ref 41), some (.int (nI B)), some (.ref 6), some (.int (G ||| nI 1 <<< (nI j &&& 31))), some (.int (fnd (ch t n (lk t n q1)) 0 L6))] [] (hp X (KM (mA M 41 (upd (ma M 41) (B + j) (nI v))) (nI (lk t n q1)) e (-1)) Z) Q → Wp (d + 8) u 211 45 [some (.ref 35), some (.int (nI 115)), some (.ref 41), some (.int (nI B)), some (.ref 6), some (.int G), some (.int (fnd (ch t n (lk t n p)) 0 L6))] [] (hp X (KM M (nI (lk t n p)) e (-1)) Z) Q := by
          intro d u X M Z Q e B hT hBd kk
          refine keyM2 hT ?_
          refine Wp.call (u1 := 0) rfl (Nat.zero_le _) (aM _ _ X M Z _ e (by omega) hT ⟨_, _, rfl, ?_⟩)
          refine Wp.istM (k := B + j) rfl rfl rfl (nI_add B j) (by omega) (by decide) ?_
          iterate 3 refine Wp.step rfl ?_
          refine Wp.brF rfl (fun q => q rfl) ?_
          iterate 2 refine Wp.step rfl ?_
          refine Wp.call (u1 := 0) rfl (Nat.zero_le _) (M_look (e := e) (f := -1) X (mA M 41 (upd (ma M 41) (B + j) (nI v))) Z (MT_mA hT (by decide) (by decide)) a2 ⟨_, _, rfl, ?_⟩)
          refine Wp.call rfl (Nat.zero_le _) (M_spotOf (SB6 _ _ _) SA6 _ ⟨_, _, rfl, ?_⟩)
          iterate 2 refine Wp.step rfl ?_
          exact kk
        have nextX : ∀ {d u : Nat} {X : pmXs} {M : pmMs} {Z : pmZs} {Q : pmO → Prop} {e B : Nat} {l6 : Option Value}, XT X t n → B + 2 ≤ 2 → Wp (d + 8) u 105 31 [some (.ref 14), some (.int (nI 115)), some (.ref 18), some (.int (nI B)), some (.int (nI 2)), some (.int (G ||| nI 1 <<< (nI j &&& 31))), some (.int (nI j))] [] (hp (PX (xA X 18 (upd (xa X 18) (B + j) (nI v))) q1 e) M Z) Q → Wp (d + 8) u 105 31 [some (.ref 14), some (.int (nI 115)), some (.ref 18), some (.int (nI B)), some (.int (nI 2)), some (.int G), l6] [] (hp (PX X p e) M Z) Q := by
          intro d u X M Z Q e B l6 hT hBd kk
          refine keyX2 hT ?_
          refine Wp.call (u1 := 0) rfl (Nat.zero_le _) (aX _ _ X M Z _ e (by omega) hT ⟨_, _, rfl, ?_⟩)
          refine Wp.istX (k := B + j) rfl rfl rfl (nI_add B j) (by omega) (by decide) ?_
          refine Wp.step rfl ?_
          exact kk
        rcases ih q1 (G ||| nI 1 <<< (nI j &&& 31)) (upd r j (nI v)) (by omega) a2 hr2 with ⟨q, r', c1, c2, c3, c4, cX, cM⟩ | ⟨q, c1, c2, cX, cM⟩
        · refine Or.inl ⟨q, r', by omega, c2, c3, c4, ?_, ?_⟩
          · intro d u X M Z Q e B l6 hd hT hBd hX hQ
            obtain ⟨d, rfl⟩ : ∃ d0, d = d0 + 8 := ⟨d - 8, by omega⟩
            refine nextX hT hBd ?_
            refine cX _ _ (xA X 18 (upd (xa X 18) (B + j) (nI v))) M Z Q e B _ (by omega) hT hBd (by rw [xA_same]; exact upX _ _ hX) (fun f' y1 y2 => ?_)
            rw [xA_same] at y2
            rw [xA_xA]
            exact hQ f' y1 (upO _ _ _ _ y2)
          · rcases cM with cM | ⟨cI, cM⟩
            · refine Or.inl ?_
              intro d u X M Z Q e B hd hT hBd hM hQ
              obtain ⟨d, rfl⟩ : ∃ d0, d = d0 + 8 := ⟨d - 8, by omega⟩
              refine nextM hT hBd ?_
              refine cM _ _ X (mA M 41 (upd (ma M 41) (B + j) (nI v))) Z Q e B (by omega) (MT_mA hT (by decide) (by decide)) hBd (by rw [mA_same]; exact upX _ _ hM) (fun f' y1 y2 => ?_)
              rw [mA_same] at y2
              rw [mA_mA]
              exact hQ f' y1 (upO _ _ _ _ y2)
            · refine Or.inr ⟨cI, ?_⟩
              intro d u X M Z Q e B hd hT hBd hQ
              obtain ⟨d, rfl⟩ : ∃ d0, d = d0 + 8 := ⟨d - 8, by omega⟩
              refine nextM hT hBd ?_
              refine cM _ _ X (mA M 41 (upd (ma M 41) (B + j) (nI v))) Z Q e B (by omega) (MT_mA hT (by decide) (by decide)) hBd (fun f' y2 => ?_)
              rw [mA_same] at y2
              rw [mA_mA]
              exact hQ f' (upO _ _ _ _ y2)
        · refine Or.inr ⟨q, by omega, c2, ?_, ?_⟩
          · intro d u X M Z Q e B l6 hd hT hBd hQ
            obtain ⟨d, rfl⟩ : ∃ d0, d = d0 + 8 := ⟨d - 8, by omega⟩
            refine nextX hT hBd ?_
            refine cX _ _ (xA X 18 (upd (xa X 18) (B + j) (nI v))) M Z Q e B _ (by omega) hT hBd (fun f' y2 => ?_)
            rw [xA_same] at y2
            rw [xA_xA]
            exact hQ f' (upO _ _ _ _ y2)
          · intro d u X M Z Q e B hd hT hBd hQ
            obtain ⟨d, rfl⟩ : ∃ d0, d = d0 + 8 := ⟨d - 8, by omega⟩
            refine nextM hT hBd ?_
            refine cM _ _ X (mA M 41 (upd (ma M 41) (B + j) (nI v))) Z Q e B (by omega) (MT_mA hT (by decide) (by decide)) hBd (fun f' y2 => ?_)
            rw [mA_same] at y2
            rw [mA_mA]
            exact hQ f' (upO _ _ _ _ y2)
      · have b0 := lk_ge t (n := n) (p := lk t n p + 1) (by omega)
        refine Or.inr ⟨q1, by omega, a2, ?_, ?_⟩
        · intro d u X M Z Q e B l6 hd hT hBd hQ
          obtain ⟨d, rfl⟩ : ∃ d0, d = d0 + 8 := ⟨d - 8, by omega⟩
          refine keyX2 hT ?_
          have h9 := hQ (xa X 18) (fun _ _ => rfl)
          rw [xA_self] at h9
          refine Wp.callF (u1 := 0) rfl rfl (Nat.zero_le _) (aX _ _ X M Z _ e (by omega) hT (Or.inr ⟨_, _, rfl, h9⟩))
        · intro d u X M Z Q e B hd hT hBd hQ
          have h240 := MT_le hT
          obtain ⟨d, rfl⟩ : ∃ d0, d = d0 + 8 := ⟨d - 8, by omega⟩
          refine keyM2 hT ?_
          refine Wp.call (u1 := 0) rfl (Nat.zero_le _) (aM _ _ X M Z _ e (by omega) hT (fun w a => ⟨_, _, rfl, ?_⟩))
          refine Wp.istM (k := B + j) rfl rfl rfl (nI_add B j) (by omega) (by decide) ?_
          iterate 3 refine Wp.step rfl ?_
          refine Wp.brT rfl (nI_m1 (by omega)) ?_
          iterate 2 refine Wp.step rfl ?_
          refine Wp.brF rfl hne ?_
          iterate 3 refine Wp.step rfl ?_
          refine Wp.brT rfl (nI_m1 (by omega)) ?_
          have h9 := hQ (upd (ma M 41) (B + j) w) (fun i hi => pk_un (by omega)) a
          exact Wp.fin rfl trivial h9
def L8 : List Int32 := [109, 98, 115]
def H8 : List Nat := [30, 9, 9]
theorem SB8 (X : pmXs) (M : pmMs) (Z : pmZs) : SB (hp X M Z) 8 L8 := ⟨rfl, rfl, by decide, by decide⟩
theorem SA8 : SA L8 := by
  intro b hb
  simp only [L8, List.mem_cons, List.not_mem_nil, or_false] at hb
  rcases hb with rfl | rfl | rfl <;> exact ⟨by decide, by rfl, by decide, by decide⟩
theorem low_L8 : ∀ m, m < 256 → ∀ b ∈ L8, (b = (nI m).toInt8.toInt32 ↔ b = nI m) := by decide +kernel
theorem X_item_107 {d u m : Nat} {X : pmXs} {M : pmMs} {Z : pmZs} {Q : pmO → Prop} (hm : m < 256) (hQ : Q (.inl (some (.int (fnd (nI m) 0 L8))), hp X M Z)) : Wp (d + 5) u 112 0 (pm_entry 112 [.int (nI 107), .int (nI m)]) [] (hp X M Z) Q := by
  repeat (first | refine Wp.step rfl ?_ | refine Wp.brT rfl (by decide) ?_ | refine Wp.brF rfl (by decide) ?_)
  refine Wp.call (pm_call_v rfl rfl (SB8 _ _ _).1 rfl rfl) (Nat.zero_le _) (S_indexOf (SB8 _ _ _) (by decide) (nI_le (Nat.zero_le _) (by omega)) (nI_le (by omega) (by omega)) (low_L8 m hm) ⟨_, _, rfl, ?_⟩)
  exact Wp.fin rfl rfl hQ
theorem items_107_pk {t : Nat → Int32} {n : Nat} (hB : ∀ j, j < n → isB (t j)) : ∀ (N p : Nat) (G : Int32) (r : Nat → Int32), n - p ≤ N → p ≤ n → (∀ j, j < 3 → ∃ v, v ≤ H8.getD j 0 ∧ r j = nI v) →
    (∃ (q : Nat) (r' : Nat → Int32), lk t n p ≤ q ∧ q ≤ n ∧ lk t n q = q ∧ (∀ j, j < 3 → ∃ v, v ≤ H8.getD j 0 ∧ r' j = nI v) ∧
      (∀ (d u : Nat) (X : pmXs) (M : pmMs) (Z : pmZs) (Q : pmO → Prop) (e B : Nat) (l6 : Option Value), 8 ≤ d → XT X t n → B + 3 ≤ 12 → (∀ j, j < 3 → xa X 19 (B + j) = r j) → (∀ f', (∀ j, j < 3 → f' (B + j) = r' j) → (∀ j, (j < B ∨ B + 3 ≤ j) → f' j = xa X 19 j) → Q (.inl none, hp (PX (xA X 19 f') q e) M Z)) → Wp d u 105 31 [some (.ref 14), some (.int (nI 107)), some (.ref 19), some (.int (nI B)), some (.int (nI 3)), some (.int G), l6] [] (hp (PX X p e) M Z) Q) ∧
      ((∀ (d u : Nat) (X : pmXs) (M : pmMs) (Z : pmZs) (Q : pmO → Prop) (e : Int32) (B : Nat), 8 ≤ d → MT M t n → B + 3 ≤ 12 → (∀ j, j < 3 → ma M 43 (B + j) = r j) → (∀ f', (∀ j, j < 3 → f' (B + j) = r' j) → (∀ j, (j < B ∨ B + 3 ≤ j) → f' j = ma M 43 j) → Q (.inl none, hp X (KM (mA M 43 f') (nI q) e (-1)) Z)) → Wp d u 211 45 [some (.ref 35), some (.int (nI 107)), some (.ref 43), some (.int (nI B)), some (.ref 8), some (.int G), some (.int (fnd (ch t n (lk t n p)) 0 L8))] [] (hp X (KM M (nI (lk t n p)) e (-1)) Z) Q) ∨
       (ch t n q ∈ L8 ∧ ∀ (d u : Nat) (X : pmXs) (M : pmMs) (Z : pmZs) (Q : pmO → Prop) (e : Int32) (B : Nat), 8 ≤ d → MT M t n → B + 3 ≤ 12 → (∀ f', (∀ j, (j < B ∨ B + 3 ≤ j) → f' j = ma M 43 j) → ∀ a, Q (.inl none, hp X (KM (mA M 43 f') a e (nI q)) Z)) → Wp d u 211 45 [some (.ref 35), some (.int (nI 107)), some (.ref 43), some (.int (nI B)), some (.ref 8), some (.int G), some (.int (fnd (ch t n (lk t n p)) 0 L8))] [] (hp X (KM M (nI (lk t n p)) e (-1)) Z) Q))) ∨
    (∃ q, lk t n p ≤ q ∧ q ≤ n ∧
      (∀ (d u : Nat) (X : pmXs) (M : pmMs) (Z : pmZs) (Q : pmO → Prop) (e B : Nat) (l6 : Option Value), 8 ≤ d → XT X t n → B + 3 ≤ 12 → (∀ f', (∀ j, (j < B ∨ B + 3 ≤ j) → f' j = xa X 19 j) → Q (.inr 2, hp (PX (xA X 19 f') q e) M Z)) → Wp d u 105 31 [some (.ref 14), some (.int (nI 107)), some (.ref 19), some (.int (nI B)), some (.int (nI 3)), some (.int G), l6] [] (hp (PX X p e) M Z) Q) ∧
      (∀ (d u : Nat) (X : pmXs) (M : pmMs) (Z : pmZs) (Q : pmO → Prop) (e : Int32) (B : Nat), 8 ≤ d → MT M t n → B + 3 ≤ 12 → (∀ f', (∀ j, (j < B ∨ B + 3 ≤ j) → f' j = ma M 43 j) → ∀ a, Q (.inl none, hp X (KM (mA M 43 f') a e (nI q)) Z)) → Wp d u 211 45 [some (.ref 35), some (.int (nI 107)), some (.ref 43), some (.int (nI B)), some (.ref 8), some (.int G), some (.int (fnd (ch t n (lk t n p)) 0 L8))] [] (hp X (KM M (nI (lk t n p)) e (-1)) Z) Q)) := by
  intro N
  induction N with
  | zero =>
    intro p G r hN hp' hr
    obtain rfl : p = n := by omega
    have e1 : lk t p p = p := lk_stop (by omega)
    have e2 : ch t p p = -1 := if_neg (by omega)
    have e3 : fnd (-1) 0 L8 = -1 := by decide
    refine Or.inl ⟨p, r, by omega, by omega, e1, hr, ?_, Or.inl ?_⟩
    · intro d u X M Z Q e B l6 hd hT hBd hX hQ
      obtain ⟨d, rfl⟩ : ∃ d0, d = d0 + 8 := ⟨d - 8, by omega⟩
      refine Wp.step rfl ?_
      refine Wp.call rfl (Nat.zero_le _) (X_look X M Z hT hp' ⟨_, _, rfl, ?_⟩)
      rw [e1, e2]
      refine Wp.step rfl ?_
      refine Wp.brT rfl rfl ?_
      have := hQ (xa X 19) hX (fun _ _ => rfl)
      rw [xA_self] at this
      exact Wp.fin rfl trivial this
    · intro d u X M Z Q e B hd hT hBd hM hQ
      obtain ⟨d, rfl⟩ : ∃ d0, d = d0 + 8 := ⟨d - 8, by omega⟩
      rw [e1, e2, e3]
      iterate 2 refine Wp.step rfl ?_
      refine Wp.brT rfl rfl ?_
      have := hQ (ma M 43) hM (fun _ _ => rfl)
      rw [mA_self] at this
      exact Wp.fin rfl trivial this
  | succ N ih =>
    intro p G r hN hp' hr
    have hge := lk_ge t hp'
    have hln := lk_n t hp'
    rcases fnd_cases (ch t n (lk t n p)) L8 with ⟨hf, hni⟩ | ⟨j, hj, hf, hin⟩
    · refine Or.inl ⟨lk t n p, r, Nat.le_refl _, hln, lk_lk t hp', hr, ?_, Or.inl ?_⟩
      · intro d u X M Z Q e B l6 hd hT hBd hX hQ
        obtain ⟨d, rfl⟩ : ∃ d0, d = d0 + 8 := ⟨d - 8, by omega⟩
        have h9 := hQ (xa X 19) hX (fun _ _ => rfl)
        rw [xA_self] at h9
        refine Wp.step rfl ?_
        refine Wp.call rfl (Nat.zero_le _) (X_look X M Z hT hp' ⟨_, _, rfl, ?_⟩)
        refine Wp.step rfl ?_
        rcases ch_rng t n (lk t n p) with ⟨g1, _⟩ | ⟨g0, m, g1, g2⟩
        · refine Wp.brT rfl g1 ?_
          exact Wp.fin rfl trivial h9
        · refine Wp.brF rfl (by rw [g2]; exact nI_m1 (by omega)) ?_
          iterate 2 refine Wp.step rfl ?_
          refine Wp.call rfl (Nat.zero_le _) (X_byteHere X M Z hT ⟨_, _, rfl, ?_⟩ hln)
          rw [g2] at hf ⊢
          refine Wp.call rfl (Nat.zero_le _) (X_item_107 g1 ⟨_, _, rfl, ?_⟩)
          rw [hf]
          refine Wp.brT rfl (by decide) ?_
          exact Wp.fin rfl trivial h9
      · intro d u X M Z Q e B hd hT hBd hM hQ
        obtain ⟨d, rfl⟩ : ∃ d0, d = d0 + 8 := ⟨d - 8, by omega⟩
        have h9 := hQ (ma M 43) hM (fun _ _ => rfl)
        rw [mA_self] at h9
        rw [hf]
        iterate 2 refine Wp.step rfl ?_
        refine Wp.brT rfl rfl ?_
        exact Wp.fin rfl trivial h9
    · have hj' : j < 3 := hj
      have hm1 : ch t n (lk t n p) ≠ -1 := by
        intro q
        rw [q] at hin
        revert hin
        decide
      have hlt := ch_lt hm1
      obtain ⟨_, m, g1, g2⟩ : lk t n p < n ∧ ∃ m, m < 256 ∧ ch t n (lk t n p) = nI m := by
        rcases ch_rng t n (lk t n p) with ⟨h, _⟩ | h
        · exact absurd h hm1
        · exact h
      have hf2 : fnd (nI m) 0 L8 = nI j := by rw [← g2]; exact hf
      have hne : nI j ≠ -1 := nI_m1 (by omega)
      have keyX : ∀ {d u : Nat} {X : pmXs} {M : pmMs} {Z : pmZs} {Q : pmO → Prop} {e B : Nat} {l6 : Option Value}, XT X t n → Wp (d + 8) u 105 60 [some (.ref 14), some (.int (nI 107)), some (.ref 19), some (.int (nI B)), some (.int (nI 3)), some (.int G), l6] [.int (nI j), .int G] (hp (PX X (lk t n p) e) M Z) Q → Wp (d + 8) u 105 31 [some (.ref 14), some (.int (nI 107)), some (.ref 19), some (.int (nI B)), some (.int (nI 3)), some (.int G), l6] [] (hp (PX X p e) M Z) Q := by
        intro d u X M Z Q e B l6 hT kk
        refine Wp.step rfl ?_
        refine Wp.call rfl (Nat.zero_le _) (X_look X M Z hT hp' ⟨_, _, rfl, ?_⟩)
        refine Wp.step rfl ?_
        refine Wp.brF rfl hm1 ?_
        iterate 2 refine Wp.step rfl ?_
        refine Wp.call rfl (Nat.zero_le _) (X_byteHere X M Z hT ⟨_, _, rfl, ?_⟩ hln)
        rw [g2]
        refine Wp.call rfl (Nat.zero_le _) (X_item_107 g1 ⟨_, _, rfl, ?_⟩)
        rw [hf2]
        refine Wp.brF rfl (nI_pos (by omega)) ?_
        iterate 3 refine Wp.step rfl ?_
        refine Wp.call rfl (Nat.zero_le _) (X_byteHere X M Z hT ⟨_, _, rfl, ?_⟩ hln)
        rw [g2]
        refine Wp.call rfl (Nat.zero_le _) (X_item_107 g1 ⟨_, _, rfl, ?_⟩)
        rw [hf2]
        exact kk
      by_cases hh : hasB G (nI j)
      · refine Or.inl ⟨lk t n p, r, Nat.le_refl _, hln, lk_lk t hp', hr, ?_, Or.inr ⟨hin, ?_⟩⟩
        · intro d u X M Z Q e B l6 hd hT hBd hX hQ
          obtain ⟨d, rfl⟩ : ∃ d0, d = d0 + 8 := ⟨d - 8, by omega⟩
          have h9 := hQ (xa X 19) hX (fun _ _ => rfl)
          rw [xA_self] at h9
          refine keyX hT ?_
          refine Wp.call rfl (Nat.zero_le _) (X_has _ _ (fun _ => ⟨_, _, rfl, ?_⟩) (fun q => absurd hh q))
          refine Wp.brT rfl (by decide) ?_
          exact Wp.fin rfl trivial h9
        · intro d u X M Z Q e B hd hT hBd hQ
          obtain ⟨d, rfl⟩ : ∃ d0, d = d0 + 8 := ⟨d - 8, by omega⟩
          rw [hf]
          iterate 2 refine Wp.step rfl ?_
          refine Wp.brF rfl hne ?_
          iterate 3 refine Wp.step rfl ?_
          refine Wp.brF rfl (fun q => q rfl) ?_
          iterate 2 refine Wp.step rfl ?_
          refine Wp.call rfl (Nat.zero_le _) (M_has _ _ (fun _ => ⟨_, _, rfl, ?_⟩) (fun q => absurd hh q))
          refine Wp.brF rfl (by decide) ?_
          refine Wp.step rfl ?_
          refine Wp.call rfl (Nat.zero_le _) (M_fails0 X M Z ⟨_, _, rfl, ?_⟩)
          refine Wp.step rfl ?_
          have h9 := hQ (ma M 43) (fun _ _ => rfl) (nI (lk t n p))
          rw [mA_self] at h9
          exact Wp.fin rfl trivial h9
      have keyX2 : ∀ {d u : Nat} {X : pmXs} {M : pmMs} {Z : pmZs} {Q : pmO → Prop} {e B : Nat} {l6 : Option Value}, XT X t n → Wp (d + 8) u 105 108 [some (.ref 14), some (.int (nI 107)), some (.ref 19), some (.int (nI B)), some (.int (nI 3)), some (.int (G ||| nI 1 <<< (nI j &&& 31))), some (.int (nI j))] [.int (nI (H8.getD j 0)), .int (nI 0), .ref 14, .int (nI B + nI j), .ref 19] (hp (PX X (lk t n p + 1) e) M Z) Q → Wp (d + 8) u 105 31 [some (.ref 14), some (.int (nI 107)), some (.ref 19), some (.int (nI B)), some (.int (nI 3)), some (.int G), l6] [] (hp (PX X p e) M Z) Q := by
        intro d u X M Z Q e B l6 hT kk
        refine keyX hT ?_
        refine Wp.call rfl (Nat.zero_le _) (X_has _ _ (fun q => absurd q hh) (fun _ => ⟨_, _, rfl, ?_⟩))
        refine Wp.brF rfl (fun q => q rfl) ?_
        iterate 2 refine Wp.step rfl ?_
        refine Wp.call rfl (Nat.zero_le _) (X_byteHere X M Z hT ⟨_, _, rfl, ?_⟩ hln)
        rw [g2]
        refine Wp.call rfl (Nat.zero_le _) (X_item_107 g1 ⟨_, _, rfl, ?_⟩)
        rw [hf2]
        iterate 12 refine Wp.step rfl ?_
        refine Wp.putX rfl rfl rfl ?_
        rw [PX_inc]
        iterate 8 refine Wp.step rfl ?_
        refine Wp.call rfl (Nat.zero_le _) (X_hi_107 hj' ⟨_, _, rfl, ?_⟩)
        exact kk
      have keyM2 : ∀ {d u : Nat} {X : pmXs} {M : pmMs} {Z : pmZs} {Q : pmO → Prop} {e : Int32} {B : Nat}, MT M t n → Wp (d + 8) u 211 106 [some (.ref 35), some (.int (nI 107)), some (.ref 43), some (.int (nI B)), some (.ref 8), some (.int (G ||| nI 1 <<< (nI j &&& 31))), some (.int (nI j))] [.int (nI (H8.getD j 0)), .ref 35, .int (nI B + nI j), .ref 43] (hp X (KM M (nI (lk t n p + 1)) e (-1)) Z) Q → Wp (d + 8) u 211 45 [some (.ref 35), some (.int (nI 107)), some (.ref 43), some (.int (nI B)), some (.ref 8), some (.int G), some (.int (fnd (ch t n (lk t n p)) 0 L8))] [] (hp X (KM M (nI (lk t n p)) e (-1)) Z) Q := by
        intro d u X M Z Q e B hT kk
        rw [hf]
        iterate 2 refine Wp.step rfl ?_
        refine Wp.brF rfl hne ?_
        iterate 3 refine Wp.step rfl ?_
        refine Wp.brF rfl (fun q => q rfl) ?_
        iterate 2 refine Wp.step rfl ?_
        refine Wp.call rfl (Nat.zero_le _) (M_has _ _ (fun q => absurd q hh) (fun _ => ⟨_, _, rfl, ?_⟩))
        refine Wp.brT rfl rfl ?_
        iterate 11 refine Wp.step rfl ?_
        refine Wp.putM rfl rfl rfl ?_
        rw [KM_inc]
        iterate 7 refine Wp.step rfl ?_
        refine Wp.call rfl (Nat.zero_le _) (M_hi_107 hj' ⟨_, _, rfl, ?_⟩)
        exact kk
      have hhi : H8.getD j 0 ≤ 99 := by
        have hj2 : j = 0 ∨ j = 1 ∨ j = 2 := by omega
        rcases hj2 with rfl | rfl | rfl <;> decide
      rcases num_pk hB (p := lk t n p + 1) (hi := H8.getD j 0) (by omega) hhi with ⟨q1, v, a1, a2, a3, aX, aM⟩ | ⟨q1, a1, a2, aX, aM⟩
      · have b0 := lk_ge t (n := n) (p := lk t n p + 1) (by omega)
        have hq1 := lk_ge t a2
        have hr2 : ∀ i, i < 3 → ∃ w, w ≤ H8.getD i 0 ∧ upd r j (nI v) i = nI w := by
          intro i hi
          by_cases hij : i = j
          · subst hij; exact ⟨v, a3, pk_us⟩
          · rw [pk_un hij]; exact hr i hi
        have upX : ∀ (f : Nat → Int32) (B : Nat), (∀ i, i < 3 → f (B + i) = r i) → ∀ i, i < 3 → upd f (B + j) (nI v) (B + i) = upd r j (nI v) i := by
          intro f B h i hi
          by_cases hij : i = j
          · subst hij; rw [pk_us, pk_us]
          · rw [pk_un (by omega), pk_un hij]; exact h i hi
        have upO : ∀ (f g : Nat → Int32) (B : Nat) (w : Int32), (∀ i, (i < B ∨ B + 3 ≤ i) → g i = upd f (B + j) w i) → ∀ i, (i < B ∨ B + 3 ≤ i) → g i = f i := by
          intro f g B w h i hi
          rw [h i hi, pk_un (by omega)]
        have nextM : ∀ {d u : Nat} {X : pmXs} {M : pmMs} {Z : pmZs} {Q : pmO → Prop} {e : Int32} {B : Nat}, MT M t n → B + 3 ≤ 12 → Wp (d + 8) u 211 45 [some (.ref 35), some (.int (nI 107)), some (.ref 43), some (.int (nI B)), some (.ref 8), some (.int (G ||| nI 1 <<< (nI j &&& 31))), some (.int (fnd (ch t n (lk t n q1)) 0 L8))] [] (hp X (KM (mA M 43 (upd (ma M 43) (B + j) (nI v))) (nI (lk t n q1)) e (-1)) Z) Q → Wp (d + 8) u 211 45 [some (.ref 35), some (.int (nI 107)), some (.ref 43), some (.int (nI B)), some (.ref 8), some (.int G), some (.int (fnd (ch t n (lk t n p)) 0 L8))] [] (hp X (KM M (nI (lk t n p)) e (-1)) Z) Q := by
          intro d u X M Z Q e B hT hBd kk
          refine keyM2 hT ?_
          refine Wp.call (u1 := 0) rfl (Nat.zero_le _) (aM _ _ X M Z _ e (by omega) hT ⟨_, _, rfl, ?_⟩)
          refine Wp.istM (k := B + j) rfl rfl rfl (nI_add B j) (by omega) (by decide) ?_
          iterate 3 refine Wp.step rfl ?_
          refine Wp.brF rfl (fun q => q rfl) ?_
          iterate 2 refine Wp.step rfl ?_
          refine Wp.call (u1 := 0) rfl (Nat.zero_le _) (M_look (e := e) (f := -1) X (mA M 43 (upd (ma M 43) (B + j) (nI v))) Z (MT_mA hT (by decide) (by decide)) a2 ⟨_, _, rfl, ?_⟩)
          refine Wp.call rfl (Nat.zero_le _) (M_spotOf (SB8 _ _ _) SA8 _ ⟨_, _, rfl, ?_⟩)
          iterate 2 refine Wp.step rfl ?_
          exact kk
        have nextX : ∀ {d u : Nat} {X : pmXs} {M : pmMs} {Z : pmZs} {Q : pmO → Prop} {e B : Nat} {l6 : Option Value}, XT X t n → B + 3 ≤ 12 → Wp (d + 8) u 105 31 [some (.ref 14), some (.int (nI 107)), some (.ref 19), some (.int (nI B)), some (.int (nI 3)), some (.int (G ||| nI 1 <<< (nI j &&& 31))), some (.int (nI j))] [] (hp (PX (xA X 19 (upd (xa X 19) (B + j) (nI v))) q1 e) M Z) Q → Wp (d + 8) u 105 31 [some (.ref 14), some (.int (nI 107)), some (.ref 19), some (.int (nI B)), some (.int (nI 3)), some (.int G), l6] [] (hp (PX X p e) M Z) Q := by
          intro d u X M Z Q e B l6 hT hBd kk
          refine keyX2 hT ?_
          refine Wp.call (u1 := 0) rfl (Nat.zero_le _) (aX _ _ X M Z _ e (by omega) hT ⟨_, _, rfl, ?_⟩)
          refine Wp.istX (k := B + j) rfl rfl rfl (nI_add B j) (by omega) (by decide) ?_
          refine Wp.step rfl ?_
          exact kk
        rcases ih q1 (G ||| nI 1 <<< (nI j &&& 31)) (upd r j (nI v)) (by omega) a2 hr2 with ⟨q, r', c1, c2, c3, c4, cX, cM⟩ | ⟨q, c1, c2, cX, cM⟩
        · refine Or.inl ⟨q, r', by omega, c2, c3, c4, ?_, ?_⟩
          · intro d u X M Z Q e B l6 hd hT hBd hX hQ
            obtain ⟨d, rfl⟩ : ∃ d0, d = d0 + 8 := ⟨d - 8, by omega⟩
            refine nextX hT hBd ?_
            refine cX _ _ (xA X 19 (upd (xa X 19) (B + j) (nI v))) M Z Q e B _ (by omega) hT hBd (by rw [xA_same]; exact upX _ _ hX) (fun f' y1 y2 => ?_)
            rw [xA_same] at y2
            rw [xA_xA]
            exact hQ f' y1 (upO _ _ _ _ y2)
          · rcases cM with cM | ⟨cI, cM⟩
            · refine Or.inl ?_
              intro d u X M Z Q e B hd hT hBd hM hQ
              obtain ⟨d, rfl⟩ : ∃ d0, d = d0 + 8 := ⟨d - 8, by omega⟩
              refine nextM hT hBd ?_
              refine cM _ _ X (mA M 43 (upd (ma M 43) (B + j) (nI v))) Z Q e B (by omega) (MT_mA hT (by decide) (by decide)) hBd (by rw [mA_same]; exact upX _ _ hM) (fun f' y1 y2 => ?_)
              rw [mA_same] at y2
              rw [mA_mA]
              exact hQ f' y1 (upO _ _ _ _ y2)
            · refine Or.inr ⟨cI, ?_⟩
              intro d u X M Z Q e B hd hT hBd hQ
              obtain ⟨d, rfl⟩ : ∃ d0, d = d0 + 8 := ⟨d - 8, by omega⟩
              refine nextM hT hBd ?_
              refine cM _ _ X (mA M 43 (upd (ma M 43) (B + j) (nI v))) Z Q e B (by omega) (MT_mA hT (by decide) (by decide)) hBd (fun f' y2 => ?_)
              rw [mA_same] at y2
              rw [mA_mA]
              exact hQ f' (upO _ _ _ _ y2)
        · refine Or.inr ⟨q, by omega, c2, ?_, ?_⟩
          · intro d u X M Z Q e B l6 hd hT hBd hQ
            obtain ⟨d, rfl⟩ : ∃ d0, d = d0 + 8 := ⟨d - 8, by omega⟩
            refine nextX hT hBd ?_
            refine cX _ _ (xA X 19 (upd (xa X 19) (B + j) (nI v))) M Z Q e B _ (by omega) hT hBd (fun f' y2 => ?_)
            rw [xA_same] at y2
            rw [xA_xA]
            exact hQ f' (upO _ _ _ _ y2)
          · intro d u X M Z Q e B hd hT hBd hQ
            obtain ⟨d, rfl⟩ : ∃ d0, d = d0 + 8 := ⟨d - 8, by omega⟩
            refine nextM hT hBd ?_
            refine cM _ _ X (mA M 43 (upd (ma M 43) (B + j) (nI v))) Z Q e B (by omega) (MT_mA hT (by decide) (by decide)) hBd (fun f' y2 => ?_)
            rw [mA_same] at y2
            rw [mA_mA]
            exact hQ f' (upO _ _ _ _ y2)
      · have b0 := lk_ge t (n := n) (p := lk t n p + 1) (by omega)
        refine Or.inr ⟨q1, by omega, a2, ?_, ?_⟩
        · intro d u X M Z Q e B l6 hd hT hBd hQ
          obtain ⟨d, rfl⟩ : ∃ d0, d = d0 + 8 := ⟨d - 8, by omega⟩
          refine keyX2 hT ?_
          have h9 := hQ (xa X 19) (fun _ _ => rfl)
          rw [xA_self] at h9
          refine Wp.callF (u1 := 0) rfl rfl (Nat.zero_le _) (aX _ _ X M Z _ e (by omega) hT (Or.inr ⟨_, _, rfl, h9⟩))
        · intro d u X M Z Q e B hd hT hBd hQ
          have h240 := MT_le hT
          obtain ⟨d, rfl⟩ : ∃ d0, d = d0 + 8 := ⟨d - 8, by omega⟩
          refine keyM2 hT ?_
          refine Wp.call (u1 := 0) rfl (Nat.zero_le _) (aM _ _ X M Z _ e (by omega) hT (fun w a => ⟨_, _, rfl, ?_⟩))
          refine Wp.istM (k := B + j) rfl rfl rfl (nI_add B j) (by omega) (by decide) ?_
          iterate 3 refine Wp.step rfl ?_
          refine Wp.brT rfl (nI_m1 (by omega)) ?_
          iterate 2 refine Wp.step rfl ?_
          refine Wp.brF rfl hne ?_
          iterate 3 refine Wp.step rfl ?_
          refine Wp.brT rfl (nI_m1 (by omega)) ?_
          have h9 := hQ (upd (ma M 43) (B + j) w) (fun i hi => pk_un (by omega)) a
          exact Wp.fin rfl trivial h9
def L10 : List Int32 := [97, 98, 103, 110]
def H10 : List Nat := [3, 3, 9, 20]
theorem SB10 (X : pmXs) (M : pmMs) (Z : pmZs) : SB (hp X M Z) 10 L10 := ⟨rfl, rfl, by decide, by decide⟩
theorem SA10 : SA L10 := by
  intro b hb
  simp only [L10, List.mem_cons, List.not_mem_nil, or_false] at hb
  rcases hb with rfl | rfl | rfl | rfl <;> exact ⟨by decide, by rfl, by decide, by decide⟩
theorem low_L10 : ∀ m, m < 256 → ∀ b ∈ L10, (b = (nI m).toInt8.toInt32 ↔ b = nI m) := by decide +kernel
theorem X_item_102 {d u m : Nat} {X : pmXs} {M : pmMs} {Z : pmZs} {Q : pmO → Prop} (hm : m < 256) (hQ : Q (.inl (some (.int (fnd (nI m) 0 L10))), hp X M Z)) : Wp (d + 5) u 112 0 (pm_entry 112 [.int (nI 102), .int (nI m)]) [] (hp X M Z) Q := by
  repeat (first | refine Wp.step rfl ?_ | refine Wp.brT rfl (by decide) ?_ | refine Wp.brF rfl (by decide) ?_)
  refine Wp.call (pm_call_v rfl rfl (SB10 _ _ _).1 rfl rfl) (Nat.zero_le _) (S_indexOf (SB10 _ _ _) (by decide) (nI_le (Nat.zero_le _) (by omega)) (nI_le (by omega) (by omega)) (low_L10 m hm) ⟨_, _, rfl, ?_⟩)
  exact Wp.fin rfl rfl hQ
theorem items_102_pk {t : Nat → Int32} {n : Nat} (hB : ∀ j, j < n → isB (t j)) : ∀ (N p : Nat) (G : Int32) (r : Nat → Int32), n - p ≤ N → p ≤ n → (∀ j, j < 4 → ∃ v, v ≤ H10.getD j 0 ∧ r j = nI v) →
    (∃ (q : Nat) (r' : Nat → Int32), lk t n p ≤ q ∧ q ≤ n ∧ lk t n q = q ∧ (∀ j, j < 4 → ∃ v, v ≤ H10.getD j 0 ∧ r' j = nI v) ∧
      (∀ (d u : Nat) (X : pmXs) (M : pmMs) (Z : pmZs) (Q : pmO → Prop) (e B : Nat) (l6 : Option Value), 8 ≤ d → XT X t n → B + 4 ≤ 32 → (∀ j, j < 4 → xa X 20 (B + j) = r j) → (∀ f', (∀ j, j < 4 → f' (B + j) = r' j) → (∀ j, (j < B ∨ B + 4 ≤ j) → f' j = xa X 20 j) → Q (.inl none, hp (PX (xA X 20 f') q e) M Z)) → Wp d u 105 31 [some (.ref 14), some (.int (nI 102)), some (.ref 20), some (.int (nI B)), some (.int (nI 4)), some (.int G), l6] [] (hp (PX X p e) M Z) Q) ∧
      ((∀ (d u : Nat) (X : pmXs) (M : pmMs) (Z : pmZs) (Q : pmO → Prop) (e : Int32) (B : Nat), 8 ≤ d → MT M t n → B + 4 ≤ 32 → (∀ j, j < 4 → ma M 45 (B + j) = r j) → (∀ f', (∀ j, j < 4 → f' (B + j) = r' j) → (∀ j, (j < B ∨ B + 4 ≤ j) → f' j = ma M 45 j) → Q (.inl none, hp X (KM (mA M 45 f') (nI q) e (-1)) Z)) → Wp d u 211 45 [some (.ref 35), some (.int (nI 102)), some (.ref 45), some (.int (nI B)), some (.ref 10), some (.int G), some (.int (fnd (ch t n (lk t n p)) 0 L10))] [] (hp X (KM M (nI (lk t n p)) e (-1)) Z) Q) ∨
       (ch t n q ∈ L10 ∧ ∀ (d u : Nat) (X : pmXs) (M : pmMs) (Z : pmZs) (Q : pmO → Prop) (e : Int32) (B : Nat), 8 ≤ d → MT M t n → B + 4 ≤ 32 → (∀ f', (∀ j, (j < B ∨ B + 4 ≤ j) → f' j = ma M 45 j) → ∀ a, Q (.inl none, hp X (KM (mA M 45 f') a e (nI q)) Z)) → Wp d u 211 45 [some (.ref 35), some (.int (nI 102)), some (.ref 45), some (.int (nI B)), some (.ref 10), some (.int G), some (.int (fnd (ch t n (lk t n p)) 0 L10))] [] (hp X (KM M (nI (lk t n p)) e (-1)) Z) Q))) ∨
    (∃ q, lk t n p ≤ q ∧ q ≤ n ∧
      (∀ (d u : Nat) (X : pmXs) (M : pmMs) (Z : pmZs) (Q : pmO → Prop) (e B : Nat) (l6 : Option Value), 8 ≤ d → XT X t n → B + 4 ≤ 32 → (∀ f', (∀ j, (j < B ∨ B + 4 ≤ j) → f' j = xa X 20 j) → Q (.inr 2, hp (PX (xA X 20 f') q e) M Z)) → Wp d u 105 31 [some (.ref 14), some (.int (nI 102)), some (.ref 20), some (.int (nI B)), some (.int (nI 4)), some (.int G), l6] [] (hp (PX X p e) M Z) Q) ∧
      (∀ (d u : Nat) (X : pmXs) (M : pmMs) (Z : pmZs) (Q : pmO → Prop) (e : Int32) (B : Nat), 8 ≤ d → MT M t n → B + 4 ≤ 32 → (∀ f', (∀ j, (j < B ∨ B + 4 ≤ j) → f' j = ma M 45 j) → ∀ a, Q (.inl none, hp X (KM (mA M 45 f') a e (nI q)) Z)) → Wp d u 211 45 [some (.ref 35), some (.int (nI 102)), some (.ref 45), some (.int (nI B)), some (.ref 10), some (.int G), some (.int (fnd (ch t n (lk t n p)) 0 L10))] [] (hp X (KM M (nI (lk t n p)) e (-1)) Z) Q)) := by
  intro N
  induction N with
  | zero =>
    intro p G r hN hp' hr
    obtain rfl : p = n := by omega
    have e1 : lk t p p = p := lk_stop (by omega)
    have e2 : ch t p p = -1 := if_neg (by omega)
    have e3 : fnd (-1) 0 L10 = -1 := by decide
    refine Or.inl ⟨p, r, by omega, by omega, e1, hr, ?_, Or.inl ?_⟩
    · intro d u X M Z Q e B l6 hd hT hBd hX hQ
      obtain ⟨d, rfl⟩ : ∃ d0, d = d0 + 8 := ⟨d - 8, by omega⟩
      refine Wp.step rfl ?_
      refine Wp.call rfl (Nat.zero_le _) (X_look X M Z hT hp' ⟨_, _, rfl, ?_⟩)
      rw [e1, e2]
      refine Wp.step rfl ?_
      refine Wp.brT rfl rfl ?_
      have := hQ (xa X 20) hX (fun _ _ => rfl)
      rw [xA_self] at this
      exact Wp.fin rfl trivial this
    · intro d u X M Z Q e B hd hT hBd hM hQ
      obtain ⟨d, rfl⟩ : ∃ d0, d = d0 + 8 := ⟨d - 8, by omega⟩
      rw [e1, e2, e3]
      iterate 2 refine Wp.step rfl ?_
      refine Wp.brT rfl rfl ?_
      have := hQ (ma M 45) hM (fun _ _ => rfl)
      rw [mA_self] at this
      exact Wp.fin rfl trivial this
  | succ N ih =>
    intro p G r hN hp' hr
    have hge := lk_ge t hp'
    have hln := lk_n t hp'
    rcases fnd_cases (ch t n (lk t n p)) L10 with ⟨hf, hni⟩ | ⟨j, hj, hf, hin⟩
    · refine Or.inl ⟨lk t n p, r, Nat.le_refl _, hln, lk_lk t hp', hr, ?_, Or.inl ?_⟩
      · intro d u X M Z Q e B l6 hd hT hBd hX hQ
        obtain ⟨d, rfl⟩ : ∃ d0, d = d0 + 8 := ⟨d - 8, by omega⟩
        have h9 := hQ (xa X 20) hX (fun _ _ => rfl)
        rw [xA_self] at h9
        refine Wp.step rfl ?_
        refine Wp.call rfl (Nat.zero_le _) (X_look X M Z hT hp' ⟨_, _, rfl, ?_⟩)
        refine Wp.step rfl ?_
        rcases ch_rng t n (lk t n p) with ⟨g1, _⟩ | ⟨g0, m, g1, g2⟩
        · refine Wp.brT rfl g1 ?_
          exact Wp.fin rfl trivial h9
        · refine Wp.brF rfl (by rw [g2]; exact nI_m1 (by omega)) ?_
          iterate 2 refine Wp.step rfl ?_
          refine Wp.call rfl (Nat.zero_le _) (X_byteHere X M Z hT ⟨_, _, rfl, ?_⟩ hln)
          rw [g2] at hf ⊢
          refine Wp.call rfl (Nat.zero_le _) (X_item_102 g1 ⟨_, _, rfl, ?_⟩)
          rw [hf]
          refine Wp.brT rfl (by decide) ?_
          exact Wp.fin rfl trivial h9
      · intro d u X M Z Q e B hd hT hBd hM hQ
        obtain ⟨d, rfl⟩ : ∃ d0, d = d0 + 8 := ⟨d - 8, by omega⟩
        have h9 := hQ (ma M 45) hM (fun _ _ => rfl)
        rw [mA_self] at h9
        rw [hf]
        iterate 2 refine Wp.step rfl ?_
        refine Wp.brT rfl rfl ?_
        exact Wp.fin rfl trivial h9
    · have hj' : j < 4 := hj
      have hm1 : ch t n (lk t n p) ≠ -1 := by
        intro q
        rw [q] at hin
        revert hin
        decide
      have hlt := ch_lt hm1
      obtain ⟨_, m, g1, g2⟩ : lk t n p < n ∧ ∃ m, m < 256 ∧ ch t n (lk t n p) = nI m := by
        rcases ch_rng t n (lk t n p) with ⟨h, _⟩ | h
        · exact absurd h hm1
        · exact h
      have hf2 : fnd (nI m) 0 L10 = nI j := by rw [← g2]; exact hf
      have hne : nI j ≠ -1 := nI_m1 (by omega)
      have keyX : ∀ {d u : Nat} {X : pmXs} {M : pmMs} {Z : pmZs} {Q : pmO → Prop} {e B : Nat} {l6 : Option Value}, XT X t n → Wp (d + 8) u 105 60 [some (.ref 14), some (.int (nI 102)), some (.ref 20), some (.int (nI B)), some (.int (nI 4)), some (.int G), l6] [.int (nI j), .int G] (hp (PX X (lk t n p) e) M Z) Q → Wp (d + 8) u 105 31 [some (.ref 14), some (.int (nI 102)), some (.ref 20), some (.int (nI B)), some (.int (nI 4)), some (.int G), l6] [] (hp (PX X p e) M Z) Q := by
        intro d u X M Z Q e B l6 hT kk
        refine Wp.step rfl ?_
        refine Wp.call rfl (Nat.zero_le _) (X_look X M Z hT hp' ⟨_, _, rfl, ?_⟩)
        refine Wp.step rfl ?_
        refine Wp.brF rfl hm1 ?_
        iterate 2 refine Wp.step rfl ?_
        refine Wp.call rfl (Nat.zero_le _) (X_byteHere X M Z hT ⟨_, _, rfl, ?_⟩ hln)
        rw [g2]
        refine Wp.call rfl (Nat.zero_le _) (X_item_102 g1 ⟨_, _, rfl, ?_⟩)
        rw [hf2]
        refine Wp.brF rfl (nI_pos (by omega)) ?_
        iterate 3 refine Wp.step rfl ?_
        refine Wp.call rfl (Nat.zero_le _) (X_byteHere X M Z hT ⟨_, _, rfl, ?_⟩ hln)
        rw [g2]
        refine Wp.call rfl (Nat.zero_le _) (X_item_102 g1 ⟨_, _, rfl, ?_⟩)
        rw [hf2]
        exact kk
      by_cases hh : hasB G (nI j)
      · refine Or.inl ⟨lk t n p, r, Nat.le_refl _, hln, lk_lk t hp', hr, ?_, Or.inr ⟨hin, ?_⟩⟩
        · intro d u X M Z Q e B l6 hd hT hBd hX hQ
          obtain ⟨d, rfl⟩ : ∃ d0, d = d0 + 8 := ⟨d - 8, by omega⟩
          have h9 := hQ (xa X 20) hX (fun _ _ => rfl)
          rw [xA_self] at h9
          refine keyX hT ?_
          refine Wp.call rfl (Nat.zero_le _) (X_has _ _ (fun _ => ⟨_, _, rfl, ?_⟩) (fun q => absurd hh q))
          refine Wp.brT rfl (by decide) ?_
          exact Wp.fin rfl trivial h9
        · intro d u X M Z Q e B hd hT hBd hQ
          obtain ⟨d, rfl⟩ : ∃ d0, d = d0 + 8 := ⟨d - 8, by omega⟩
          rw [hf]
          iterate 2 refine Wp.step rfl ?_
          refine Wp.brF rfl hne ?_
          iterate 3 refine Wp.step rfl ?_
          refine Wp.brF rfl (fun q => q rfl) ?_
          iterate 2 refine Wp.step rfl ?_
          refine Wp.call rfl (Nat.zero_le _) (M_has _ _ (fun _ => ⟨_, _, rfl, ?_⟩) (fun q => absurd hh q))
          refine Wp.brF rfl (by decide) ?_
          refine Wp.step rfl ?_
          refine Wp.call rfl (Nat.zero_le _) (M_fails0 X M Z ⟨_, _, rfl, ?_⟩)
          refine Wp.step rfl ?_
          have h9 := hQ (ma M 45) (fun _ _ => rfl) (nI (lk t n p))
          rw [mA_self] at h9
          exact Wp.fin rfl trivial h9
      have keyX2 : ∀ {d u : Nat} {X : pmXs} {M : pmMs} {Z : pmZs} {Q : pmO → Prop} {e B : Nat} {l6 : Option Value}, XT X t n → Wp (d + 8) u 105 108 [some (.ref 14), some (.int (nI 102)), some (.ref 20), some (.int (nI B)), some (.int (nI 4)), some (.int (G ||| nI 1 <<< (nI j &&& 31))), some (.int (nI j))] [.int (nI (H10.getD j 0)), .int (nI 0), .ref 14, .int (nI B + nI j), .ref 20] (hp (PX X (lk t n p + 1) e) M Z) Q → Wp (d + 8) u 105 31 [some (.ref 14), some (.int (nI 102)), some (.ref 20), some (.int (nI B)), some (.int (nI 4)), some (.int G), l6] [] (hp (PX X p e) M Z) Q := by
        intro d u X M Z Q e B l6 hT kk
        refine keyX hT ?_
        refine Wp.call rfl (Nat.zero_le _) (X_has _ _ (fun q => absurd q hh) (fun _ => ⟨_, _, rfl, ?_⟩))
        refine Wp.brF rfl (fun q => q rfl) ?_
        iterate 2 refine Wp.step rfl ?_
        refine Wp.call rfl (Nat.zero_le _) (X_byteHere X M Z hT ⟨_, _, rfl, ?_⟩ hln)
        rw [g2]
        refine Wp.call rfl (Nat.zero_le _) (X_item_102 g1 ⟨_, _, rfl, ?_⟩)
        rw [hf2]
        iterate 12 refine Wp.step rfl ?_
        refine Wp.putX rfl rfl rfl ?_
        rw [PX_inc]
        iterate 8 refine Wp.step rfl ?_
        refine Wp.call rfl (Nat.zero_le _) (X_hi_102 hj' ⟨_, _, rfl, ?_⟩)
        exact kk
      have keyM2 : ∀ {d u : Nat} {X : pmXs} {M : pmMs} {Z : pmZs} {Q : pmO → Prop} {e : Int32} {B : Nat}, MT M t n → Wp (d + 8) u 211 106 [some (.ref 35), some (.int (nI 102)), some (.ref 45), some (.int (nI B)), some (.ref 10), some (.int (G ||| nI 1 <<< (nI j &&& 31))), some (.int (nI j))] [.int (nI (H10.getD j 0)), .ref 35, .int (nI B + nI j), .ref 45] (hp X (KM M (nI (lk t n p + 1)) e (-1)) Z) Q → Wp (d + 8) u 211 45 [some (.ref 35), some (.int (nI 102)), some (.ref 45), some (.int (nI B)), some (.ref 10), some (.int G), some (.int (fnd (ch t n (lk t n p)) 0 L10))] [] (hp X (KM M (nI (lk t n p)) e (-1)) Z) Q := by
        intro d u X M Z Q e B hT kk
        rw [hf]
        iterate 2 refine Wp.step rfl ?_
        refine Wp.brF rfl hne ?_
        iterate 3 refine Wp.step rfl ?_
        refine Wp.brF rfl (fun q => q rfl) ?_
        iterate 2 refine Wp.step rfl ?_
        refine Wp.call rfl (Nat.zero_le _) (M_has _ _ (fun q => absurd q hh) (fun _ => ⟨_, _, rfl, ?_⟩))
        refine Wp.brT rfl rfl ?_
        iterate 11 refine Wp.step rfl ?_
        refine Wp.putM rfl rfl rfl ?_
        rw [KM_inc]
        iterate 7 refine Wp.step rfl ?_
        refine Wp.call rfl (Nat.zero_le _) (M_hi_102 hj' ⟨_, _, rfl, ?_⟩)
        exact kk
      have hhi : H10.getD j 0 ≤ 99 := by
        have hj2 : j = 0 ∨ j = 1 ∨ j = 2 ∨ j = 3 := by omega
        rcases hj2 with rfl | rfl | rfl | rfl <;> decide
      rcases num_pk hB (p := lk t n p + 1) (hi := H10.getD j 0) (by omega) hhi with ⟨q1, v, a1, a2, a3, aX, aM⟩ | ⟨q1, a1, a2, aX, aM⟩
      · have b0 := lk_ge t (n := n) (p := lk t n p + 1) (by omega)
        have hq1 := lk_ge t a2
        have hr2 : ∀ i, i < 4 → ∃ w, w ≤ H10.getD i 0 ∧ upd r j (nI v) i = nI w := by
          intro i hi
          by_cases hij : i = j
          · subst hij; exact ⟨v, a3, pk_us⟩
          · rw [pk_un hij]; exact hr i hi
        have upX : ∀ (f : Nat → Int32) (B : Nat), (∀ i, i < 4 → f (B + i) = r i) → ∀ i, i < 4 → upd f (B + j) (nI v) (B + i) = upd r j (nI v) i := by
          intro f B h i hi
          by_cases hij : i = j
          · subst hij; rw [pk_us, pk_us]
          · rw [pk_un (by omega), pk_un hij]; exact h i hi
        have upO : ∀ (f g : Nat → Int32) (B : Nat) (w : Int32), (∀ i, (i < B ∨ B + 4 ≤ i) → g i = upd f (B + j) w i) → ∀ i, (i < B ∨ B + 4 ≤ i) → g i = f i := by
          intro f g B w h i hi
          rw [h i hi, pk_un (by omega)]
        have nextM : ∀ {d u : Nat} {X : pmXs} {M : pmMs} {Z : pmZs} {Q : pmO → Prop} {e : Int32} {B : Nat}, MT M t n → B + 4 ≤ 32 → Wp (d + 8) u 211 45 [some (.ref 35), some (.int (nI 102)), some (.ref 45), some (.int (nI B)), some (.ref 10), some (.int (G ||| nI 1 <<< (nI j &&& 31))), some (.int (fnd (ch t n (lk t n q1)) 0 L10))] [] (hp X (KM (mA M 45 (upd (ma M 45) (B + j) (nI v))) (nI (lk t n q1)) e (-1)) Z) Q → Wp (d + 8) u 211 45 [some (.ref 35), some (.int (nI 102)), some (.ref 45), some (.int (nI B)), some (.ref 10), some (.int G), some (.int (fnd (ch t n (lk t n p)) 0 L10))] [] (hp X (KM M (nI (lk t n p)) e (-1)) Z) Q := by
          intro d u X M Z Q e B hT hBd kk
          refine keyM2 hT ?_
          refine Wp.call (u1 := 0) rfl (Nat.zero_le _) (aM _ _ X M Z _ e (by omega) hT ⟨_, _, rfl, ?_⟩)
          refine Wp.istM (k := B + j) rfl rfl rfl (nI_add B j) (by omega) (by decide) ?_
          iterate 3 refine Wp.step rfl ?_
          refine Wp.brF rfl (fun q => q rfl) ?_
          iterate 2 refine Wp.step rfl ?_
          refine Wp.call (u1 := 0) rfl (Nat.zero_le _) (M_look (e := e) (f := -1) X (mA M 45 (upd (ma M 45) (B + j) (nI v))) Z (MT_mA hT (by decide) (by decide)) a2 ⟨_, _, rfl, ?_⟩)
          refine Wp.call rfl (Nat.zero_le _) (M_spotOf (SB10 _ _ _) SA10 _ ⟨_, _, rfl, ?_⟩)
          iterate 2 refine Wp.step rfl ?_
          exact kk
        have nextX : ∀ {d u : Nat} {X : pmXs} {M : pmMs} {Z : pmZs} {Q : pmO → Prop} {e B : Nat} {l6 : Option Value}, XT X t n → B + 4 ≤ 32 → Wp (d + 8) u 105 31 [some (.ref 14), some (.int (nI 102)), some (.ref 20), some (.int (nI B)), some (.int (nI 4)), some (.int (G ||| nI 1 <<< (nI j &&& 31))), some (.int (nI j))] [] (hp (PX (xA X 20 (upd (xa X 20) (B + j) (nI v))) q1 e) M Z) Q → Wp (d + 8) u 105 31 [some (.ref 14), some (.int (nI 102)), some (.ref 20), some (.int (nI B)), some (.int (nI 4)), some (.int G), l6] [] (hp (PX X p e) M Z) Q := by
          intro d u X M Z Q e B l6 hT hBd kk
          refine keyX2 hT ?_
          refine Wp.call (u1 := 0) rfl (Nat.zero_le _) (aX _ _ X M Z _ e (by omega) hT ⟨_, _, rfl, ?_⟩)
          refine Wp.istX (k := B + j) rfl rfl rfl (nI_add B j) (by omega) (by decide) ?_
          refine Wp.step rfl ?_
          exact kk
        rcases ih q1 (G ||| nI 1 <<< (nI j &&& 31)) (upd r j (nI v)) (by omega) a2 hr2 with ⟨q, r', c1, c2, c3, c4, cX, cM⟩ | ⟨q, c1, c2, cX, cM⟩
        · refine Or.inl ⟨q, r', by omega, c2, c3, c4, ?_, ?_⟩
          · intro d u X M Z Q e B l6 hd hT hBd hX hQ
            obtain ⟨d, rfl⟩ : ∃ d0, d = d0 + 8 := ⟨d - 8, by omega⟩
            refine nextX hT hBd ?_
            refine cX _ _ (xA X 20 (upd (xa X 20) (B + j) (nI v))) M Z Q e B _ (by omega) hT hBd (by rw [xA_same]; exact upX _ _ hX) (fun f' y1 y2 => ?_)
            rw [xA_same] at y2
            rw [xA_xA]
            exact hQ f' y1 (upO _ _ _ _ y2)
          · rcases cM with cM | ⟨cI, cM⟩
            · refine Or.inl ?_
              intro d u X M Z Q e B hd hT hBd hM hQ
              obtain ⟨d, rfl⟩ : ∃ d0, d = d0 + 8 := ⟨d - 8, by omega⟩
              refine nextM hT hBd ?_
              refine cM _ _ X (mA M 45 (upd (ma M 45) (B + j) (nI v))) Z Q e B (by omega) (MT_mA hT (by decide) (by decide)) hBd (by rw [mA_same]; exact upX _ _ hM) (fun f' y1 y2 => ?_)
              rw [mA_same] at y2
              rw [mA_mA]
              exact hQ f' y1 (upO _ _ _ _ y2)
            · refine Or.inr ⟨cI, ?_⟩
              intro d u X M Z Q e B hd hT hBd hQ
              obtain ⟨d, rfl⟩ : ∃ d0, d = d0 + 8 := ⟨d - 8, by omega⟩
              refine nextM hT hBd ?_
              refine cM _ _ X (mA M 45 (upd (ma M 45) (B + j) (nI v))) Z Q e B (by omega) (MT_mA hT (by decide) (by decide)) hBd (fun f' y2 => ?_)
              rw [mA_same] at y2
              rw [mA_mA]
              exact hQ f' (upO _ _ _ _ y2)
        · refine Or.inr ⟨q, by omega, c2, ?_, ?_⟩
          · intro d u X M Z Q e B l6 hd hT hBd hQ
            obtain ⟨d, rfl⟩ : ∃ d0, d = d0 + 8 := ⟨d - 8, by omega⟩
            refine nextX hT hBd ?_
            refine cX _ _ (xA X 20 (upd (xa X 20) (B + j) (nI v))) M Z Q e B _ (by omega) hT hBd (fun f' y2 => ?_)
            rw [xA_same] at y2
            rw [xA_xA]
            exact hQ f' (upO _ _ _ _ y2)
          · intro d u X M Z Q e B hd hT hBd hQ
            obtain ⟨d, rfl⟩ : ∃ d0, d = d0 + 8 := ⟨d - 8, by omega⟩
            refine nextM hT hBd ?_
            refine cM _ _ X (mA M 45 (upd (ma M 45) (B + j) (nI v))) Z Q e B (by omega) (MT_mA hT (by decide) (by decide)) hBd (fun f' y2 => ?_)
            rw [mA_same] at y2
            rw [mA_mA]
            exact hQ f' (upO _ _ _ _ y2)
      · have b0 := lk_ge t (n := n) (p := lk t n p + 1) (by omega)
        refine Or.inr ⟨q1, by omega, a2, ?_, ?_⟩
        · intro d u X M Z Q e B l6 hd hT hBd hQ
          obtain ⟨d, rfl⟩ : ∃ d0, d = d0 + 8 := ⟨d - 8, by omega⟩
          refine keyX2 hT ?_
          have h9 := hQ (xa X 20) (fun _ _ => rfl)
          rw [xA_self] at h9
          refine Wp.callF (u1 := 0) rfl rfl (Nat.zero_le _) (aX _ _ X M Z _ e (by omega) hT (Or.inr ⟨_, _, rfl, h9⟩))
        · intro d u X M Z Q e B hd hT hBd hQ
          have h240 := MT_le hT
          obtain ⟨d, rfl⟩ : ∃ d0, d = d0 + 8 := ⟨d - 8, by omega⟩
          refine keyM2 hT ?_
          refine Wp.call (u1 := 0) rfl (Nat.zero_le _) (aM _ _ X M Z _ e (by omega) hT (fun w a => ⟨_, _, rfl, ?_⟩))
          refine Wp.istM (k := B + j) rfl rfl rfl (nI_add B j) (by omega) (by decide) ?_
          iterate 3 refine Wp.step rfl ?_
          refine Wp.brT rfl (nI_m1 (by omega)) ?_
          iterate 2 refine Wp.step rfl ?_
          refine Wp.brF rfl hne ?_
          iterate 3 refine Wp.step rfl ?_
          refine Wp.brT rfl (nI_m1 (by omega)) ?_
          have h9 := hQ (upd (ma M 45) (B + j) w) (fun i hi => pk_un (by omega)) a
          exact Wp.fin rfl trivial h9
