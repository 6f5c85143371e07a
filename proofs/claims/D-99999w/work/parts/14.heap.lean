/-! SOUNDNESS, third part: cells -/
theorem pm_clF {ci : Nat} {q : vw_C} (h : pm_cl[ci]? = some q) : (∀ w ∈ u_ws q.1 q.2.1 q.2.2, w ∈ lw_all) ∧ (∃ ty0 : Nat → FieldType, ∀ k, k < q.2.2 → parseFieldDescriptor (q.2.1 k).2.2.1 = some (ty0 k)) ∧ (∀ a, a < q.2.2 → ∀ b, b < q.2.2 → a ≠ b → (q.2.1 a).2.1 ≠ (q.2.1 b).2.1) := by
  have hq : q ∈ pm_cl := List.mem_of_getElem? h
  have e0 : ∀ (C : String) (T : u_T), (∀ w ∈ u_ws C T 0, w ∈ lw_all) ∧ (∃ ty0 : Nat → FieldType, ∀ k, k < 0 → parseFieldDescriptor (T k).2.2.1 = some (ty0 k)) ∧ (∀ a, a < 0 → ∀ b, b < 0 → a ≠ b → (T a).2.1 ≠ (T b).2.1) := fun C T => ⟨fun w h => by simp [u_ws] at h, ⟨fun _ => .int, fun k hk => absurd hk (Nat.not_lt_zero k)⟩, fun a ha => absurd ha (Nat.not_lt_zero a)⟩
  unfold pm_cl at hq
  simp only [List.mem_cons, List.not_mem_nil, or_false] at hq
  rcases hq with rfl | rfl | rfl | rfl | rfl | rfl | rfl | rfl | rfl | rfl | rfl | rfl
  · exact ⟨in_X1, ⟨tyX1, tyX1_ok⟩, nmX1⟩
  · exact ⟨in_X3, ⟨tyX3, tyX3_ok⟩, nmX3⟩
  · exact e0 _ _
  · exact e0 _ _
  · exact ⟨in_X5, ⟨tyX5, tyX5_ok⟩, nmX5⟩
  · exact ⟨in_X6, ⟨tyX6, tyX6_ok⟩, nmX6⟩
  · exact ⟨in_X7, ⟨tyX7, tyX7_ok⟩, nmX7⟩
  · exact ⟨in_X8, ⟨tyX8, tyX8_ok⟩, nmX8⟩
  · exact ⟨in_X9, ⟨tyX9, tyX9_ok⟩, nmX9⟩
  · exact ⟨in_X11, ⟨tyX11, tyX11_ok⟩, nmX11⟩
  · exact ⟨in_X12, ⟨tyX12, tyX12_ok⟩, nmX12⟩
  · exact ⟨in_X13, ⟨tyX13, tyX13_ok⟩, nmX13⟩
theorem pm_14 {a : Nat} (h : a < 14) : a = 0 ∨ a = 1 ∨ a = 2 ∨ a = 3 ∨ a = 4 ∨ a = 5 ∨ a = 6 ∨ a = 7 ∨ a = 8 ∨ a = 9 ∨ a = 10 ∨ a = 11 ∨ a = 12 ∨ a = 13 := by omega
theorem pm_ro_inr {sc : Nat × (Nat → Int32)} {a ci : Nat} {fs : List Value} (h : (pm_ro sc)[a]? = some (.inr (ci, fs))) : ci = 12 ∧ ∃ i, i < 6 ∧ a = 2 + 2 * i ∧ fs = [.ref (3 + 2 * i), .int 0] := by
  have ha : a < 14 := (List.getElem?_eq_some_iff.mp h).1
  rcases pm_14 ha with rfl | rfl | rfl | rfl | rfl | rfl | rfl | rfl | rfl | rfl | rfl | rfl | rfl | rfl <;> cases h
  · exact ⟨rfl, 0, by decide, rfl, rfl⟩
  · exact ⟨rfl, 1, by decide, rfl, rfl⟩
  · exact ⟨rfl, 2, by decide, rfl, rfl⟩
  · exact ⟨rfl, 3, by decide, rfl, rfl⟩
  · exact ⟨rfl, 4, by decide, rfl, rfl⟩
  · exact ⟨rfl, 5, by decide, rfl, rfl⟩
theorem pm_ro_inl {sc : Nat × (Nat → Int32)} {a kd n : Nat} {f : (Nat → Int32) ⊕ (Nat → Int64) ⊕ (Nat → UInt32) ⊕ (Nat → UInt64) ⊕ (Nat → Option Nat)} (h : (pm_ro sc)[a]? = some (.inl (kd, n, f))) : (kd = 9 ∧ a = 0) ∨ (kd = 4 ∧ a = 1 ∧ n = sc.1 ∧ f = .inl sc.2) ∨ (kd = 5 ∧ ∃ i, i < 6 ∧ a = 3 + 2 * i ∧ n = pm_lens.getD i 0 ∧ f = .inl (fun j => (pm_byts.getD i []).getD j 0)) := by
  have ha : a < 14 := (List.getElem?_eq_some_iff.mp h).1
  rcases pm_14 ha with rfl | rfl | rfl | rfl | rfl | rfl | rfl | rfl | rfl | rfl | rfl | rfl | rfl | rfl <;> cases h
  · exact Or.inl ⟨rfl, rfl⟩
  · exact Or.inr (Or.inl ⟨rfl, rfl, rfl, rfl⟩)
  · exact Or.inr (Or.inr ⟨rfl, 0, by decide, rfl, rfl, rfl⟩)
  · exact Or.inr (Or.inr ⟨rfl, 1, by decide, rfl, rfl, rfl⟩)
  · exact Or.inr (Or.inr ⟨rfl, 2, by decide, rfl, rfl, rfl⟩)
  · exact Or.inr (Or.inr ⟨rfl, 3, by decide, rfl, rfl, rfl⟩)
  · exact Or.inr (Or.inr ⟨rfl, 4, by decide, rfl, rfl, rfl⟩)
  · exact Or.inr (Or.inr ⟨rfl, 5, by decide, rfl, rfl, rfl⟩)
theorem pm_wf_get {sc : Nat × (Nat → Int32)} {h : pmH} (w : pm_wf sc h) {a : Nat} {c : va_E} (hc : h[a]? = some c) : pm_wc h.length c := w.1 c (List.mem_of_getElem? hc)
theorem pm_wf_set {sc : Nat × (Nat → Int32)} {h : pmH} (w : pm_wf sc h) {a : Nat} {c : va_E} (ha : 14 ≤ a) (hc : pm_wc h.length c) : pm_wf sc (h.set a c) := by
  refine ⟨fun x hx => ?_, ?_⟩
  · rw [List.length_set]
    rcases List.mem_or_eq_of_mem_set hx with q | q
    · exact w.1 x q
    · rw [q]; exact hc
  · rw [← w.2]
    apply List.ext_getElem?
    intro j
    by_cases hj : j < 14
    · rw [List.getElem?_take_of_lt hj, List.getElem?_take_of_lt hj, List.getElem?_set_ne (by omega)]
    · rw [List.getElem?_eq_none (by rw [List.length_take]; omega), List.getElem?_eq_none (by rw [List.length_take]; omega)]
theorem pm_wf_push {sc : Nat × (Nat → Int32)} {h : pmH} (w : pm_wf sc h) {c : va_E} (hc : pm_wc (h.length + 1) c) : pm_wf sc (h ++ [c]) := by
  refine ⟨fun x hx => ?_, ?_⟩
  · rw [List.length_append]
    rcases List.mem_append.mp hx with q | q
    · exact pm_wc_mono (Nat.le_add_right _ _) (w.1 x q)
    · rw [List.mem_singleton.mp q]; exact hc
  · rw [List.take_append_of_le_length (pm_wf_len w)]
    exact w.2
theorem pm_find_mem {tb : List (Nat × Nat)} {ci k : Nat} (h : pm_find tb ci = some k) : (ci, k) ∈ tb := by
  induction tb with
  | nil => cases h
  | cons a l ih =>
    obtain ⟨x, y⟩ := a
    unfold pm_find at h
    rcases pm_bif h with ⟨hb, h⟩ | ⟨hb, h⟩
    · cases h
      rw [Nat.eq_of_beq_eq_true hb]
      exact List.mem_cons_self
    · exact List.mem_cons_of_mem _ (ih h)
theorem pm_4 {k : Nat} (h : k < 4) : k = 0 ∨ k = 1 ∨ k = 2 ∨ k = 3 := by omega
theorem pm_ne {a : Nat} (h : 14 ≤ a) : a ≠ 0 := Nat.ne_of_gt (Nat.lt_of_lt_of_le (by decide) h)
theorem pm_ne2 (i : Nat) : 2 + 2 * i ≠ 0 := by omega
theorem pm_ne3 (i : Nat) : 3 + 2 * i ≠ 0 := by omega
theorem pm_cv_ref {sv : Value} {ad : Nat → Nat} {a : Nat} (h : a ≠ 0) : pm_cv sv ad (.ref a) = .ref (ad a) := if_neg h
theorem pm_fit_cv {sv : Value} (hsv : sv = .null ∨ ∃ a, sv = .ref a) {ad : Nat → Nat} {n : Nat} {v : Value} (h : pm_fit n v) : pm_fit n (pm_cv sv ad v) := by
  cases v with
  | ref k =>
    have h1 : n = 1 := by
      unfold pm_fit at h
      split at h <;> first | rfl | (rename_i q; cases q) | exact h.elim | skip
      all_goals first | rfl | exact h.elim | simp_all
    subst h1
    rcases pm_cv_isR hsv ad k with q | ⟨b, q⟩ <;> rw [q] <;> trivial
  | _ => exact h
section PMH
variable {D : va_G} {ac : Nat → ClassId} {b0 : Nat} {aR : Nat → Nat} {sv : Value} {sc : Nat × (Nat → Int32)} {ad0 : Nat → Nat} {n0 : Nat} {Q : pmO → Prop} {mi d mc ms : Nat}
variable {p : Program} {l : Launch} {e : Env} {R : Room} {s : State} {m : MethodId} {args : Array Value} {below : List Frame} {meth : Method} {c : Code}
theorem pm_q_get {tb : List (Nat × Nat)} {idx pc k pc' u : Nat} {P : Prop} {L L' : pmL} {st st' : List Value} {h h' : pmH} (X : pm_Cx D ac b0 aR sv sc mi d mc ms p l R s m args meth c) (hV : ∀ q ∈ tb, pm_GV (pm_info mi).2.2.2.2.2.1 idx q) (hd : decode (pm_info mi).2.1 pc = .ok (.getfield idx, 3)) (hs : pm_get (pc + 3) tb L st h = some (P, k, pc', L', st', h')) (kk : pm_G D ac b0 aR sv sc ad0 n0 Q mi mc ms p l e R s m args below meth c (u - k) pc' L' st' h') : pm_G D ac b0 aR sv sc ad0 n0 Q mi mc ms p l e R s m args below meth c u pc L st h := by
  obtain ⟨hx, hb, -, -, -, hown, hts, -, -, -, -, -, -, -, hE, -⟩ := X
  unfold pm_get at hs
  split at hs
  · rename_i a r
    split at hs
    · rename_i ci fs hc
      split at hs
      · rename_i k1 hk1
        split at hs
        · rename_i v hv
          cases hs
          rw [pm_nth_eq] at hc hv
          intro ad H locs cells slots ls h1 h2 h3 h4 h5 h6 h7 h8 h9
          have hwv : pm_wv h.length v := by
            have := pm_wf_get h3.2.2.1 hc
            exact this v (List.mem_of_getElem? hv)
          have k9 := kk ad H locs cells slots ls h1 h2 h3 h4 h5 h6 (pm_wst_c hwv (pm_wst_t h7)) h8 h9
          rcases hV _ (pm_find_mem hk1) with ⟨C, T, N, g1, g2, g3⟩ | ⟨g1, g2, g3⟩
          · have ha : 14 ≤ a := by
              rcases Nat.lt_or_ge a 14 with q | q
              · rw [pm_wf_ro h3.2.2.1 q] at hc
                have := (pm_ro_inr hc).1
                have g9 := (List.getElem?_eq_some_iff.mp g1).1
                simp only at g9
                rw [this] at g9
                exact absurd g9 (by decide)
              · exact q
            have he := pm_ws_get (ac := ac) (sv := sv) (ad := ad) ha hc
            have hv9 : (fs.map (pm_cv sv ad))[k1]? = some (pm_cv sv ad v) := by rw [List.getElem?_map, hv]; rfl
            rw [List.map_cons, pm_cv_ref (pm_ne ha)]
            rcases g3 with g3 | ⟨host, g3⟩
            · exact va_get (Ts := lw_all) (ref := (T k1).1) hx hb hts (pm_clF g1).1 hown hE.1 h3.1 (a - 14) he g1 k1 g2 (hts _ g3) (fun x q => q) hv9 hd k9
            · exact va_getN (Ts := lw_all) (ref := (T k1).1) (host := host) hx hb hts (pm_clF g1).1 hown hE.1 h3.1 (a - 14) he g1 k1 g2 (va_Nw.use rfl (hE.2.1.2.1 _ g3)) (fun x q => q) hv9 hd k9
          · have ha : a < 14 ∨ 14 ≤ a := Nat.lt_or_ge a 14
            rcases ha with ha | ha
            · rw [pm_wf_ro h3.2.2.1 ha] at hc
              obtain ⟨-, i, hi, ea, ef⟩ := pm_ro_inr hc
              subst ea
              obtain ⟨hO, hco, hva, -⟩ := hE.2.2.2.2.2.1.1 i hi
              rw [List.map_cons, pm_cv_ref (pm_ne2 i), h3.2.2.2 _ ha]
              rcases g3 with ⟨q1, q2⟩ | ⟨q1, q2⟩
              · simp only at q1
                subst q1
                rw [ef] at hv
                cases hv
                rw [List.map_cons, pm_cv_ref (pm_ne3 i), h3.2.2.2 _ (by omega)] at k9
                exact vk_getf (ref := "java/lang/String") hx hb hva h4 hown (hts _ q2) (fun x q => q) hd k9
              · simp only at q1
                subst q1
                rw [ef] at hv
                cases hv
                exact vk_getf (ref := "java/lang/String") hx hb hco h4 hown (hts _ q2) (fun x q => q) hd k9
            · exfalso
              obtain ⟨r9, q1, -⟩ := h3.1 _ _ (pm_ws_get (ac := ac) (sv := sv) (ad := ad) ha hc)
              simp only at g1
              rw [g1] at q1
              exact absurd (show 12 < pm_cl.length from (List.getElem?_eq_some_iff.mp q1).1) (by decide)
        · cases hs
      · cases hs
    · cases hs
  · cases hs
theorem pm_M_set {ad : Nat → Nat} {h : pmH} {H H1 : Heap} {a : Nat} {c0 c1 : va_E} (h3 : pm_M D ac b0 aR sv sc ad h H) (ha : 14 ≤ a) (hc : h[a]? = some c0) (hw : pm_wc h.length c1)
    (hP : va_P D pm_cl ((pm_ws ac sv ad h).set (a - 14) (ad a, pm_cc ac sv ad c1)) H1) (hD : va_D (pm_A b0) ((pm_ws ac sv ad h).set (a - 14) (ad a, pm_cc ac sv ad c1))) : pm_M D ac b0 aR sv sc ad (h.set a c1) H1 := by
  rw [← pm_ws_set ha hc] at hP hD
  exact ⟨hP, hD, pm_wf_set h3.2.2.1 ha hw, h3.2.2.2⟩
theorem pm_wl_len {h : pmH} {a : Nat} {c1 : va_E} {L : pmL} (h6 : pm_wl h.length L) : pm_wl (h.set a c1).length L := by rw [List.length_set]; exact h6
theorem pm_wst_len {h : pmH} {a : Nat} {c1 : va_E} {L : List Value} (h6 : pm_wst h.length L) : pm_wst (h.set a c1).length L := by rw [List.length_set]; exact h6
theorem pm_q_put {tb : List (Nat × Nat)} {idx n pc k pc' u : Nat} {P : Prop} {L L' : pmL} {st st' : List Value} {h h' : pmH} (X : pm_Cx D ac b0 aR sv sc mi d mc ms p l R s m args meth c) (hV : ∀ q ∈ tb, pm_PV (pm_info mi) idx n q) (hd : decode (pm_info mi).2.1 pc = .ok (.putfield idx, 3)) (hs : pm_put (pc + 3) n tb L st h = some (P, k, pc', L', st', h')) (hP0 : P) (kk : pm_G D ac b0 aR sv sc ad0 n0 Q mi mc ms p l e R s m args below meth c (u - k) pc' L' st' h') : pm_G D ac b0 aR sv sc ad0 n0 Q mi mc ms p l e R s m args below meth c u pc L st h := by
  obtain ⟨hx, hb, -, -, -, hown, hts, hnm, -, -, -, -, -, -, hE, -⟩ := X
  have hsv := hE.2.2.2.2.2.2.2.2.2.2.2
  unfold pm_put at hs
  split at hs
  · rename_i v a r
    split at hs
    · rename_i ci fs hc
      split at hs
      · rename_i k1 hk1
        rcases pm_bif hs with ⟨hb1, hs⟩ | ⟨hb1, hs⟩
        · cases hs
          rw [pm_nth_eq] at hc
          intro ad H locs cells slots ls h1 h2 h3 h4 h5 h6 h7 h8 h9
          obtain ⟨C, T, N, ty, g1, g2, g3, g4, g5, g6⟩ := hV _ (pm_find_mem hk1)
          have ha : 14 ≤ a := by
            rcases Nat.lt_or_ge a 14 with q | q
            · rw [pm_wf_ro h3.2.2.1 q] at hc
              have := (pm_ro_inr hc).1
              have g9 := (List.getElem?_eq_some_iff.mp g1).1
              simp only at g9
              rw [this] at g9
              exact absurd g9 (by decide)
            · exact q
          have he := pm_ws_get (ac := ac) (sv := sv) (ad := ad) ha hc
          obtain ⟨f1, f2⟩ := g6 _ (pm_fit_cv hsv (ad := ad) hP0)
          obtain ⟨i1, ⟨ty0, i2⟩, i3⟩ := pm_clF g1
          have hl : k1 < (fs.map (pm_cv sv ad)).length := by rw [List.length_map]; exact pm_blt hb1
          have hw : pm_wc h.length (.inr (ci, pm_set fs k1 v)) := by
            intro x hx
            rw [pm_set_eq] at hx
            rcases List.mem_or_eq_of_mem_set hx with q | q
            · exact pm_wf_get h3.2.2.1 hc x q
            · rw [q]; exact pm_wst_h h7
          have hcc : pm_cc ac sv ad (.inr (ci, pm_set fs k1 v)) = .inr (ci, (fs.map (pm_cv sv ad)).set k1 (pm_cv sv ad v)) := by
            show (Sum.inr (ci, (pm_set fs k1 v).map (pm_cv sv ad)) : va_E) = _
            rw [pm_set_eq, List.map_set]
          have fin : ∀ (H1 : Heap) (locs1 : List Loc), va_P D pm_cl ((pm_ws ac sv ad h).set (a - 14) (ad a, .inr (ci, (fs.map (pm_cv sv ad)).set k1 (pm_cv sv ad v)))) H1 → va_D (pm_A b0) ((pm_ws ac sv ad h).set (a - 14) (ad a, .inr (ci, (fs.map (pm_cv sv ad)).set k1 (pm_cv sv ad v)))) → va_S (pm_A b0) s.heap H1 locs1 → W p l e R s m args below meth c H1 locs1 cells slots (pm_WQ D ac b0 aR sv sc ad0 n0 Q mc ms s args below) (F0 m (pc + 3) ls (st'.map (pm_cv sv ad))) := by
            intro H1 locs1 q1 q2 q3
            rw [← hcc] at q1 q2
            have hM := pm_M_set h3 ha hc hw q1 q2
            have k9 := kk ad H1 locs1 cells slots ls h1 (by rw [pm_set_eq, List.length_set]; exact h2) (by rw [pm_set_eq]; exact hM) q3 h5 (by rw [pm_set_eq]; exact pm_wl_len h6) (by rw [pm_set_eq]; exact pm_wst_len (pm_wst_t (pm_wst_t h7))) h8 h9
            exact k9
          rw [List.map_cons, List.map_cons, pm_cv_ref (pm_ne ha)]
          rcases g4 with g4 | ⟨g41, g42, g43⟩
          · rcases g3 with g3 | ⟨host, g3⟩
            · exact va_put (Ts := lw_all) (ref := (T k1).1) hx hb hts i1 ty0 i2 i3 hown hE.1 h3.1 h3.2.1 h4 (a - 14) he g1 k1 g2 (hts _ g3) (fun x q => q) g4 g5 f1 f2 hl hd fin
            · exact va_putN (Ts := lw_all) (ref := (T k1).1) (host := host) hx hb hts i1 ty0 i2 i3 hown hE.1 h3.1 h3.2.1 h4 (a - 14) he g1 k1 g2 (va_Nw.use rfl (hE.2.1.2.1 _ g3)) (fun x q => q) g4 g5 f1 f2 hl hd fin
          · by_cases hfl : (T k1).2.2.2 = false
            · exact va_put (Ts := lw_all) (ref := (T k1).1) hx hb hts i1 ty0 i2 i3 hown hE.1 h3.1 h3.2.1 h4 (a - 14) he g1 k1 g2 (hts _ g43) (fun x q => q) hfl g5 f1 f2 hl hd fin
            · exact va_putF (Ts := lw_all) (ref := (T k1).1) hx hb hts i1 ty0 i2 i3 hown hE.1 h3.1 h3.2.1 h4 (a - 14) he g1 k1 g2 (hts _ g43) (fun x q => q) (by cases hz : (T k1).2.2.2 with | true => rfl | false => exact absurd hz hfl) (hnm.trans g42) g41 g5 f1 f2 hl hd fin
        · cases hs
      · cases hs
    · cases hs
  · cases hs
theorem pm_or2 {a b : Bool} (h : (a || b) = true) : a = true ∨ b = true := by
  cases a <;> cases b <;> simp_all
theorem pm_dyn {h : pmH} (w : pm_wf sc h) {a kd n : Nat} {f : (Nat → Int32) ⊕ (Nat → Int64) ⊕ (Nat → UInt32) ⊕ (Nat → UInt64) ⊕ (Nat → Option Nat)} (hc : h[a]? = some (.inl (kd, n, f))) (hk : kd < 4) : 14 ≤ a := by
  rcases Nat.lt_or_ge a 14 with q | q
  · rw [pm_wf_ro w q] at hc
    rcases pm_ro_inl hc with ⟨e, -⟩ | ⟨e, -⟩ | ⟨e, -⟩ <;> omega
  · exact q
theorem pm_q_iald {pc k pc' u : Nat} {P : Prop} {L L' : pmL} {st st' : List Value} {h h' : pmH} (X : pm_Cx D ac b0 aR sv sc mi d mc ms p l R s m args meth c) (hd : decode (pm_info mi).2.1 pc = .ok (.iaload, 1)) (hs : pm_ild (pc + 1) 0 4 L st h = some (P, k, pc', L', st', h')) (hP0 : P) (kk : pm_G D ac b0 aR sv sc ad0 n0 Q mi mc ms p l e R s m args below meth c (u - k) pc' L' st' h') : pm_G D ac b0 aR sv sc ad0 n0 Q mi mc ms p l e R s m args below meth c u pc L st h := by
  obtain ⟨hx, hb, -, -, -, hown, hts, hnm, -, -, -, -, -, -, hE, -⟩ := X
  unfold pm_ild at hs
  split at hs
  · rename_i i a r
    split at hs
    · rename_i kd n f hc
      rcases pm_bif hs with ⟨hb1, hs⟩ | ⟨hb1, hs⟩
      · cases hs
        rw [pm_nth_eq] at hc
        intro ad H locs cells slots ls h1 h2 h3 h4 h5 h6 h7 h8 h9
        have k9 := kk ad H locs cells slots ls h1 h2 h3 h4 h5 h6 (pm_wst_c trivial (pm_wst_t (pm_wst_t h7))) h8 h9
        rcases pm_or2 hb1 with z | z
        · have hk := Nat.eq_of_beq_eq_true z
          subst hk
          have ha := pm_dyn h3.2.2.1 hc (by decide)
          rw [List.map_cons, List.map_cons, pm_cv_ref (pm_ne ha)]
          exact va_iald hx hb hE.1 h3.1 (a - 14) 0 (pm_ws_get (ac := ac) (sv := sv) (ad := ad) ha hc) rfl hP0 hd k9
        · obtain ⟨z1, z2⟩ := pm_and2 z
          have hk := Nat.eq_of_beq_eq_true z1
          have ha := pm_blt z2
          subst hk
          rw [pm_wf_ro h3.2.2.1 ha] at hc
          rcases pm_ro_inl hc with ⟨q1, q2⟩ | ⟨q1, q2, q3, q4⟩ | ⟨q1, q2⟩
          · cases q1
          · subst q2; subst q3; cases q4
            rw [List.map_cons, List.map_cons, pm_cv_ref (by decide), h3.2.2.2 _ ha]
            exact va_sld hx hb hE.2.2.1 (Nat.lt_of_lt_of_le hE.2.2.2.1 hE.2.2.2.2.1) (fun q => absurd hE.2.2.2.1 (Nat.not_lt.mpr q)) h4 hP0 hd k9
          · cases q1
      · cases hs
    · cases hs
  · cases hs
theorem pm_q_bald {pc k pc' u : Nat} {P : Prop} {L L' : pmL} {st st' : List Value} {h h' : pmH} (X : pm_Cx D ac b0 aR sv sc mi d mc ms p l R s m args meth c) (hd : decode (pm_info mi).2.1 pc = .ok (.baload, 1)) (hs : pm_ild (pc + 1) 1 5 L st h = some (P, k, pc', L', st', h')) (hP0 : P) (kk : pm_G D ac b0 aR sv sc ad0 n0 Q mi mc ms p l e R s m args below meth c (u - k) pc' L' st' h') : pm_G D ac b0 aR sv sc ad0 n0 Q mi mc ms p l e R s m args below meth c u pc L st h := by
  obtain ⟨hx, hb, -, -, -, hown, hts, hnm, -, -, -, -, -, -, hE, -⟩ := X
  unfold pm_ild at hs
  split at hs
  · rename_i i a r
    split at hs
    · rename_i kd n f hc
      rcases pm_bif hs with ⟨hb1, hs⟩ | ⟨hb1, hs⟩
      · cases hs
        rw [pm_nth_eq] at hc
        intro ad H locs cells slots ls h1 h2 h3 h4 h5 h6 h7 h8 h9
        have k9 := kk ad H locs cells slots ls h1 h2 h3 h4 h5 h6 (pm_wst_c trivial (pm_wst_t (pm_wst_t h7))) h8 h9
        rcases pm_or2 hb1 with z | z
        · have hk := Nat.eq_of_beq_eq_true z
          subst hk
          have ha := pm_dyn h3.2.2.1 hc (by decide)
          rw [List.map_cons, List.map_cons, pm_cv_ref (pm_ne ha)]
          exact va_bald hx hb hE.1 h3.1 (a - 14) 1 (pm_ws_get (ac := ac) (sv := sv) (ad := ad) ha hc) rfl hP0 hd k9
        · obtain ⟨z1, z2⟩ := pm_and2 z
          have hk := Nat.eq_of_beq_eq_true z1
          have ha := pm_blt z2
          subst hk
          rw [pm_wf_ro h3.2.2.1 ha] at hc
          rcases pm_ro_inl hc with ⟨q1, q2⟩ | ⟨q1, q2, q3, q4⟩ | ⟨q1, j, hj, q2, q3, q4⟩
          · cases q1
          · cases q1
          · subst q2; subst q3; cases q4
            obtain ⟨hO, hco, hva, hT⟩ := hE.2.2.2.2.2.1.1 j hj
            rw [List.map_cons, List.map_cons, pm_cv_ref (pm_ne3 j), h3.2.2.2 _ ha]
            exact va_tb hx hb hT h4 hP0 rfl hd k9
      · cases hs
    · cases hs
  · cases hs
theorem pm_q_lald {pc k pc' u : Nat} {P : Prop} {L L' : pmL} {st st' : List Value} {h h' : pmH} (X : pm_Cx D ac b0 aR sv sc mi d mc ms p l R s m args meth c) (hd : decode (pm_info mi).2.1 pc = .ok (.laload, 1)) (hs : pm_lld (pc + 1) L st h = some (P, k, pc', L', st', h')) (hP0 : P) (kk : pm_G D ac b0 aR sv sc ad0 n0 Q mi mc ms p l e R s m args below meth c (u - k) pc' L' st' h') : pm_G D ac b0 aR sv sc ad0 n0 Q mi mc ms p l e R s m args below meth c u pc L st h := by
  obtain ⟨hx, hb, -, -, -, hown, hts, hnm, -, -, -, -, -, -, hE, -⟩ := X
  unfold pm_lld at hs
  split at hs
  · rename_i i a r
    split at hs
    · rename_i n f hc
      cases hs
      rw [pm_nth_eq] at hc
      intro ad H locs cells slots ls h1 h2 h3 h4 h5 h6 h7 h8 h9
      have k9 := kk ad H locs cells slots ls h1 h2 h3 h4 h5 h6 (pm_wst_c trivial (pm_wst_t (pm_wst_t h7))) h8 h9
      have ha := pm_dyn h3.2.2.1 hc (by decide)
      rw [List.map_cons, List.map_cons, pm_cv_ref (pm_ne ha)]
      exact va_lald hx hb hE.1 h3.1 (a - 14) 2 (pm_ws_get (ac := ac) (sv := sv) (ad := ad) ha hc) rfl hP0 hd k9
    · cases hs
  · cases hs
theorem pm_q_aald {pc k pc' u : Nat} {P : Prop} {L L' : pmL} {st st' : List Value} {h h' : pmH} (X : pm_Cx D ac b0 aR sv sc mi d mc ms p l R s m args meth c) (hd : decode (pm_info mi).2.1 pc = .ok (.aaload, 1)) (hs : pm_ald (pc + 1) L st h = some (P, k, pc', L', st', h')) (hP0 : P) (kk : pm_G D ac b0 aR sv sc ad0 n0 Q mi mc ms p l e R s m args below meth c (u - k) pc' L' st' h') : pm_G D ac b0 aR sv sc ad0 n0 Q mi mc ms p l e R s m args below meth c u pc L st h := by
  obtain ⟨hx, hb, -, -, -, hown, hts, hnm, -, -, -, -, -, -, hE, -⟩ := X
  unfold pm_ald at hs
  split at hs
  · rename_i i a r
    split at hs
    · rename_i n f hc
      cases hs
      rw [pm_nth_eq] at hc
      intro ad H locs cells slots ls h1 h2 h3 h4 h5 h6 h7 h8 h9
      have hw := pm_wf_get h3.2.2.1 hc
      have hwv : pm_wv h.length (va_rf (f i.toNatClampNeg)) := by
        cases hf : f i.toNatClampNeg with
        | none => trivial
        | some q => exact (hw _ _ hf).1
      have hcv : pm_cv sv ad (va_rf (f i.toNatClampNeg)) = va_rf ((f i.toNatClampNeg).map ad) := by
        cases hf : f i.toNatClampNeg with
        | none => rfl
        | some q => exact pm_cv_ref (Nat.ne_of_gt (hw _ _ hf).2)
      have k9 := kk ad H locs cells slots ls h1 h2 h3 h4 h5 h6 (pm_wst_c hwv (pm_wst_t (pm_wst_t h7))) h8 h9
      rw [List.map_cons, hcv] at k9
      have ha := pm_dyn h3.2.2.1 hc (by decide)
      rw [List.map_cons, List.map_cons, pm_cv_ref (pm_ne ha)]
      exact va_aldq (C := RX9) hx hb hE.1 h3.1 (a - 14) 3 (pm_ws_get (ac := ac) (sv := sv) (ad := ad) ha hc) rfl hP0 hd k9
    · cases hs
  · cases hs
theorem pm_q_iast {pc k pc' u : Nat} {P : Prop} {L L' : pmL} {st st' : List Value} {h h' : pmH} (X : pm_Cx D ac b0 aR sv sc mi d mc ms p l R s m args meth c) (hd : decode (pm_info mi).2.1 pc = .ok (.iastore, 1)) (hs : pm_ist (pc + 1) L st h = some (P, k, pc', L', st', h')) (hP0 : P) (kk : pm_G D ac b0 aR sv sc ad0 n0 Q mi mc ms p l e R s m args below meth c (u - k) pc' L' st' h') : pm_G D ac b0 aR sv sc ad0 n0 Q mi mc ms p l e R s m args below meth c u pc L st h := by
  obtain ⟨hx, hb, -, -, -, hown, hts, hnm, -, -, -, -, -, -, hE, -⟩ := X
  unfold pm_ist at hs
  split at hs
  · rename_i x i a r
    split at hs
    · rename_i n f hc
      cases hs
      rw [pm_nth_eq] at hc
      intro ad H locs cells slots ls h1 h2 h3 h4 h5 h6 h7 h8 h9
      have ha := pm_dyn h3.2.2.1 hc (by decide)
      rw [List.map_cons, List.map_cons, List.map_cons, pm_cv_ref (pm_ne ha)]
      refine va_iast hx hb hE.1 h3.1 h3.2.1 h4 (a - 14) 0 (pm_ws_get (ac := ac) (sv := sv) (ad := ad) ha hc) rfl hP0 hd fun H1 locs1 q1 q2 q3 => ?_
      have hM := pm_M_set (c1 := .inl (0, n, .inl (upd f i.toNatClampNeg x))) h3 ha hc trivial q1 q2
      rw [← pm_set_eq] at hM
      exact kk ad H1 locs1 cells slots ls h1 (by rw [pm_set_eq, List.length_set]; exact h2) hM q3 h5 (by rw [pm_set_eq]; exact pm_wl_len h6) (by rw [pm_set_eq]; exact pm_wst_len (pm_wst_t (pm_wst_t (pm_wst_t h7)))) h8 h9
    · cases hs
  · cases hs
theorem pm_q_bast {pc k pc' u : Nat} {P : Prop} {L L' : pmL} {st st' : List Value} {h h' : pmH} (X : pm_Cx D ac b0 aR sv sc mi d mc ms p l R s m args meth c) (hd : decode (pm_info mi).2.1 pc = .ok (.bastore, 1)) (hs : pm_bst (pc + 1) L st h = some (P, k, pc', L', st', h')) (hP0 : P) (kk : pm_G D ac b0 aR sv sc ad0 n0 Q mi mc ms p l e R s m args below meth c (u - k) pc' L' st' h') : pm_G D ac b0 aR sv sc ad0 n0 Q mi mc ms p l e R s m args below meth c u pc L st h := by
  obtain ⟨hx, hb, -, -, -, hown, hts, hnm, -, -, -, -, -, -, hE, -⟩ := X
  unfold pm_bst at hs
  split at hs
  · rename_i x i a r
    split at hs
    · rename_i n f hc
      cases hs
      rw [pm_nth_eq] at hc
      intro ad H locs cells slots ls h1 h2 h3 h4 h5 h6 h7 h8 h9
      have ha := pm_dyn h3.2.2.1 hc (by decide)
      rw [List.map_cons, List.map_cons, List.map_cons, pm_cv_ref (pm_ne ha)]
      refine va_bast hx hb hE.1 h3.1 h3.2.1 h4 (a - 14) 1 (pm_ws_get (ac := ac) (sv := sv) (ad := ad) ha hc) rfl hP0 hd fun H1 locs1 q1 q2 q3 => ?_
      have hM := pm_M_set (c1 := .inl (1, n, .inl (upd f i.toNatClampNeg (vp_nar .byte x)))) h3 ha hc trivial q1 q2
      rw [← pm_set_eq] at hM
      exact kk ad H1 locs1 cells slots ls h1 (by rw [pm_set_eq, List.length_set]; exact h2) hM q3 h5 (by rw [pm_set_eq]; exact pm_wl_len h6) (by rw [pm_set_eq]; exact pm_wst_len (pm_wst_t (pm_wst_t (pm_wst_t h7)))) h8 h9
    · cases hs
  · cases hs
theorem pm_q_last {pc k pc' u : Nat} {P : Prop} {L L' : pmL} {st st' : List Value} {h h' : pmH} (X : pm_Cx D ac b0 aR sv sc mi d mc ms p l R s m args meth c) (hd : decode (pm_info mi).2.1 pc = .ok (.lastore, 1)) (hs : pm_lst (pc + 1) L st h = some (P, k, pc', L', st', h')) (hP0 : P) (kk : pm_G D ac b0 aR sv sc ad0 n0 Q mi mc ms p l e R s m args below meth c (u - k) pc' L' st' h') : pm_G D ac b0 aR sv sc ad0 n0 Q mi mc ms p l e R s m args below meth c u pc L st h := by
  obtain ⟨hx, hb, -, -, -, hown, hts, hnm, -, -, -, -, -, -, hE, -⟩ := X
  unfold pm_lst at hs
  split at hs
  · rename_i x i a r
    split at hs
    · rename_i n f hc
      cases hs
      rw [pm_nth_eq] at hc
      intro ad H locs cells slots ls h1 h2 h3 h4 h5 h6 h7 h8 h9
      have ha := pm_dyn h3.2.2.1 hc (by decide)
      rw [List.map_cons, List.map_cons, List.map_cons, pm_cv_ref (pm_ne ha)]
      refine va_last hx hb hE.1 h3.1 h3.2.1 h4 (a - 14) 2 (pm_ws_get (ac := ac) (sv := sv) (ad := ad) ha hc) rfl hP0 hd fun H1 locs1 q1 q2 q3 => ?_
      have hM := pm_M_set (c1 := .inl (2, n, .inr (.inl (vp_updL f i.toNatClampNeg x)))) h3 ha hc trivial q1 q2
      rw [← pm_set_eq] at hM
      exact kk ad H1 locs1 cells slots ls h1 (by rw [pm_set_eq, List.length_set]; exact h2) hM q3 h5 (by rw [pm_set_eq]; exact pm_wl_len h6) (by rw [pm_set_eq]; exact pm_wst_len (pm_wst_t (pm_wst_t (pm_wst_t h7)))) h8 h9
    · cases hs
  · cases hs
theorem pm_q_aast {pc k pc' u : Nat} {P : Prop} {L L' : pmL} {st st' : List Value} {h h' : pmH} (X : pm_Cx D ac b0 aR sv sc mi d mc ms p l R s m args meth c) (hd : decode (pm_info mi).2.1 pc = .ok (.aastore, 1)) (hs : pm_ast (pc + 1) L st h = some (P, k, pc', L', st', h')) (hP0 : P) (kk : pm_G D ac b0 aR sv sc ad0 n0 Q mi mc ms p l e R s m args below meth c (u - k) pc' L' st' h') : pm_G D ac b0 aR sv sc ad0 n0 Q mi mc ms p l e R s m args below meth c u pc L st h := by
  obtain ⟨hx, hb, -, -, -, hown, hts, hnm, -, -, -, -, -, -, hE, -⟩ := X
  unfold pm_ast at hs
  split at hs
  · rename_i q i a r
    split at hs
    · rename_i n f vs hc hcq
      cases hs
      rw [pm_nth_eq] at hc hcq
      intro ad H locs cells slots ls h1 h2 h3 h4 h5 h6 h7 h8 h9
      have ha := pm_dyn h3.2.2.1 hc (by decide)
      have hq : 14 ≤ q := by
        rcases Nat.lt_or_ge q 14 with z | z
        · rw [pm_wf_ro h3.2.2.1 z] at hcq
          exact absurd (pm_ro_inr hcq).1 (by decide)
        · exact z
      rw [List.map_cons, List.map_cons, List.map_cons, pm_cv_ref (pm_ne ha), pm_cv_ref (pm_ne hq)]
      have hcc : pm_cc ac sv ad (.inl (3, n, .inr (.inr (.inr (.inr (va_up f i.toNatClampNeg (some q))))))) = .inl (ac 3, n, .inr (.inr (.inr (.inr (va_up (fun j => (f j).map ad) i.toNatClampNeg (some (ad q))))))) := by
        have hf : (fun j => (va_up f i.toNatClampNeg (some q) j).map ad) = va_up (fun j => (f j).map ad) i.toNatClampNeg (some (ad q)) := by
          funext j
          unfold va_up
          by_cases hj : j = i.toNatClampNeg
          · simp only [hj, if_true]; rfl
          · simp only [if_neg hj]
        show (Sum.inl (ac 3, (n, Sum.inr (Sum.inr (Sum.inr (Sum.inr fun j => (va_up f i.toNatClampNeg (some q) j).map ad))))) : va_E) = _
        rw [hf]
      have hw := pm_wf_get h3.2.2.1 hc
      have hw2 : pm_wc h.length (.inl (3, n, .inr (.inr (.inr (.inr (va_up f i.toNatClampNeg (some q))))))) := by
        intro j k9 e9
        unfold va_up at e9
        by_cases hj : j = i.toNatClampNeg
        · rw [if_pos hj] at e9; cases e9; exact ⟨(List.getElem?_eq_some_iff.mp hcq).1, Nat.lt_of_lt_of_le (by decide) hq⟩
        · rw [if_neg hj] at e9; exact hw j k9 e9
      refine va_astq hx hb hE.1 h3.1 h3.2.1 h4 (a - 14) 3 (q - 14) 8 (r := (RX9, TX9, 4)) (pm_ws_get (ac := ac) (sv := sv) (ad := ad) ha hc) rfl (pm_ws_get (ac := ac) (sv := sv) (ad := ad) hq hcq) rfl hP0 hd fun H1 locs1 q1 q2 q3 => ?_
      rw [← hcc] at q1 q2
      have hM := pm_M_set h3 ha hc hw2 q1 q2
      rw [← pm_set_eq] at hM
      exact kk ad H1 locs1 cells slots ls h1 (by rw [pm_set_eq, List.length_set]; exact h2) hM q3 h5 (by rw [pm_set_eq]; exact pm_wl_len h6) (by rw [pm_set_eq]; exact pm_wst_len (pm_wst_t (pm_wst_t (pm_wst_t h7)))) h8 h9
    · cases hs
  · cases hs
theorem pm_q_len {pc k pc' u : Nat} {P : Prop} {L L' : pmL} {st st' : List Value} {h h' : pmH} (X : pm_Cx D ac b0 aR sv sc mi d mc ms p l R s m args meth c) (hd : decode (pm_info mi).2.1 pc = .ok (.arraylength, 1)) (hs : pm_len (pc + 1) L st h = some (P, k, pc', L', st', h')) (kk : pm_G D ac b0 aR sv sc ad0 n0 Q mi mc ms p l e R s m args below meth c (u - k) pc' L' st' h') : pm_G D ac b0 aR sv sc ad0 n0 Q mi mc ms p l e R s m args below meth c u pc L st h := by
  obtain ⟨hx, hb, -, -, -, hown, hts, hnm, -, -, -, -, -, -, hE, -⟩ := X
  unfold pm_len at hs
  split at hs
  · rename_i a r
    split at hs
    · rename_i kd n f hc
      rcases pm_bif hs with ⟨hb1, hs⟩ | ⟨hb1, hs⟩
      · cases hs
        rw [pm_nth_eq] at hc
        intro ad H locs cells slots ls h1 h2 h3 h4 h5 h6 h7 h8 h9
        have k9 := kk ad H locs cells slots ls h1 h2 h3 h4 h5 h6 (pm_wst_c trivial (pm_wst_t h7)) h8 h9
        rcases pm_or2 hb1 with z | z
        · have hk := pm_blt z
          have ha := pm_dyn h3.2.2.1 hc hk
          rw [List.map_cons, pm_cv_ref (pm_ne ha)]
          have he := pm_ws_get (ac := ac) (sv := sv) (ad := ad) ha hc
          have hv : Int32.ofNat (pm_ca ad (n, f)).1 = Int32.ofNat n := by
            rcases f with f | f | f | f | f <;> rfl
          obtain ⟨ty, ht⟩ : ∃ ty, (pm_tys ac)[kd]? = some (ac kd, ty) := by
            rcases pm_4 hk with rfl | rfl | rfl | rfl
            · exact ⟨_, rfl⟩
            · exact ⟨_, rfl⟩
            · exact ⟨_, rfl⟩
            · exact ⟨_, rfl⟩
          exact va_alen hx hb hE.1 h3.1 (a - 14) kd he ht hv hd k9
        · obtain ⟨z1, z2⟩ := pm_and2 z
          have ha := pm_blt z2
          rw [pm_wf_ro h3.2.2.1 ha] at hc
          rcases pm_ro_inl hc with ⟨q1, q2⟩ | ⟨q1, q2, q3, q4⟩ | ⟨q1, j, hj, q2, q3, q4⟩
          · have := pm_blt z1; omega
          · subst q2; subst q3
            rw [List.map_cons, pm_cv_ref (by decide), h3.2.2.2 _ ha]
            exact va_slen hx hb hE.2.2.1 (Nat.lt_of_lt_of_le hE.2.2.2.1 hE.2.2.2.2.1) (fun q => absurd hE.2.2.2.1 (Nat.not_lt.mpr q)) h4 hd k9
          · subst q2; subst q3
            obtain ⟨hO, hco, hva, hT⟩ := hE.2.2.2.2.2.1.1 j hj
            rw [List.map_cons, pm_cv_ref (pm_ne3 j), h3.2.2.2 _ ha]
            exact va_tlen hx hb hT h4 rfl hd k9
      · cases hs
    · cases hs
  · cases hs
end PMH
