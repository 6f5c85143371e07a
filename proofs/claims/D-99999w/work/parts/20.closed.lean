/-! SOUNDNESS, ninth part: the machine is closed under the rules -/
section PMZ
variable {D : va_G} {ac : Nat → ClassId} {b0 : Nat} {aR : Nat → Nat} {sv : Value} {sc : Nat × (Nat → Int32)} {ad0 : Nat → Nat} {n0 : Nat} {Q : pmO → Prop} {mi d mc ms : Nat}
variable {p : Program} {l : Launch} {e : Env} {R : Room} {s : State} {m : MethodId} {args : Array Value} {below : List Frame} {meth : Method} {c : Code}
/-- the cell of an object of a class of ours, and its class -/
theorem pm_cell {ad : Nat → Nat} {h : pmH} {H : Heap} {a ci : Nat} {fs : List Value} {locs : List Loc} (hE : pm_E D ac b0 aR sv sc s) (h3 : pm_M D ac b0 aR sv sc ad h H) (h4 : va_S (pm_A b0) s.heap H locs) (hc : h[a]? = some (.inr (ci, fs))) :
    a ≠ 0 ∧ ∃ cell : Cell, H[ad a]? = some cell ∧ cell.vm.isStatics = false ∧ s.vm.findClass (pm_cn ci) = some cell.cls ∧ (ci ≠ 12 → cell.vm = .none) := by
  rcases Nat.lt_or_ge a 14 with ha | ha
  · rw [pm_wf_ro h3.2.2.1 ha] at hc
    obtain ⟨rfl, i, hi, rfl, -⟩ := pm_ro_inr hc
    obtain ⟨cell, g1, g2, g3⟩ := vk_recv hE.2.2.2.2.2.1 hi h4
    exact ⟨pm_ne2 i, cell, by rw [h3.2.2.2 _ ha]; exact g1, g2, g3, fun z => absurd rfl z⟩
  · refine ⟨pm_ne ha, ?_⟩
    obtain ⟨q', g1, cell, g2, g3, g4, -⟩ := h3.1 _ _ (pm_ws_get (ac := ac) (sv := sv) (ad := ad) ha hc)
    have h12 : ci < 12 := (List.getElem?_eq_some_iff.mp g1).1
    refine ⟨cell, g2, by rw [g4]; rfl, ?_, fun _ => g4⟩
    have hk := (hE.1.1 ci q' g1).2.1
    have hcn : pm_cn ci = q'.1 := by
      unfold pm_cn
      split
      · omega
      · rw [show pm_cl[ci]? = some q' from g1]; rfl
    rw [hcn, g3]
    exact hk
theorem pm_take {st : List Value} {n : Nat} {sv : Value} {ad : Nat → Nat} : st.map (pm_cv sv ad) = ((st.take n).reverse.map (pm_cv sv ad)).reverse ++ (st.drop n).map (pm_cv sv ad) := by
  rw [List.map_reverse, List.reverse_reverse, ← List.map_append, List.take_append_drop]
theorem pm_wst_take {k n : Nat} {st : List Value} (h : pm_wst k st) : pm_wst k (st.take n).reverse := fun v hv => h v (List.mem_of_mem_take (List.mem_reverse.mp hv))
theorem pm_wst_drop {k n : Nat} {st : List Value} (h : pm_wst k st) : pm_wst k (st.drop n) := fun v hv => h v (List.mem_of_mem_drop hv)
theorem pm_can_of {y n : Nat} {st : List Value} (h : pm_can y n st = true) : y < 1000 ∧ n ≤ st.length ∧ pm_rest (st.drop n) = true ∧ (pm_lay (st.take n).reverse).length ≤ (pm_info y).2.2.1 := by
  obtain ⟨h1, h2⟩ := pm_and2 h
  obtain ⟨h3, h4⟩ := pm_and2 h2
  obtain ⟨h5, h6⟩ := pm_and2 h4
  exact ⟨pm_blt h1, Nat.le_of_ble_eq_true h3, h5, Nat.le_of_ble_eq_true h6⟩
theorem pm_preS {ad : Nat → Nat} {h : pmH} {H : Heap} {locs : List Loc} {as : List Value} (hE : pm_E D ac b0 aR sv sc s) (h3 : pm_M D ac b0 aR sv sc ad h H) (h4 : va_S (pm_A b0) s.heap H locs) : ∀ U : State, U.heap = H → s.WarmedH U.vm → pm_Pc D ac b0 aR sv sc ad h as (as.map (pm_cv sv ad)).toArray U := by
  intro U hU hW
  refine ⟨rfl, pm_E.move hE hW (by rw [hU]; exact Nat.le_trans hE.2.2.2.2.1 h4.1) (fun q hq hn => by rw [hU]; exact h4.2.1 q hq hn), by rw [hU]; exact h3⟩
theorem pm_room {d y u1 : Nat} (h : (d + 1) + 8 ≤ R.frames) (h2 : 64 * (d + 1) + 256 ≤ R.locals) (h3 : (pm_info y).2.2.1 ≤ 40) : (pm_rm d u1).frames + 1 ≤ R.frames ∧ 8 + ((pm_info y).2.2.1 + 11) + (pm_rm d u1).locals ≤ R.locals := by
  refine ⟨?_, ?_⟩
  · show d + 8 + 1 ≤ _
    omega
  · show 8 + ((pm_info y).2.2.1 + 11) + (64 * d + 256) ≤ _
    have h2' : 64 * d + 64 + 256 ≤ R.locals := h2
    refine Nat.le_trans ?_ h2'
    generalize (pm_info y).2.2.1 = z at h3 ⊢
    generalize 64 * d = w
    clear h h2 h2'
    rw [Nat.add_comm _ (w + 256), Nat.add_right_comm w 64 256]
    exact Nat.add_le_add_left (show 8 + (z + 11) ≤ 64 from Nat.le_trans (Nat.add_le_add_left (Nat.add_le_add_right h3 11) 8) (by decide)) _
theorem pm_call_ok {pc u u1 y nx d : Nat} {L : pmL} {st as r : List Value} {h : pmH} {Q1 : pmO → Prop} (X : pm_Cx D ac b0 aR sv sc mi (d + 1) mc ms p l R s m args meth c) (hn0 : 14 ≤ n0) (hu : u1 ≤ u) (hs : pm_call mi pc st h = some (y, nx, as, r)) (w : pm_Sd D ac b0 aR sv sc d u1 y 0 (pm_entry y as) [] h Q1)
    (k : ∀ v h', Q1 (.inl v, h') → pm_G D ac b0 aR sv sc ad0 n0 Q mi mc ms p l e R s m args below meth c (u - u1) nx L (v.toList ++ r) h') (kx : ∀ ci h', Q1 (.inr ci, h') → pm_X (pm_Sd D ac b0 aR sv sc) (d + 1) (u - u1) mi pc L h' Q ci) : pm_G D ac b0 aR sv sc ad0 n0 Q mi mc ms p l e R s m args below meth c u pc L st h := by
  have X0 := X
  obtain ⟨hx, hb, -, -, hml, hown, hts, -, -, hl, hfr, hlo, hmc, hms, hE, -⟩ := X
  have hsv := hE.2.2.2.2.2.2.2.2.2.2.2
  intro ad H locs cells slots ls h1 h2 h3 h4 h5 h6 h7 h8 h9
  unfold pm_call at hs
  cases hcode : pm_code mi pc with
  | none => rw [hcode] at hs; cases hs
  | some e0 =>
    rw [hcode] at hs
    have hV := pm_ok mi pc e0 hcode
    obtain ⟨ins, ln, nx9, cv, n, tb⟩ := e0
    obtain ⟨hd, hR⟩ := hV
    cases ins
    case invokestatic idx =>
      obtain ⟨rfl, rfl, hR⟩ := hR
      dsimp only at hs
      unfold pm_callE at hs
      dsimp only at hs
      split at hs
      · rename_i z0 y0
        rcases pm_bif hs with ⟨hcan, hs⟩ | ⟨-, hs⟩
        · cases hs
          obtain ⟨c1, c2, c3, c4⟩ := pm_can_of hcan
          have hrl := pm_rest_le hsv (ad := ad) c3
          rcases hR with hR | ⟨hR, -⟩ | ⟨hR, -⟩ | ⟨hR, -⟩ | ⟨hR, -⟩ | ⟨y1, hR, -, hJ, hq1, hq2⟩
          · cases hR
          · cases hR; omega
          · cases hR; omega
          · cases hR; omega
          · cases hR; omega
          · cases hR
            have hrm := pm_room (u1 := u1) hfr hlo hJ.2.2.2.1
            rcases hJ.2.2.2.2.2 with ⟨hh, hcw⟩ | ⟨a9, b9, t9, i9, hh, hi9, hlk9, hcw⟩
            · refine pm_after (aa := (((st.take n).reverse.map (pm_cv sv ad))).toArray) X0 hn0 hu rfl ?_ k kx h1 h2 h4 h5 h6 (pm_wst_drop h7) h8 h9
              exact vx_runS (As := (st.take n).reverse.map (pm_cv sv ad)) ⟨hx, hb, hml, hown, hts⟩ (pm_metC hJ hh w hl c4 (pm_wst_take h7)) (va_cwS n hts (lw_S hq1 hq2 hJ.2.2.2.2.1 hcw) rfl rfl rfl hJ.1 hrm) ⟨pm_Pc_blind, pm_preS hE h3 h4⟩ rfl (by simp; omega) h5.1 pm_take (lv_room hrl) hd ⟨by omega, by omega⟩
            · refine pm_after (aa := (((st.take n).reverse.map (pm_cv sv ad))).toArray) X0 hn0 hu rfl ?_ k kx h1 h2 h4 h5 h6 (pm_wst_drop h7) h8 h9
              exact vx_runSX (As := (st.take n).reverse.map (pm_cv sv ad)) ⟨hx, hb, hml, hown, hts⟩ (pm_metH hJ ⟨_, _, _, _, hh, hi9, hlk9⟩ w hl c4 (pm_wst_take h7)) (vx_cwSW n hts (lw_SW hq1 hq2 hJ.2.2.2.2.1 hcw) rfl rfl rfl hJ.1 hrm) ⟨pm_Pc_blind, pm_preS hE h3 h4⟩ rfl (by simp; omega) h5.1 pm_take (lv_room hrl) hd ⟨by omega, by omega⟩
        · cases hs
      · cases hs
    case invokespecial idx =>
      obtain ⟨rfl, rfl, hR⟩ := hR
      dsimp only at hs
      unfold pm_callE at hs
      dsimp only at hs
      split at hs
      · rename_i z0 y0
        split at hs
        · rename_i a as1 hrev
          rcases pm_bif hs with ⟨hcan, hs⟩ | ⟨-, hs⟩
          · cases hs
            obtain ⟨c0, hcan⟩ := pm_and2 hcan
            have ha : a ≠ 0 := Nat.ne_of_gt (Nat.le_of_ble_eq_true c0)
            obtain ⟨c1, c2, c3, c4⟩ := pm_can_of hcan
            have hrl := pm_rest_le hsv (ad := ad) c3
            rcases hR with hR | ⟨hR, -⟩ | ⟨y1, k1, hR, -, hn, hJ, hq1, hq2, hq3, hq4, hq5⟩
            · cases hR
            · cases hR; omega
            · cases hR
              have hrm := pm_room (u1 := u1) hfr hlo hJ.2.2.2.1
              have hlen := congrArg List.length hrev
              simp only [List.length_reverse, List.length_take, List.length_cons] at hlen
              have hst : st.map (pm_cv sv ad) = (as1.map (pm_cv sv ad)).reverse ++ .ref (ad a) :: (st.drop n).map (pm_cv sv ad) := by
                rw [pm_take (n := n), hrev, List.map_cons, pm_cv_ref ha, List.reverse_cons, List.append_assoc]; rfl
              have hargs : ((st.take n).reverse.map (pm_cv sv ad)) = .ref (ad a) :: as1.map (pm_cv sv ad) := by
                rw [hrev, List.map_cons, pm_cv_ref ha]
              have hpre := pm_preS (as := (st.take n).reverse) hE h3 h4
              rw [hargs] at hpre
              rcases hJ.2.2.2.2.2 with ⟨hh, hcw⟩ | ⟨a9, b9, t9, i9, hh, hi9, hlk9, hcw⟩
              · have hMt := pm_metC (l := l) (ad := ad) hJ hh w hl c4 (pm_wst_take h7)
                rw [hq4] at hMt hcw
                refine pm_after (aa := (Value.ref (ad a) :: as1.map (pm_cv sv ad)).toArray) X0 hn0 hu rfl ?_ k kx h1 h2 h4 h5 h6 (pm_wst_drop h7) h8 h9
                rcases hq1 with hq1 | ⟨host, hq1⟩
                · exact vx_runI (As := as1.map (pm_cv sv ad)) ⟨hx, hb, hml, hown, hts⟩ hMt (cwI k1 hts (lw_meth hcw) rfl rfl rfl (hts _ hJ.2.2.2.2.1) (hts _ hq1) (hts _ hq2) hq3 hJ.1 hrm) ⟨pm_Pc_blind, hpre⟩ rfl (by rw [List.length_map]; omega) h5.1 hst (lv_room hrl) hd ⟨by omega, by omega⟩
                · exact vx_runIN (As := as1.map (pm_cv sv ad)) ⟨hx, hb, hml, hown, hts⟩ hMt ⟨va_cnB k1 hts (lw_meth hcw) rfl rfl rfl (hE.2.1.1 _ hq1) (hts _ hJ.2.2.2.2.1) hJ.1 hrm, hq3, hts _ hq2⟩ ⟨pm_Pc_blind, hpre⟩ rfl (by rw [List.length_map]; omega) h5.1 hst (lv_room hrl) hd ⟨by omega, by omega⟩
              · rw [hq5] at hh; cases hh
          · cases hs
        · cases hs
      · cases hs
    case invokevirtual idx =>
      obtain ⟨rfl, rfl, hR⟩ := hR
      dsimp only at hs
      unfold pm_callE at hs
      dsimp only at hs
      split at hs
      · rename_i a as1 hrev
        split at hs
        · rename_i ci fs hcl
          split at hs
          · rename_i y1 hy1
            rcases pm_bif hs with ⟨hcan, hs⟩ | ⟨-, hs⟩
            · cases hs
              rw [pm_nth_eq] at hcl
              obtain ⟨ha, cell, g1, g2, g3, -⟩ := pm_cell hE h3 h4 hcl
              obtain ⟨c1, c2, c3, c4⟩ := pm_can_of hcan
              have hrl := pm_rest_le hsv (ad := ad) c3
              obtain ⟨k1, hn, hJ, hq2, hq⟩ := hR _ (pm_find_mem hy1)
              have hrm := pm_room (u1 := u1) hfr hlo hJ.2.2.2.1
              have hlen := congrArg List.length hrev
              simp only [List.length_reverse, List.length_take, List.length_cons] at hlen
              have hst : st.map (pm_cv sv ad) = (as1.map (pm_cv sv ad)).reverse ++ .ref (ad a) :: (st.drop n).map (pm_cv sv ad) := by
                rw [pm_take (n := n), hrev, List.map_cons, pm_cv_ref ha, List.reverse_cons, List.append_assoc]; rfl
              have hargs : ((st.take n).reverse.map (pm_cv sv ad)) = .ref (ad a) :: as1.map (pm_cv sv ad) := by
                rw [hrev, List.map_cons, pm_cv_ref ha]
              have hpre := pm_preS (as := (st.take n).reverse) hE h3 h4
              rw [hargs] at hpre
              refine pm_after (aa := (Value.ref (ad a) :: as1.map (pm_cv sv ad)).toArray) X0 hn0 hu rfl ?_ k kx h1 h2 h4 h5 h6 (pm_wst_drop h7) h8 h9
              rcases hq with ⟨hq0, hq1, hq3⟩ | ⟨x, hx1, hx0, hx2, hx3, hx4, hx5⟩
              · simp only at hq0 hq3
                have hini : Cond.initialized (pm_cn ci) ∈ lw_all := by rw [← hq0]; exact hJ.2.2.2.2.1
                rcases hJ.2.2.2.2.2 with ⟨hh, hcw⟩ | ⟨a9, b9, t9, i9, hh, hi9, hlk9, hcw⟩
                · exact vx_runV (C := pm_cn ci) (b := ad a) (As := as1.map (pm_cv sv ad)) ⟨hx, hb, hml, hown, hts⟩ (pm_metC hJ hh w hl c4 (pm_wst_take h7)) (cwV k1 hts (lw_V hq1 hq2 hq3 hini hcw) rfl rfl rfl ⟨hq0, hJ.1⟩ hrm) ⟨pm_Pc_blind, ⟨cell, g1, g2, g3⟩, hpre⟩ rfl (by rw [List.length_map]; omega) h5.1 hst (lv_room hrl) hd ⟨by omega, by omega⟩
                · exact vx_runVX (C := pm_cn ci) (b := ad a) (As := as1.map (pm_cv sv ad)) ⟨hx, hb, hml, hown, hts⟩ (pm_metH hJ ⟨_, _, _, _, hh, hi9, hlk9⟩ w hl c4 (pm_wst_take h7)) (vx_cwVW k1 hts (lw_VW hq1 hq2 hq3 hini hcw) rfl rfl rfl ⟨hq0, hJ.1⟩ hrm) ⟨pm_Pc_blind, ⟨cell, g1, g2, g3⟩, hpre⟩ rfl (by rw [List.length_map]; omega) h5.1 hst (lv_room hrl) hd ⟨by omega, by omega⟩
              · rcases hJ.2.2.2.2.2 with ⟨hh, hcw⟩ | ⟨a9, b9, t9, i9, hh, hi9, hlk9, hcw⟩
                · have hMH : x.cls ≠ "java/lang/invoke/MethodHandle" ∧ x.cls ≠ "java/lang/invoke/VarHandle" := by
                    unfold pm_nestD at hx1
                    simp only [List.mem_cons, List.not_mem_nil, or_false] at hx1
                    rcases hx1 with rfl | rfl | rfl | rfl | rfl <;> exact ⟨by decide +kernel, by decide +kernel⟩
                  exact vx_runU (C := pm_cn ci) (owner := x.cls) (x := x) (b := ad a) (As := as1.map (pm_cv sv ad)) ⟨hx, hb, hml, hown, hts⟩ (pm_metC hJ hh w hl c4 (pm_wst_take h7)) (va_cwA k1 hts (lw_app (by
                    intro w9 hw9
                    simp only [List.mem_cons, List.not_mem_nil, or_false] at hw9
                    rcases hw9 with e9 | e9 | e9 | e9 | e9
                    · rw [e9]; exact hx3
                    · rw [e9]; exact hx4
                    · rw [e9]; exact hx5
                    · rw [e9]; exact hq2
                    · rw [e9]; exact hJ.2.2.2.2.1) (lw_meth hcw)) rfl rfl rfl (hE.2.1.2.2.2.1 x hx1) ⟨hMH.1, hMH.2, hx2⟩ hrm) ⟨pm_Pc_blind, ⟨cell, g1, g2, g3⟩, hpre⟩ rfl (by rw [List.length_map]; omega) h5.1 hst (lv_room hrl) hd ⟨by omega, by omega⟩
                · simp only at hx0
                  rw [hx0] at hh; cases hh
            · cases hs
          · cases hs
        · cases hs
      · cases hs
    all_goals exact absurd hs (by intro z; cases z)
theorem pm_thr_ok {pc u ci : Nat} {L : pmL} {st : List Value} {h : pmH} (X : pm_Cx D ac b0 aR sv sc mi d mc ms p l R s m args meth c) (hn0 : 14 ≤ n0) (hs : pm_thr mi pc st h = some ci) (hx9 : pm_X (pm_Sd D ac b0 aR sv sc) d u mi pc L h Q ci) : pm_G D ac b0 aR sv sc ad0 n0 Q mi mc ms p l e R s m args below meth c u pc L st h := by
  have X0 := X
  obtain ⟨hx, hb, -, -, hml, hown, hts, -, -, hl, hfr, hlo, hmc, hms, hE, -⟩ := X
  intro ad H locs cells slots ls h1 h2 h3 h4 h5 h6 h7 h8 h9
  unfold pm_thr at hs
  split at hs
  · rename_i ins rst hcode
    have hV := pm_ok mi pc _ hcode
    split at hs
    · rename_i a r
      split at hs
      · rename_i ci2 fs hc
        rcases pm_bif hs with ⟨hb2, hs⟩ | ⟨-, hs⟩
        · cases hs
          rw [pm_nth_eq] at hc
          obtain ⟨ha, cell, g1, g2, g3, g4⟩ := pm_cell hE h3 h4 hc
          have hne : ci ≠ 12 := by
            rcases pm_or2 hb2 with z | z
            · rw [Nat.eq_of_beq_eq_true z]; decide
            · rw [Nat.eq_of_beq_eq_true z]; decide
          obtain ⟨hd, hR⟩ := hV
          have hd2 : decode (pm_info mi).2.1 pc = .ok (.athrow, 1) := by rw [← hR.1]; exact hd
          rw [List.map_cons, pm_cv_ref ha]
          exact vx_athrow hx hb hd2 (pm_X_ok X0 hn0 hx9 h1 h2 h3 h4 h5 h6 h8 h9 g1 (g4 hne) g3)
        · cases hs
      · cases hs
    · cases hs
  · cases hs
/-- THE MACHINE IS CLOSED under the pure machine's rules -/
theorem pm_closed : ∀ d u mi pc L st h Q, pm_F (pm_Sd D ac b0 aR sv sc) d u mi pc L st h Q → pm_Sd D ac b0 aR sv sc d u mi pc L st h Q := by
  intro d u mi pc L st h Q hF l p e R s m args below meth c mc ms X ad0 n0 hn0
  rcases hF with ⟨P, k, pc', L', st', h', g1, g2, g3, g4⟩ | ⟨C, t, f, r, g1, g2, g3⟩ | ⟨P, v, g1, g2, g3⟩ | ⟨ci, g1, g2⟩ | ⟨y, nx, as, r, d', u1, Q1, g1, g2, g3, g4, g5, g6⟩
  · exact pm_step_ok X g1 g2 g3 (g4 l p e R s m args below meth c mc ms X ad0 n0 hn0)
  · exact pm_br_ok X g1 (fun q => g2 q l p e R s m args below meth c mc ms X ad0 n0 hn0) (fun q => g3 q l p e R s m args below meth c mc ms X ad0 n0 hn0)
  · exact pm_fin_ok X g1 g2 g3
  · exact pm_thr_ok X hn0 g1 g2
  · subst g1
    exact pm_call_ok X hn0 g2 g3 g4 (fun v h' q => g5 v h' q l p e R s m args below meth c mc ms X ad0 n0 hn0) g6
theorem pm_sound {u pc : Nat} {L : pmL} {st : List Value} {h : pmH} (w : Wp d u mi pc L st h Q) : pm_Sd D ac b0 aR sv sc d u mi pc L st h Q := Wp.ind pm_closed w
end PMZ
