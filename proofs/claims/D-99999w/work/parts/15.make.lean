/-! SOUNDNESS, fourth part: new cells, the JDK's few, jumps -/
theorem pm_def_cv (sv : Value) (ad : Nat → Nat) (ci : Nat) : (pm_def ci).map (pm_cv sv ad) = pm_def ci := by
  unfold pm_def
  split <;> rfl
theorem pm_def_wv (n ci : Nat) : ∀ v ∈ pm_def ci, pm_wv n v := by
  unfold pm_def
  split <;> simp [pm_wv]
section PMK
variable {D : va_G} {ac : Nat → ClassId} {b0 : Nat} {aR : Nat → Nat} {sv : Value} {sc : Nat × (Nat → Int32)} {ad0 : Nat → Nat} {n0 : Nat} {Q : pmO → Prop} {mi d mc ms : Nat}
variable {p : Program} {l : Launch} {e : Env} {R : Room} {s : State} {m : MethodId} {args : Array Value} {below : List Frame} {meth : Method} {c : Code}
/-- behind a cell that was made -/
theorem pm_made {nx u N k n9 : Nat} {L : pmL} {st : List Value} {h : pmH} {ad : Nat → Nat} {H1 : Heap} {locs : List Loc} {cells slots : Nat} {ls : Array Slot} {c9 : va_E} {e9 : va_E} {q : Nat} (kk : pm_G D ac b0 aR sv sc ad0 n0 Q mi mc ms p l e R s m args below meth c (u - k) nx L (.ref h.length :: st) (h ++ [c9]))
    (h1 : ∀ i, i < n0 → ad i = ad0 i) (h2 : n0 ≤ h.length) (h3 : pm_wf sc h) (h3' : ∀ i, i < 14 → ad i = aR i) (h5 : pm_has sv ad ls (pm_info mi).2.2.1 L) (h6 : pm_wl h.length L) (h7 : pm_wst h.length st) (h8 : cells + u ≤ mc) (h9 : slots + u ≤ ms) (hk : k = N + 1) (hku : k ≤ u)
    (hcc : ∀ ad' : Nat → Nat, pm_cc ac sv ad' c9 = e9) (hw : pm_wc (h.length + 1) c9)
    (q1 : va_P D pm_cl (pm_ws ac sv ad h ++ [(q, e9)]) H1) (q2 : va_D (pm_A b0) (pm_ws ac sv ad h ++ [(q, e9)])) (q3 : va_S (pm_A b0) s.heap H1 locs) (hn9 : n9 ≤ N) :
    W p l e R s m args below meth c H1 locs (cells + 1) (slots + n9) (pm_WQ D ac b0 aR sv sc ad0 n0 Q mc ms s args below) (F0 m nx ls (.ref q :: st.map (pm_cv sv ad))) := by
  have hl := pm_wf_len h3
  obtain ⟨ad', had⟩ : ∃ ad' : Nat → Nat, ad' = fun i => if i = h.length then q else ad i := ⟨_, rfl⟩
  have hag : ∀ i, i < h.length → ad' i = ad i := fun i hi => by rw [had]; exact if_neg (by omega)
  have hq : ad' h.length = q := by rw [had]; exact if_pos rfl
  have hws : pm_ws ac sv ad' (h ++ [c9]) = pm_ws ac sv ad h ++ [(q, e9)] := by
    rw [pm_ws_push hl hag (fun x hx => h3.1 x hx), hq, hcc]
  rw [← hws] at q1 q2
  have hlen : (h ++ [c9]).length = h.length + 1 := by simp
  have k9 := kk ad' H1 locs (cells + 1) (slots + n9) ls (fun i hi => by rw [hag i (by omega)]; exact h1 i hi) (by rw [hlen]; omega) ⟨q1, q2, pm_wf_push h3 hw, fun i hi => by rw [hag i (by omega)]; exact h3' i hi⟩ q3 (pm_has_ag h5 hag h6) (by rw [hlen]; exact fun v hv => pm_wv_mono (Nat.le_succ _) (h6 v hv)) (by rw [hlen]; exact pm_wst_c (show h.length < h.length + 1 by omega) (fun v hv => pm_wv_mono (Nat.le_succ _) (h7 v hv))) (by omega) (by omega)
  rw [List.map_cons, pm_cv_ref (by omega), hq, pm_cvs_ag hag h7] at k9
  exact k9
theorem pm_q_new {tb : List (Nat × Nat)} {idx n nx pc k pc' u : Nat} {P : Prop} {L L' : pmL} {st st' : List Value} {h h' : pmH} (X : pm_Cx D ac b0 aR sv sc mi d mc ms p l R s m args meth c) (hV : n = 3 ∧ nx = pc + 3 ∧ ∃ (ci : Nat) (C : String) (T : u_T) (N : Nat) (ty : Nat → FieldType), tb = [(ci, N)] ∧ pm_cl[ci]? = some (C, T, N) ∧ Cond.classLink (pm_info mi).2.2.2.2.2.1 idx C ∈ lw_all ∧ Cond.instantiable C N ∈ lw_all ∧ Cond.initialized C ∈ lw_all ∧
    (∀ k, k < N → parseFieldDescriptor (T k).2.2.1 = some (ty k)) ∧ (∀ k, k < N → defaultValue (ty k) = vp_V (pm_def ci) k)) (hd : decode (pm_info mi).2.1 pc = .ok (.new idx, 3)) (hs : pm_new nx tb L st h = some (P, k, pc', L', st', h')) (hku : k ≤ u) (kk : pm_G D ac b0 aR sv sc ad0 n0 Q mi mc ms p l e R s m args below meth c (u - k) pc' L' st' h') : pm_G D ac b0 aR sv sc ad0 n0 Q mi mc ms p l e R s m args below meth c u pc L st h := by
  obtain ⟨hx, hb, -, -, -, hown, hts, hnm, -, -, -, -, hmc, hms, hE, -⟩ := X
  obtain ⟨-, rfl, ci, C, T, N, ty, rfl, g1, g2, g3, g4, g5, g6⟩ := hV
  unfold pm_new at hs
  rcases pm_bif hs with ⟨hb1, hs⟩ | ⟨hb1, hs⟩ <;> cases hs
  intro ad H locs cells slots ls h1 h2 h3 h4 h5 h6 h7 h8 h9
  refine va_new (Ts := lw_all) (C := C) (T := T) (N := N) (ci := ci) (fs := pm_def ci) hx hb hts (pm_clF g1).1 ty g5 hown (hts _ g2) (hts _ g3) (hts _ g4) hE.1 h3.1 h3.2.1 h4 (fun q hq => Nat.le_trans hE.2.2.2.2.1 hq) g1 g6 (by omega) (by omega) hd fun q H1 q1 q2 q3 => ?_
  exact pm_made kk h1 h2 h3.2.2.1 h3.2.2.2 h5 h6 h7 h8 h9 rfl hku (fun ad' => by show (Sum.inr (ci, (pm_def ci).map (pm_cv sv ad')) : va_E) = _; rw [pm_def_cv]) (pm_def_wv _ ci) q1 q2 q3 (Nat.le_refl _)
/-- the array class's number is that of its name -/
theorem pm_acEq {tys : List (ClassId × FieldType)} {cl : List vw_C} {cA : ClassId} {ty : FieldType} {j : Nat} (hK : va_K D cl (tys ++ [(cA, ty)]) s) (hj : tys[j]? = some (ac j, ty)) : cA = ac j := by
  have e1 := (hK.2 tys.length (cA, ty) (by rw [List.getElem?_append_right (Nat.le_refl _), Nat.sub_self]; rfl)).2
  have e2 := (hK.2 j (ac j, ty) (by rw [List.getElem?_append_left (List.getElem?_eq_some_iff.mp hj).1]; exact hj)).2
  cases ty with
  | object C =>
    obtain ⟨kA, comp, -, -, -, h4⟩ := e1
    obtain ⟨kA', comp', -, -, -, h4'⟩ := e2
    exact Option.some.inj (h4.symm.trans h4')
  | _ => exact Option.some.inj ((show s.vm.findClass _ = some cA from e1).symm.trans (show s.vm.findClass _ = some (ac j) from e2))
theorem pm_q_newa {tb : List (Nat × Nat)} {t : ArrayType} {pc k pc' u : Nat} {P : Prop} {L L' : pmL} {st st' : List Value} {h h' : pmH} (X : pm_Cx D ac b0 aR sv sc mi d mc ms p l R s m args meth c) (hV : (t = .int ∧ tb = [(0, 0)]) ∨ (t = .byte ∧ tb = [(1, 0)]) ∨ (t = .long ∧ tb = [(2, 0)])) (hd : decode (pm_info mi).2.1 pc = .ok (.newarray t, 2)) (hs : pm_newa (pc + 2) tb L st h = some (P, k, pc', L', st', h')) (hP0 : P) (hku : k ≤ u) (kk : pm_G D ac b0 aR sv sc ad0 n0 Q mi mc ms p l e R s m args below meth c (u - k) pc' L' st' h') : pm_G D ac b0 aR sv sc ad0 n0 Q mi mc ms p l e R s m args below meth c u pc L st h := by
  obtain ⟨hx, hb, -, -, -, hown, hts, hnm, -, -, -, -, hmc, hms, hE, -⟩ := X
  rcases hV with ⟨rfl, rfl⟩ | ⟨rfl, rfl⟩ | ⟨rfl, rfl⟩
  · unfold pm_newa at hs
    split at hs
    · rename_i y n r hq
      cases hq
      cases hs
      intro ad H locs cells slots ls h1 h2 h3 h4 h5 h6 h7 h8 h9
      have hc1 : componentBytes .int = 4 := rfl
      refine va_newa (atype := .int) (ty := .int) (a0 := (n.toNatClampNeg, .inl (fun _ => 0))) (N' := n.toNatClampNeg) hx hb (hts _ q317) rfl hE.1 h3.1 h3.2.1 h4 (fun q hq => Nat.le_trans hE.2.2.2.2.1 hq) (fun _ => rfl) hP0.1 rfl (by have := hP0.2; rw [hc1]; omega) (by omega) (by omega) hd fun q cA H1 qK q1 q2 q3 => ?_
      have hcA := pm_acEq (ac := ac) (j := 0) qK rfl
      subst hcA
      exact pm_made kk h1 h2 h3.2.2.1 h3.2.2.2 h5 h6 (pm_wst_t h7) h8 h9 rfl hku (fun _ => rfl) trivial q1 q2 q3 (Nat.le_refl _)
    · rename_i hq; cases hq
    · rename_i hq; cases hq
    · rename_i hq; cases hq
    · cases hs
  · unfold pm_newa at hs
    split at hs
    · rename_i hq; cases hq
    · rename_i y n r hq
      cases hq
      cases hs
      intro ad H locs cells slots ls h1 h2 h3 h4 h5 h6 h7 h8 h9
      have hc1 : componentBytes .byte = 1 := rfl
      refine va_newa (atype := .byte) (ty := .byte) (a0 := (n.toNatClampNeg, .inl (fun _ => 0))) (N' := n.toNatClampNeg) hx hb (hts _ q316) rfl hE.1 h3.1 h3.2.1 h4 (fun q hq => Nat.le_trans hE.2.2.2.2.1 hq) (fun _ => rfl) hP0.1 rfl (by have := hP0.2; rw [hc1]; omega) (by omega) (by omega) hd fun q cA H1 qK q1 q2 q3 => ?_
      have hcA := pm_acEq (ac := ac) (j := 1) qK rfl
      subst hcA
      exact pm_made kk h1 h2 h3.2.2.1 h3.2.2.2 h5 h6 (pm_wst_t h7) h8 h9 rfl hku (fun _ => rfl) trivial q1 q2 q3 (Nat.le_refl _)
    · rename_i hq; cases hq
    · rename_i hq; cases hq
    · cases hs
  · unfold pm_newa at hs
    split at hs
    · rename_i hq; cases hq
    · rename_i hq; cases hq
    · rename_i y n r hq
      cases hq
      cases hs
      intro ad H locs cells slots ls h1 h2 h3 h4 h5 h6 h7 h8 h9
      have hc1 : componentBytes .long = 8 := rfl
      refine va_newa (atype := .long) (ty := .long) (a0 := (n.toNatClampNeg, .inr (.inl (fun _ => 0)))) (N' := n.toNatClampNeg) hx hb (hts _ q1266) rfl hE.1 h3.1 h3.2.1 h4 (fun q hq => Nat.le_trans hE.2.2.2.2.1 hq) (fun _ => rfl) hP0.1 rfl (by have := hP0.2; rw [hc1]; omega) (by omega) (by omega) hd fun q cA H1 qK q1 q2 q3 => ?_
      have hcA := pm_acEq (ac := ac) (j := 2) qK rfl
      subst hcA
      exact pm_made kk h1 h2 h3.2.2.1 h3.2.2.2 h5 h6 (pm_wst_t h7) h8 h9 rfl hku (fun _ => rfl) trivial q1 q2 q3 (Nat.le_refl _)
    · rename_i hq; cases hq
    · cases hs
theorem pm_q_anew {tb : List (Nat × Nat)} {idx pc k pc' u : Nat} {P : Prop} {L L' : pmL} {st st' : List Value} {h h' : pmH} (X : pm_Cx D ac b0 aR sv sc mi d mc ms p l R s m args meth c) (hV : tb = [(3, 0)] ∧ Cond.classLink (pm_info mi).2.2.2.2.2.1 idx RX9 ∈ lw_all) (hd : decode (pm_info mi).2.1 pc = .ok (.anewarray idx, 3)) (hs : pm_newa (pc + 3) tb L st h = some (P, k, pc', L', st', h')) (hP0 : P) (hku : k ≤ u) (kk : pm_G D ac b0 aR sv sc ad0 n0 Q mi mc ms p l e R s m args below meth c (u - k) pc' L' st' h') : pm_G D ac b0 aR sv sc ad0 n0 Q mi mc ms p l e R s m args below meth c u pc L st h := by
  obtain ⟨hx, hb, -, -, -, hown, hts, hnm, -, -, -, -, hmc, hms, hE, -⟩ := X
  obtain ⟨rfl, hlk⟩ := hV
  unfold pm_newa at hs
  split at hs
  · rename_i hq; cases hq
  · rename_i hq; cases hq
  · rename_i hq; cases hq
  · rename_i y n r hq
    cases hq
    cases hs
    intro ad H locs cells slots ls h1 h2 h3 h4 h5 h6 h7 h8 h9
    refine va_newq (C := RX9) (N' := n.toNatClampNeg) hx hb hown (hts _ hlk) hE.2.1.2.2.2.2 hE.1 h3.1 h3.2.1 h4 (fun q hq => Nat.le_trans hE.2.2.2.2.1 hq) hP0.1 rfl (by have := hP0.2; omega) (by omega) (by omega) hd fun q cA H1 qK q1 q2 q3 => ?_
    have hcA := pm_acEq (ac := ac) (j := 3) qK rfl
    subst hcA
    exact pm_made kk h1 h2 h3.2.2.1 h3.2.2.2 h5 h6 (pm_wst_t h7) h8 h9 rfl hku (fun _ => rfl) (fun j k9 e9 => by cases e9) q1 q2 q3 (Nat.le_refl _)
  · cases hs
theorem pm_size {ad : Nat → Nat} {ls : Array Slot} {L : pmL} (X : pm_Cx D ac b0 aR sv sc mi d mc ms p l R s m args meth c) (h5 : pm_has sv ad ls (pm_info mi).2.2.1 L) : c.maxLocals = ls.size := X.2.2.2.2.1.trans h5.1.symm
theorem pm_rest_le {r : List Value} {sv : Value} (hsv : sv = .null ∨ ∃ a, sv = .ref a) {ad : Nat → Nat} (h : pm_rest r = true) : ((r.map (pm_cv sv ad)).map fun v => v.category).sum ≤ 8 := by
  have e9 : (r.map (pm_cv sv ad)).map (fun v => v.category) = r.map (fun v => v.category) := by
    rw [List.map_map]
    exact List.map_congr_left (fun v _ => pm_cv_cat hsv ad v)
  rw [e9]
  unfold pm_rest at h
  split at h
  · exact Nat.zero_le _
  · exact Nat.le_of_ble_eq_true h
theorem pm_q_jdkS {tb : List (Nat × Nat)} {idx n pc k pc' u : Nat} {P : Prop} {L L' : pmL} {st st' : List Value} {h h' : pmH} (X : pm_Cx D ac b0 aR sv sc mi d mc ms p l R s m args meth c) (hV : pm_SV (pm_info mi).2.2.2.2.2.1 idx n tb) (hd : decode (pm_info mi).2.1 pc = .ok (.invokestatic idx, 3)) (hs : pm_jdk (pc + 3) tb L st h = some (P, k, pc', L', st', h')) (kk : pm_G D ac b0 aR sv sc ad0 n0 Q mi mc ms p l e R s m args below meth c (u - k) pc' L' st' h') : pm_G D ac b0 aR sv sc ad0 n0 Q mi mc ms p l e R s m args below meth c u pc L st h := by
  have X0 := X
  obtain ⟨hx, hb, -, -, -, hown, hts, hnm, -, -, hfr, hlo, hmc, hms, hE, -⟩ := X
  have hsv := hE.2.2.2.2.2.2.2.2.2.2.2
  rcases hV with rfl | ⟨rfl, -, hl⟩ | ⟨rfl, -, hl⟩ | ⟨rfl, -, hl⟩ | ⟨rfl, -, hl⟩ | ⟨y, rfl, hy, -⟩
  · cases hs
  · unfold pm_jdk at hs
    rcases pm_bif hs with ⟨z, hs⟩ | ⟨-, hs⟩
    · cases z
    split at hs
    · rename_i y x r
      rcases pm_bif hs with ⟨hr, hs⟩ | ⟨-, hs⟩
      · rcases pm_bif hs with ⟨-, hs⟩ | ⟨z, -⟩
        · cases hs
          intro ad H locs cells slots ls h1 h2 h3 h4 h5 h6 h7 h8 h9
          have hrl := pm_rest_le hsv (ad := ad) hr
          exact va_mmax hx hb (pm_size X0 h5) hown (hts _ hl) (hts _ q379) (hts _ q126) (hts _ q380) (by omega) (by omega) (by omega) (by omega) hd (kk ad H locs cells slots ls h1 h2 h3 h4 h5 h6 (pm_wst_c trivial (pm_wst_t (pm_wst_t h7))) h8 h9)
        · cases z
      · cases hs
    · rcases pm_bif hs with ⟨hr, hs⟩ | ⟨-, hs⟩
      · rcases pm_bif hs with ⟨z, -⟩ | ⟨-, hs⟩
        · cases z
        · rcases pm_bif hs with ⟨z, -⟩ | ⟨-, hs⟩
          · cases z
          · cases hs
      · cases hs
    · rcases pm_bif hs with ⟨hr, hs⟩ | ⟨-, hs⟩
      · exact absurd (pm_and2 (pm_and2 hr).1).1 (by decide)
      · cases hs
    · cases hs
  · unfold pm_jdk at hs
    rcases pm_bif hs with ⟨z, hs⟩ | ⟨-, hs⟩
    · cases z
    split at hs
    · rename_i y x r
      rcases pm_bif hs with ⟨hr, hs⟩ | ⟨-, hs⟩
      · rcases pm_bif hs with ⟨z, -⟩ | ⟨-, hs⟩
        · cases z
        rcases pm_bif hs with ⟨-, hs⟩ | ⟨z, -⟩
        · cases hs
          intro ad H locs cells slots ls h1 h2 h3 h4 h5 h6 h7 h8 h9
          have hrl := pm_rest_le hsv (ad := ad) hr
          exact va_mmin hx hb (pm_size X0 h5) hown (hts _ hl) (hts _ q382) (hts _ q126) (hts _ q383) (by omega) (by omega) (by omega) (by omega) hd (kk ad H locs cells slots ls h1 h2 h3 h4 h5 h6 (pm_wst_c trivial (pm_wst_t (pm_wst_t h7))) h8 h9)
        · cases z
      · cases hs
    · rcases pm_bif hs with ⟨hr, hs⟩ | ⟨-, hs⟩
      · rcases pm_bif hs with ⟨z, -⟩ | ⟨-, hs⟩
        · cases z
        · rcases pm_bif hs with ⟨z, -⟩ | ⟨-, hs⟩
          · cases z
          · cases hs
      · cases hs
    · rcases pm_bif hs with ⟨hr, hs⟩ | ⟨-, hs⟩
      · exact absurd (pm_and2 (pm_and2 hr).1).1 (by decide)
      · cases hs
    · cases hs
  · unfold pm_jdk at hs
    rcases pm_bif hs with ⟨z, hs⟩ | ⟨-, hs⟩
    · cases z
    split at hs
    · rcases pm_bif hs with ⟨hr, hs⟩ | ⟨-, hs⟩
      · rcases pm_bif hs with ⟨z, -⟩ | ⟨-, hs⟩
        · cases z
        · rcases pm_bif hs with ⟨z, -⟩ | ⟨-, hs⟩
          · cases z
          · cases hs
      · cases hs
    · rename_i y x r
      rcases pm_bif hs with ⟨hr, hs⟩ | ⟨-, hs⟩
      · rcases pm_bif hs with ⟨-, hs⟩ | ⟨z, -⟩
        · cases hs
          intro ad H locs cells slots ls h1 h2 h3 h4 h5 h6 h7 h8 h9
          have hrl := pm_rest_le hsv (ad := ad) hr
          exact va_mmax_long hx hb (pm_size X0 h5) hown (hts _ hl) (hts _ q797) (hts _ q126) (hts _ q798) (by omega) (by omega) (by omega) (by omega) hd (kk ad H locs cells slots ls h1 h2 h3 h4 h5 h6 (pm_wst_c trivial (pm_wst_t (pm_wst_t h7))) h8 h9)
        · cases z
      · cases hs
    · rcases pm_bif hs with ⟨hr, hs⟩ | ⟨-, hs⟩
      · exact absurd (pm_and2 (pm_and2 hr).1).1 (by decide)
      · cases hs
    · cases hs
  · unfold pm_jdk at hs
    rcases pm_bif hs with ⟨z, hs⟩ | ⟨-, hs⟩
    · cases z
    split at hs
    · rcases pm_bif hs with ⟨hr, hs⟩ | ⟨-, hs⟩
      · rcases pm_bif hs with ⟨z, -⟩ | ⟨-, hs⟩
        · cases z
        · rcases pm_bif hs with ⟨z, -⟩ | ⟨-, hs⟩
          · cases z
          · cases hs
      · cases hs
    · rename_i y x r
      rcases pm_bif hs with ⟨hr, hs⟩ | ⟨-, hs⟩
      · rcases pm_bif hs with ⟨z, -⟩ | ⟨-, hs⟩
        · cases z
        rcases pm_bif hs with ⟨-, hs⟩ | ⟨z, -⟩
        · cases hs
          intro ad H locs cells slots ls h1 h2 h3 h4 h5 h6 h7 h8 h9
          have hrl := pm_rest_le hsv (ad := ad) hr
          exact va_mmin_long hx hb (pm_size X0 h5) hown (hts _ hl) (hts _ q794) (hts _ q126) (hts _ q795) (by omega) (by omega) (by omega) (by omega) hd (kk ad H locs cells slots ls h1 h2 h3 h4 h5 h6 (pm_wst_c trivial (pm_wst_t (pm_wst_t h7))) h8 h9)
        · cases z
      · cases hs
    · rcases pm_bif hs with ⟨hr, hs⟩ | ⟨-, hs⟩
      · exact absurd (pm_and2 (pm_and2 hr).1).1 (by decide)
      · cases hs
    · cases hs
  · unfold pm_jdk at hs
    rcases pm_bif hs with ⟨-, hs⟩ | ⟨z, -⟩
    · cases hs
    · have := pm_nblt z; omega
theorem pm_q_jdkI {tb : List (Nat × Nat)} {idx n pc k pc' u : Nat} {P : Prop} {L L' : pmL} {st st' : List Value} {h h' : pmH} (X : pm_Cx D ac b0 aR sv sc mi d mc ms p l R s m args meth c) (hV : pm_IV (pm_info mi).2.2.2.2.2.1 idx n tb) (hd : decode (pm_info mi).2.1 pc = .ok (.invokespecial idx, 3)) (hs : pm_jdk (pc + 3) tb L st h = some (P, k, pc', L', st', h')) (kk : pm_G D ac b0 aR sv sc ad0 n0 Q mi mc ms p l e R s m args below meth c (u - k) pc' L' st' h') : pm_G D ac b0 aR sv sc ad0 n0 Q mi mc ms p l e R s m args below meth c u pc L st h := by
  have X0 := X
  obtain ⟨hx, hb, -, -, hml, hown, hts, hnm, -, -, hfr, hlo, hmc, hms, hE, -⟩ := X
  have hsv := hE.2.2.2.2.2.2.2.2.2.2.2
  rcases hV with rfl | ⟨rfl, -, hl⟩ | ⟨y, k9, rfl, hy, -⟩
  · cases hs
  · unfold pm_jdk at hs
    rcases pm_bif hs with ⟨z, hs⟩ | ⟨-, hs⟩
    · cases z
    split at hs
    · rcases pm_bif hs with ⟨hr, hs⟩ | ⟨-, hs⟩
      · rcases pm_bif hs with ⟨z, -⟩ | ⟨-, hs⟩
        · cases z
        · rcases pm_bif hs with ⟨z, -⟩ | ⟨-, hs⟩
          · cases z
          · cases hs
      · cases hs
    · rcases pm_bif hs with ⟨hr, hs⟩ | ⟨-, hs⟩
      · rcases pm_bif hs with ⟨z, -⟩ | ⟨-, hs⟩
        · cases z
        · rcases pm_bif hs with ⟨z, -⟩ | ⟨-, hs⟩
          · cases z
          · cases hs
      · cases hs
    · rename_i a r
      rcases pm_bif hs with ⟨hr, hs⟩ | ⟨-, hs⟩
      · obtain ⟨hr1, hr2⟩ := pm_and2 hr
        obtain ⟨-, hr3⟩ := pm_and2 hr1
        have ha := Nat.ne_of_gt (Nat.le_of_ble_eq_true hr3)
        cases hs
        intro ad H locs cells slots ls h1 h2 h3 h4 h5 h6 h7 h8 h9
        have hrl := pm_rest_le hsv (ad := ad) hr2
        rw [List.map_cons, pm_cv_ref ha]
        refine W.objInit hx hb hown (hts _ hl) (hts _ q149) (hts _ q150) rfl (pm_size X0 h5).symm rfl hd (by omega) (by show 2 * 0 + _ + 12 ≤ _; omega) ?_
        exact kk ad H locs cells slots ls h1 h2 h3 h4 h5 h6 (pm_wst_t h7) h8 h9
      · cases hs
    · cases hs
  · unfold pm_jdk at hs
    rcases pm_bif hs with ⟨-, hs⟩ | ⟨z, -⟩
    · cases hs
    · have := pm_nblt z; omega
end PMK
