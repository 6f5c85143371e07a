/-! SOUNDNESS, sixth part: every step -/
theorem pm_wF {s' : State} {args : Array Value} (hs9 : ∀ w ∈ lw_all, w.before args s' = true) (hd9 : ∀ x ∈ pm_nestD, (Cond.declares x).before args s' = true) (hc9 : ∀ C ∈ pm_nestC, (Cond.castable C C).before args s' = true) (hU : (Cond.isRef (.static Bundle.tN "UNASSIGNED_STACK" Bundle.steD)).before args s' = true) (hN : (Cond.isRef (.static Bundle.tN "SUPPRESSED_SENTINEL" Bundle.listD)).before args s' = true) (lU : (Cond.laysStatic Bundle.tN "UNASSIGNED_STACK" Bundle.steD).before args s' = true) (lN : (Cond.laysStatic Bundle.tN "SUPPRESSED_SENTINEL" Bundle.listD).before args s' = true) : ∀ w ∈ pm_own0 RX2 ["java/lang/Exception"], w.before args s' = true := by
  intro w hw
  simp only [pm_own0, Bundle.throwableAtoms, Bundle.chain0Atoms, Bundle.passAtoms, List.cons_append, List.nil_append, List.append_assoc, List.mem_cons, List.not_mem_nil, or_false] at hw
  rcases hw with rfl | rfl | rfl | rfl | rfl | rfl | rfl | rfl | rfl | rfl | rfl | rfl | rfl | rfl | rfl | rfl | rfl | rfl | rfl | rfl | rfl | rfl | rfl | rfl | rfl | rfl | rfl | rfl | rfl | rfl | rfl | rfl | rfl | rfl | rfl | rfl | rfl | rfl | rfl | rfl | rfl | rfl | rfl | rfl | rfl | rfl | rfl
  · exact hs9 _ q120
  · exact hs9 _ q171
  · exact hs9 _ q180
  · exact hs9 _ q183
  · exact hs9 _ q186
  · exact hs9 _ q188
  · exact hs9 _ q172
  · exact hs9 _ q173
  · exact hs9 _ q149
  · exact hs9 _ q150
  · exact hs9 _ q174
  · exact hs9 _ q179
  · exact hs9 _ q184
  · exact hs9 _ q197
  · exact hs9 _ q161
  · exact hs9 _ q198
  · exact hs9 _ q163
  · exact hs9 _ q199
  · exact hs9 _ q165
  · exact hs9 _ q175
  · exact lU
  · exact hs9 _ q177
  · exact lN
  · exact hs9 _ q167
  · exact hs9 _ q190
  · exact hs9 _ q191
  · exact hs9 _ q192
  · exact hs9 _ q193
  · exact hd9 _ (List.mem_of_getElem? (i := 2) rfl)
  · exact hs9 _ q193
  · exact hs9 _ q194
  · exact hs9 _ q195
  · exact hs9 _ q172
  · exact hd9 _ (List.mem_of_getElem? (i := 3) rfl)
  · exact hs9 _ q152
  · exact hc9 _ (List.mem_of_getElem? (i := 0) rfl)
  · exact hs9 _ q158
  · exact hs9 _ q159
  · exact hs9 _ q160
  · exact hs9 _ q162
  · exact hs9 _ q164
  · exact hs9 _ q166
  · exact hU
  · exact hN
  · exact hs9 _ q196
  · exact hs9 _ q169
  · exact hs9 _ q168
theorem pm_wN {s' : State} {args : Array Value} (hs9 : ∀ w ∈ lw_all, w.before args s' = true) (hd9 : ∀ x ∈ pm_nestD, (Cond.declares x).before args s' = true) (hc9 : ∀ C ∈ pm_nestC, (Cond.castable C C).before args s' = true) (hU : (Cond.isRef (.static Bundle.tN "UNASSIGNED_STACK" Bundle.steD)).before args s' = true) (hN : (Cond.isRef (.static Bundle.tN "SUPPRESSED_SENTINEL" Bundle.listD)).before args s' = true) (lU : (Cond.laysStatic Bundle.tN "UNASSIGNED_STACK" Bundle.steD).before args s' = true) (lN : (Cond.laysStatic Bundle.tN "SUPPRESSED_SENTINEL" Bundle.listD).before args s' = true) : ∀ w ∈ pm_own0 RJ9 ["java/lang/RuntimeException", "java/lang/Exception"], w.before args s' = true := by
  intro w hw
  simp only [pm_own0, Bundle.throwableAtoms, Bundle.chain0Atoms, Bundle.passAtoms, List.cons_append, List.nil_append, List.append_assoc, List.mem_cons, List.not_mem_nil, or_false] at hw
  rcases hw with rfl | rfl | rfl | rfl | rfl | rfl | rfl | rfl | rfl | rfl | rfl | rfl | rfl | rfl | rfl | rfl | rfl | rfl | rfl | rfl | rfl | rfl | rfl | rfl | rfl | rfl | rfl | rfl | rfl | rfl | rfl | rfl | rfl | rfl | rfl | rfl | rfl | rfl | rfl | rfl | rfl | rfl | rfl | rfl | rfl | rfl | rfl | rfl | rfl | rfl | rfl | rfl
  · exact hs9 _ q120
  · exact hs9 _ q171
  · exact hs9 _ q180
  · exact hs9 _ q183
  · exact hs9 _ q186
  · exact hs9 _ q188
  · exact hs9 _ q172
  · exact hs9 _ q173
  · exact hs9 _ q149
  · exact hs9 _ q150
  · exact hs9 _ q174
  · exact hs9 _ q179
  · exact hs9 _ q184
  · exact hs9 _ q197
  · exact hs9 _ q161
  · exact hs9 _ q198
  · exact hs9 _ q163
  · exact hs9 _ q199
  · exact hs9 _ q165
  · exact hs9 _ q175
  · exact lU
  · exact hs9 _ q177
  · exact lN
  · exact hs9 _ q167
  · exact hs9 _ q1105
  · exact hs9 _ q1106
  · exact hs9 _ q1107
  · exact hs9 _ q1108
  · exact hd9 _ (List.mem_of_getElem? (i := 4) rfl)
  · exact hs9 _ q1108
  · exact hs9 _ q1109
  · exact hs9 _ q1110
  · exact hs9 _ q193
  · exact hd9 _ (List.mem_of_getElem? (i := 2) rfl)
  · exact hs9 _ q193
  · exact hs9 _ q194
  · exact hs9 _ q195
  · exact hs9 _ q172
  · exact hd9 _ (List.mem_of_getElem? (i := 3) rfl)
  · exact hs9 _ q1094
  · exact hc9 _ (List.mem_of_getElem? (i := 1) rfl)
  · exact hs9 _ q1098
  · exact hs9 _ q182
  · exact hs9 _ q1099
  · exact hs9 _ q1100
  · exact hs9 _ q1101
  · exact hs9 _ q1102
  · exact hU
  · exact hN
  · exact hs9 _ q196
  · exact hs9 _ q169
  · exact hs9 _ q1103
section PMC
variable {D : va_G} {ac : Nat → ClassId} {b0 : Nat} {aR : Nat → Nat} {sv : Value} {sc : Nat × (Nat → Int32)} {ad0 : Nat → Nat} {n0 : Nat} {Q : pmO → Prop} {mi d mc ms : Nat}
variable {p : Program} {l : Launch} {e : Env} {R : Room} {s : State} {m : MethodId} {args : Array Value} {below : List Frame} {meth : Method} {c : Code}
theorem pm_lt14 {i : Nat} (h : i < 6) : 2 + 2 * i < 14 := by omega
theorem pm_good {w : Cond} (h : w ∈ lw_all) : goodWord w = true := (List.mem_filter.mp h).2
theorem pm_hs9 {s' : State} (hts : ∀ w ∈ lw_all, w.before args s = true) (hW : s.WarmedH s'.vm) : ∀ w ∈ lw_all, w.before args s' = true := fun w hw => word_at hW (good_of_word (pm_good hw)) (hts w hw)
theorem pm_ot {w : Cond} (h : w ∈ lw_all) : vx_ot w = true := by
  unfold vx_ot
  rw [pm_good h, Bool.or_true]
theorem pm_q_newX {tb : List (Nat × Nat)} {idx n nx pc k pc' u : Nat} {P : Prop} {L L' : pmL} {st st' : List Value} {h h' : pmH} (X : pm_Cx D ac b0 aR sv sc mi d mc ms p l R s m args meth c) (hV : n = 7 ∧ nx = pc + 7 ∧ (pm_info mi).2.2.2.2.2.1 = RX1 ∧ decode (pm_info mi).2.1 (pc + 3) = .ok (.dup, 1) ∧ ((idx = 9 ∧ tb = [(2, 6)] ∧ decode (pm_info mi).2.1 (pc + 4) = .ok (.invokespecial 11, 3)) ∨ (idx = 327 ∧ tb = [(3, 6)] ∧ decode (pm_info mi).2.1 (pc + 4) = .ok (.invokespecial 329, 3)))) (hd : decode (pm_info mi).2.1 pc = .ok (.new idx, 3)) (hs : pm_new nx tb L st h = some (P, k, pc', L', st', h')) (hku : k ≤ u) (kk : pm_G D ac b0 aR sv sc ad0 n0 Q mi mc ms p l e R s m args below meth c (u - k) pc' L' st' h') : pm_G D ac b0 aR sv sc ad0 n0 Q mi mc ms p l e R s m args below meth c u pc L st h := by
  have X0 := X
  obtain ⟨hx, hb, -, -, -, hown, hts, hnm, -, hl, hfr, hlo, hmc, hms, hE, -⟩ := X
  have hsv := hE.2.2.2.2.2.2.2.2.2.2.2
  obtain ⟨-, rfl, ho, hd3, hV⟩ := hV
  rw [ho] at hown
  rcases hV with ⟨rfl, rfl, hd4⟩ | ⟨rfl, rfl, hd4⟩
  · unfold pm_new at hs
    rcases pm_bif hs with ⟨hr, hs⟩ | ⟨-, hs⟩ <;> cases hs
    intro ad H locs cells slots ls h1 h2 h3 h4 h5 h6 h7 h8 h9
    have hrl := pm_rest_le hsv (ad := ad) hr
    refine pm_make0 (own := RX1) (cls := RX2) (names := ["java/lang/Exception"]) (ik := 9) (ic := 11) (ci := 2) (T0 := TX2) hx hb hl hown (by decide +kernel) (by decide +kernel) (hts _ q151) (hts _ q122) (fun w hw => by rcases hw with rfl | rfl; exact pm_ot q151; exact pm_ot q122)
      (fun s' hW hvm hU hN lU lN => ⟨pm_wF (pm_hs9 hts hW) (fun x hx => va_Nw.use rfl (va_Nw.same rfl hvm (hE.2.1.2.2.2.1 x hx))) (fun C hC => va_Nw.use rfl (va_Nw.same rfl hvm (hE.2.1.2.2.1 C hC))) hU hN lU lN, Or.inr ⟨RX1, va_Nw.use rfl (va_Nw.same rfl hvm (hE.2.1.1 (RX1, 11, ⟨RX2, "<init>", "()V"⟩, RX1) (List.mem_of_getElem? (i := 0) rfl)))⟩⟩)
      hE.2.2.2.2.2.2.2.2.2.1 hE.2.2.2.2.2.2.2.2.2.2.1 h4 (pm_size X0 h5).symm hd hd3 hd4 hE.1 h3.1 h3.2.1 (fun q hq => Nat.le_trans hE.2.2.2.2.1 hq) rfl (show 1 + 3 < _ by omega) (show _ + (13 * (1 + 1) + 42) ≤ _ by omega) (by omega) (by omega) fun q H1 q1 q2 q3 => ?_
    exact pm_made (N := 6) kk h1 h2 h3.2.2.1 h3.2.2.2 h5 h6 h7 h8 h9 rfl hku (fun ad' => rfl) (pm_def_wv _ 2) q1 q2 q3 (Nat.le_refl _)
  · unfold pm_new at hs
    rcases pm_bif hs with ⟨hr, hs⟩ | ⟨-, hs⟩ <;> cases hs
    intro ad H locs cells slots ls h1 h2 h3 h4 h5 h6 h7 h8 h9
    have hrl := pm_rest_le hsv (ad := ad) hr
    refine pm_make0 (own := RX1) (cls := RJ9) (names := ["java/lang/RuntimeException", "java/lang/Exception"]) (ik := 327) (ic := 329) (ci := 3) (T0 := TJ9) hx hb hl hown (by decide +kernel) (by decide +kernel) (hts _ q1093) (hts _ q141) (fun w hw => by rcases hw with rfl | rfl; exact pm_ot q1093; exact pm_ot q141)
      (fun s' hW hvm hU hN lU lN => ⟨pm_wN (pm_hs9 hts hW) (fun x hx => va_Nw.use rfl (va_Nw.same rfl hvm (hE.2.1.2.2.2.1 x hx))) (fun C hC => va_Nw.use rfl (va_Nw.same rfl hvm (hE.2.1.2.2.1 C hC))) hU hN lU lN, Or.inl (pm_hs9 hts hW _ q1104)⟩)
      hE.2.2.2.2.2.2.2.2.2.1 hE.2.2.2.2.2.2.2.2.2.2.1 h4 (pm_size X0 h5).symm hd hd3 hd4 hE.1 h3.1 h3.2.1 (fun q hq => Nat.le_trans hE.2.2.2.2.1 hq) rfl (show 2 + 3 < _ by omega) (show _ + (13 * (2 + 1) + 42) ≤ _ by omega) (by omega) (by omega) fun q H1 q1 q2 q3 => ?_
    exact pm_made (N := 6) kk h1 h2 h3.2.2.1 h3.2.2.2 h5 h6 h7 h8 h9 rfl hku (fun ad' => rfl) (pm_def_wv _ 3) q1 q2 q3 (Nat.le_refl _)
theorem pm_ldcSW {pc : Nat} {ls : Array Slot} {rest : List Value} {H : Heap} {locs : List Loc} {cells slots : Nat} {Q : State → Prop} {cc : ByteArray} (hexec : p.tables.exec = Jvm.exec) (hb : c.code = cc) {own tx : String} {index q : Nat} (hown : s.vm.findClass own = some m.cls) (hZ : vk_R own index tx q s) (hdg : decode cc pc = .ok (.ldc_w index, 3))
    (k : W p l e R s m args below meth c H locs cells slots Q (F0 m (pc + 3) ls (.ref q :: rest))) : W p l e R s m args below meth c H locs cells slots Q (F0 m pc ls rest) := by
  intro T hT X
  obtain ⟨t, a1, b1⟩ := k T hT X
  exact ⟨t, X.ldcStringW hexec hown (text := tx) (a := q) hZ.1 hZ.2 (g := F0 m pc ls rest) rfl (by rw [hb]; exact hdg) t a1, b1⟩
def pm_Sd (D : va_G) (ac : Nat → ClassId) (b0 : Nat) (aR : Nat → Nat) (sv : Value) (sc : Nat × (Nat → Int32)) : pmS := fun d u mi pc L st h Q =>
  ∀ (l : Launch) (p : Program) (e : Env) (R : Room) (s : State) (m : MethodId) (args : Array Value) (below : List Frame) (meth : Method) (c : Code) (mc ms : Nat), pm_Cx D ac b0 aR sv sc mi d mc ms p l R s m args meth c →
    ∀ (ad0 : Nat → Nat) (n0 : Nat), 14 ≤ n0 → pm_G D ac b0 aR sv sc ad0 n0 Q mi mc ms p l e R s m args below meth c u pc L st h
set_option maxHeartbeats 40000000 in
theorem pm_step_ok {pc k pc' u : Nat} {P : Prop} {L L' : pmL} {st st' : List Value} {h h' : pmH} (X : pm_Cx D ac b0 aR sv sc mi d mc ms p l R s m args meth c) (hs : pm_step mi pc L st h = some (P, k, pc', L', st', h')) (hP : P) (hku : k ≤ u) (kk : pm_G D ac b0 aR sv sc ad0 n0 Q mi mc ms p l e R s m args below meth c (u - k) pc' L' st' h') : pm_G D ac b0 aR sv sc ad0 n0 Q mi mc ms p l e R s m args below meth c u pc L st h := by
  have X0 := X
  obtain ⟨hx, hb, -, -, -, hown, hts, hnm, -, hl, hfr, hlo, hmc, hms, hE, -⟩ := X
  have hsv := hE.2.2.2.2.2.2.2.2.2.2.2
  unfold pm_step at hs
  cases hcode : pm_code mi pc with
  | none => rw [hcode] at hs; cases hs
  | some e0 =>
    rw [hcode] at hs
    have hV := pm_ok mi pc e0 hcode
    obtain ⟨ins, ln, nx, cv, n, tb⟩ := e0
    obtain ⟨hd, hR⟩ := hV
    cases ins
    case iconst k7 =>
      obtain ⟨rfl, rfl, rfl⟩ := hR
      cases hs
      refine pm_q_push ?_ kk (fun H locs cells slots ls rest k9 => lv_iconst hx hb hd rfl k9); exact fun n ad => ⟨trivial, rfl⟩
    case bipush k7 =>
      obtain ⟨rfl, rfl, rfl⟩ := hR
      cases hs
      refine pm_q_push ?_ kk (fun H locs cells slots ls rest k9 => lv_bipush hx hb hd rfl k9); exact fun n ad => ⟨trivial, rfl⟩
    case sipush k7 =>
      obtain ⟨rfl, rfl, rfl⟩ := hR
      cases hs
      refine pm_q_push ?_ kk (fun H locs cells slots ls rest k9 => lv_sipush hx hb hd rfl k9); exact fun n ad => ⟨trivial, rfl⟩
    case lconst k7 =>
      obtain ⟨rfl, rfl, rfl⟩ := hR
      cases hs
      refine pm_q_push ?_ kk (fun H locs cells slots ls rest k9 => lv_lconst hx hb hd rfl k9); exact fun n ad => ⟨trivial, rfl⟩
    case aconst_null =>
      obtain ⟨rfl, rfl⟩ := hR
      cases hs
      refine pm_q_push ?_ kk (fun H locs cells slots ls rest k9 => lv_null hx hb hd k9); exact fun n ad => ⟨trivial, rfl⟩
    case ldc idx =>
      obtain ⟨rfl, rfl, hR⟩ := hR
      cases hs
      rcases hR with ⟨v, rfl, hq⟩ | ⟨tx, i, rfl, hi, hq⟩
      · refine pm_q_push ?_ kk (fun H locs cells slots ls rest k9 => lv_ldc hx hb hown (hts _ hq) hd k9); exact fun n ad => ⟨trivial, rfl⟩
      · refine pm_q_pushR (k0 := 2 + 2 * i) (pm_lt14 hi) kk (fun H locs cells slots ls rest h4 k9 => ?_)
        rw [pm_cv_ref (pm_ne2 i)] at k9
        exact va_ldcS hx hb hown (hE.2.2.2.2.2.2.1 _ hq) hd k9
    case ldc_w idx =>
      obtain ⟨rfl, rfl, hR⟩ := hR
      cases hs
      rcases hR with ⟨v, rfl, hq⟩ | ⟨tx, i, rfl, hi, hq⟩
      · refine pm_q_push ?_ kk (fun H locs cells slots ls rest k9 => lv_ldcw hx hb hown (hts _ hq) hd k9); exact fun n ad => ⟨trivial, rfl⟩
      · refine pm_q_pushR (k0 := 2 + 2 * i) (pm_lt14 hi) kk (fun H locs cells slots ls rest h4 k9 => ?_)
        rw [pm_cv_ref (pm_ne2 i)] at k9
        exact pm_ldcSW hx hb hown (hE.2.2.2.2.2.2.1 _ hq) hd k9
    case ldc2_w idx =>
      obtain ⟨rfl, rfl, v, rfl, hq⟩ := hR
      cases hs
      refine pm_q_push ?_ kk (fun H locs cells slots ls rest k9 => lv_ldc2 hx hb hown (hts _ hq) hd k9); exact fun n ad => ⟨trivial, rfl⟩
    case getstatic idx =>
      obtain ⟨rfl, rfl, hR⟩ := hR
      rcases hR with rfl | ⟨rfl, rfl, hq⟩ | ⟨rfl, rfl, hq⟩
      · cases hs
      · cases hs
        intro ad H locs cells slots ls h1 h2 h3 h4 h5 h6 h7 h8 h9
        exact va_gets (ref := "java/lang/String") hx hb hE.2.2.2.2.2.2.2.1 h4 hown (hts _ hq) (fun x q => q) hd (kk ad H locs cells slots ls h1 h2 h3 h4 h5 h6 (pm_wst_c trivial h7) h8 h9)
      · cases hs
        exact pm_q_pushR (by decide) kk (fun H locs cells slots ls rest h4 k9 => va_gets (ref := "jdk/internal/util/Preconditions") hx hb hE.2.2.2.2.2.2.2.2.1 h4 hown (hts _ hq) (fun x q => q) hd k9)
    case iload_n k7 =>
      obtain ⟨rfl, rfl, rfl⟩ := hR
      exact pm_q_ild hs kk (fun H locs cells slots ls rest x g1 k9 => lv_iload_n hx hb hd rfl g1 k9)
    case iload k7 =>
      obtain ⟨rfl, rfl, rfl⟩ := hR
      exact pm_q_ild hs kk (fun H locs cells slots ls rest x g1 k9 => lv_iload hx hb hd g1 k9)
    case lload_n k7 =>
      obtain ⟨rfl, rfl, rfl⟩ := hR
      exact pm_q_lld1 hs kk (fun H locs cells slots ls rest x g1 k9 => lv_lload_n hx hb hd rfl g1 k9)
    case lload k7 =>
      obtain ⟨rfl, rfl, rfl⟩ := hR
      exact pm_q_lld1 hs kk (fun H locs cells slots ls rest x g1 k9 => lv_lload hx hb hd g1 k9)
    case aload_n k7 =>
      obtain ⟨rfl, rfl, rfl⟩ := hR
      exact pm_q_ald1 hsv hs kk (fun H locs cells slots ls rest x g1 k9 => lv_aload_n hx hb hd rfl g1 k9) (fun H locs cells slots ls rest g1 k9 => lv_aload_nN hx hb hd rfl g1 k9)
    case aload k7 =>
      obtain ⟨rfl, rfl, rfl⟩ := hR
      exact pm_q_ald1 hsv hs kk (fun H locs cells slots ls rest x g1 k9 => lv_aload hx hb hd g1 k9) (fun H locs cells slots ls rest g1 k9 => lv_aloadN hx hb hd g1 k9)
    case istore_n k7 =>
      obtain ⟨rfl, rfl, rfl⟩ := hR
      exact pm_q_ist1 hsv hs kk (fun H locs cells slots ls rest x lv g1 g2 k9 => lv_istore_n hx hb hd rfl g1 g2 rfl k9)
    case istore k7 =>
      obtain ⟨rfl, rfl, rfl⟩ := hR
      exact pm_q_ist1 hsv hs kk (fun H locs cells slots ls rest x lv g1 g2 k9 => lv_istore hx hb hd g1 g2 rfl k9)
    case lstore_n k7 =>
      obtain ⟨rfl, rfl, rfl⟩ := hR
      exact pm_q_lst1 hsv hs kk (fun H locs cells slots ls rest x lv g1 g2 k9 => lv_lstore_n hx hb hd rfl g1 g2 rfl k9)
    case lstore k7 =>
      obtain ⟨rfl, rfl, rfl⟩ := hR
      exact pm_q_lst1 hsv hs kk (fun H locs cells slots ls rest x lv g1 g2 k9 => lv_lstore hx hb hd g1 g2 rfl k9)
    case astore_n k7 =>
      obtain ⟨rfl, rfl, rfl⟩ := hR
      refine pm_q_ast1 hsv hs kk (fun H locs cells slots ls rest x lv g0 g1 g2 k9 => ?_)
      rcases g0 with rfl | ⟨a, rfl⟩
      · exact lv_astore_nN hx hb hd rfl g1 g2 rfl k9
      · exact lv_astore_n hx hb hd rfl g1 g2 rfl k9
    case astore k7 =>
      obtain ⟨rfl, rfl, rfl⟩ := hR
      refine pm_q_ast1 hsv hs kk (fun H locs cells slots ls rest x lv g0 g1 g2 k9 => ?_)
      rcases g0 with rfl | ⟨a, rfl⟩
      · exact lv_astoreN hx hb hd g1 g2 rfl k9
      · exact lv_astore hx hb hd g1 g2 rfl k9
    case iinc i7 k7 =>
      obtain ⟨rfl, rfl, rfl, hcv⟩ := hR
      exact pm_q_iinc hcv hsv hs kk (fun H locs cells slots ls rest x lv j g1 g2 g3 k9 => lv_iinc hx hb hd g1 g3 rfl g2 rfl k9)
    case iadd =>
      obtain ⟨rfl, rfl⟩ := hR
      exact pm_q_i2 hs kk (fun H locs cells slots ls rest x y k9 => lv_iadd hx hb hd k9)
    case isub =>
      obtain ⟨rfl, rfl⟩ := hR
      exact pm_q_i2 hs kk (fun H locs cells slots ls rest x y k9 => lv_isub hx hb hd k9)
    case imul =>
      obtain ⟨rfl, rfl⟩ := hR
      exact pm_q_i2 hs kk (fun H locs cells slots ls rest x y k9 => lv_imul hx hb hd k9)
    case iand =>
      obtain ⟨rfl, rfl⟩ := hR
      exact pm_q_i2 hs kk (fun H locs cells slots ls rest x y k9 => lv_iand hx hb hd k9)
    case ior =>
      obtain ⟨rfl, rfl⟩ := hR
      exact pm_q_i2 hs kk (fun H locs cells slots ls rest x y k9 => lv_ior hx hb hd k9)
    case ixor =>
      obtain ⟨rfl, rfl⟩ := hR
      exact pm_q_i2 hs kk (fun H locs cells slots ls rest x y k9 => lv_ixor hx hb hd k9)
    case ishl =>
      obtain ⟨rfl, rfl⟩ := hR
      exact pm_q_i2 hs kk (fun H locs cells slots ls rest x y k9 => lv_ishl hx hb hd k9)
    case ishr =>
      obtain ⟨rfl, rfl⟩ := hR
      exact pm_q_i2 hs kk (fun H locs cells slots ls rest x y k9 => lv_ishr hx hb hd k9)
    case iushr =>
      obtain ⟨rfl, rfl⟩ := hR
      exact pm_q_i2 hs kk (fun H locs cells slots ls rest x y k9 => lv_iushr hx hb hd rfl k9)
    case idiv =>
      obtain ⟨rfl, rfl⟩ := hR
      exact pm_q_i2n hs hP kk (fun H locs cells slots ls rest x y hy k9 => lv_idiv hx hb hd hy k9)
    case irem =>
      obtain ⟨rfl, rfl⟩ := hR
      exact pm_q_i2n hs hP kk (fun H locs cells slots ls rest x y hy k9 => lv_irem hx hb hd hy k9)
    case ineg =>
      obtain ⟨rfl, rfl⟩ := hR
      exact pm_q_i1 hs (fun x n ad => ⟨trivial, rfl⟩) kk (fun H locs cells slots ls rest x k9 => lv_ineg hx hb hd k9)
    case i2l =>
      obtain ⟨rfl, rfl⟩ := hR
      exact pm_q_i1 hs (fun x n ad => ⟨trivial, rfl⟩) kk (fun H locs cells slots ls rest x k9 => lv_i2l hx hb hd rfl k9)
    case i2b =>
      obtain ⟨rfl, rfl⟩ := hR
      exact pm_q_i1 hs (fun x n ad => ⟨trivial, rfl⟩) kk (fun H locs cells slots ls rest x k9 => lv_i2b hx hb hd rfl k9)
    case i2c =>
      obtain ⟨rfl, rfl⟩ := hR
      exact pm_q_i1 hs (fun x n ad => ⟨trivial, rfl⟩) kk (fun H locs cells slots ls rest x k9 => lv_i2c hx hb hd rfl k9)
    case ladd =>
      obtain ⟨rfl, rfl⟩ := hR
      exact pm_q_l2 hs (fun x y n ad => ⟨trivial, rfl⟩) kk (fun H locs cells slots ls rest x y k9 => lv_ladd hx hb hd k9)
    case lsub =>
      obtain ⟨rfl, rfl⟩ := hR
      exact pm_q_l2 hs (fun x y n ad => ⟨trivial, rfl⟩) kk (fun H locs cells slots ls rest x y k9 => lv_lsub hx hb hd k9)
    case lmul =>
      obtain ⟨rfl, rfl⟩ := hR
      exact pm_q_l2 hs (fun x y n ad => ⟨trivial, rfl⟩) kk (fun H locs cells slots ls rest x y k9 => lv_lmul hx hb hd k9)
    case land =>
      obtain ⟨rfl, rfl⟩ := hR
      exact pm_q_l2 hs (fun x y n ad => ⟨trivial, rfl⟩) kk (fun H locs cells slots ls rest x y k9 => lv_land hx hb hd k9)
    case lor =>
      obtain ⟨rfl, rfl⟩ := hR
      exact pm_q_l2 hs (fun x y n ad => ⟨trivial, rfl⟩) kk (fun H locs cells slots ls rest x y k9 => lv_lor hx hb hd k9)
    case lcmp =>
      obtain ⟨rfl, rfl⟩ := hR
      exact pm_q_l2 hs (fun x y n ad => ⟨trivial, rfl⟩) kk (fun H locs cells slots ls rest x y k9 => W.lcmp hx hb hd k9)
    case ldiv =>
      obtain ⟨rfl, rfl⟩ := hR
      exact pm_q_l2n hs hP (fun x y n ad => ⟨trivial, rfl⟩) kk (fun H locs cells slots ls rest x y hy k9 => lv_ldiv hx hb hd hy k9)
    case lrem =>
      obtain ⟨rfl, rfl⟩ := hR
      exact pm_q_l2n hs hP (fun x y n ad => ⟨trivial, rfl⟩) kk (fun H locs cells slots ls rest x y hy k9 => lv_lrem hx hb hd hy k9)
    case l2i =>
      obtain ⟨rfl, rfl⟩ := hR
      dsimp only at hs
      unfold pm_stepE at hs
      dsimp only at hs
      split at hs
      · cases hs
        intro ad H locs cells slots ls h1 h2 h3 h4 h5 h6 h7 h8 h9
        exact lv_l2i hx hb hd rfl (kk ad H locs cells slots ls h1 h2 h3 h4 h5 h6 (pm_wst_c trivial (pm_wst_t h7)) h8 h9)
      · cases hs
    case lushr =>
      obtain ⟨rfl, rfl⟩ := hR
      dsimp only at hs
      unfold pm_stepE at hs
      dsimp only at hs
      split at hs
      · cases hs
        intro ad H locs cells slots ls h1 h2 h3 h4 h5 h6 h7 h8 h9
        exact lv_lushr hx hb hd rfl (kk ad H locs cells slots ls h1 h2 h3 h4 h5 h6 (pm_wst_c trivial (pm_wst_t (pm_wst_t h7))) h8 h9)
      · cases hs
    case lshl =>
      obtain ⟨rfl, rfl⟩ := hR
      dsimp only at hs
      unfold pm_stepE at hs
      dsimp only at hs
      split at hs
      · cases hs
        intro ad H locs cells slots ls h1 h2 h3 h4 h5 h6 h7 h8 h9
        exact lv_lshl hx hb hd rfl (kk ad H locs cells slots ls h1 h2 h3 h4 h5 h6 (pm_wst_c trivial (pm_wst_t (pm_wst_t h7))) h8 h9)
      · cases hs
    case dup =>
      obtain ⟨rfl, rfl⟩ := hR
      exact pm_q_dup hsv hs kk (fun H locs cells slots ls rest v g k9 => lv_dup hx hb hd g k9)
    case pop =>
      obtain ⟨rfl, rfl⟩ := hR
      exact pm_q_pop hsv hs kk (fun H locs cells slots ls rest v g k9 => lv_pop hx hb hd g k9)
    case dup_x1 =>
      obtain ⟨rfl, rfl⟩ := hR
      exact pm_q_dupx hsv hs kk (fun H locs cells slots ls rest v w g1 g2 k9 => lv_dup_x1 hx hb hd g1 g2 k9)
    case dup2 =>
      obtain ⟨rfl, rfl⟩ := hR
      exact pm_q_dup2 hsv hs kk (fun H locs cells slots ls rest v w g1 g2 k9 => lv_dup2_11 hx hb hd g1 g2 k9) (fun H locs cells slots ls rest v g k9 => lv_dup2_2 hx hb hd g k9)
    case goto o7 =>
      obtain ⟨rfl, ho⟩ := hR
      cases hs
      intro ad H locs cells slots ls h1 h2 h3 h4 h5 h6 h7 h8 h9
      exact lv_goto hx hb hd ho (kk ad H locs cells slots ls h1 h2 h3 h4 h5 h6 h7 h8 h9)
    case tableswitch dv lo hi offs =>
      dsimp only at hs
      unfold pm_stepE at hs
      dsimp only at hs
      split at hs
      · rename_i x r
        cases hs
        intro ad H locs cells slots ls h1 h2 h3 h4 h5 h6 h7 h8 h9
        have k9 := kk ad H locs cells slots ls h1 h2 h3 h4 h5 h6 (pm_wst_t h7) h8 h9
        rcases pm_sw_tgt hR x with ⟨g1, g2⟩ | ⟨g1, g2, off, g3, g4⟩
        · exact lv_tableOut hx hb hd g1 g2 k9
        · exact lv_tableIn hx hb hd g1 g2 g3 g4 k9
      · cases hs
    case lookupswitch dv ps =>
      dsimp only at hs
      unfold pm_stepE at hs
      dsimp only at hs
      split at hs
      · rename_i x r
        cases hs
        obtain ⟨f1, f2, f3, f4⟩ := hR
        intro ad H locs cells slots ls h1 h2 h3 h4 h5 h6 h7 h8 h9
        have k9 := kk ad H locs cells slots ls h1 h2 h3 h4 h5 h6 (pm_wst_t h7) h8 h9
        exact lv_lookup hx hb hd f2 rfl (by rw [f4]; exact pm_lsw f1 f3 x) k9
      · cases hs
    case ifnull o7 =>
      obtain ⟨rfl, rfl, ho⟩ := hR
      exact pm_q_nul hs kk (fun H locs cells slots ls rest x k9 => lv_ifnull hx hb hd k9) (fun H locs cells slots ls rest k9 => lv_ifnullN hx hb hd ho k9)
    case ifnonnull o7 =>
      obtain ⟨rfl, rfl, ho⟩ := hR
      exact pm_q_nul hs kk (fun H locs cells slots ls rest x k9 => lv_ifnonnull hx hb hd ho k9) (fun H locs cells slots ls rest k9 => lv_ifnonnullN hx hb hd k9)
    case getfield idx =>
      obtain ⟨rfl, rfl, hR⟩ := hR
      exact pm_q_get X0 hR hd hs kk
    case putfield idx =>
      obtain ⟨rfl, rfl, hR⟩ := hR
      exact pm_q_put X0 hR hd hs hP kk
    case iaload =>
      obtain ⟨rfl, rfl⟩ := hR
      exact pm_q_iald X0 hd hs hP kk
    case baload =>
      obtain ⟨rfl, rfl⟩ := hR
      exact pm_q_bald X0 hd hs hP kk
    case laload =>
      obtain ⟨rfl, rfl⟩ := hR
      exact pm_q_lald X0 hd hs hP kk
    case aaload =>
      obtain ⟨rfl, rfl⟩ := hR
      exact pm_q_aald X0 hd hs hP kk
    case iastore =>
      obtain ⟨rfl, rfl⟩ := hR
      exact pm_q_iast X0 hd hs hP kk
    case bastore =>
      obtain ⟨rfl, rfl⟩ := hR
      exact pm_q_bast X0 hd hs hP kk
    case lastore =>
      obtain ⟨rfl, rfl⟩ := hR
      exact pm_q_last X0 hd hs hP kk
    case aastore =>
      obtain ⟨rfl, rfl⟩ := hR
      exact pm_q_aast X0 hd hs hP kk
    case arraylength =>
      obtain ⟨rfl, rfl⟩ := hR
      exact pm_q_len X0 hd hs kk
    case new idx =>
      obtain ⟨rfl, hR⟩ := hR
      rcases hR with hR | hR
      · exact pm_q_new X0 hR hd hs hku kk
      · exact pm_q_newX X0 hR hd hs hku kk
    case newarray t7 =>
      obtain ⟨rfl, rfl, hR⟩ := hR
      exact pm_q_newa X0 hR hd hs hP hku kk
    case anewarray idx =>
      obtain ⟨rfl, rfl, hR⟩ := hR
      exact pm_q_anew X0 hR hd hs hP hku kk
    case invokestatic idx =>
      obtain ⟨rfl, rfl, hR⟩ := hR
      exact pm_q_jdkS X0 hR hd hs kk
    case invokespecial idx =>
      obtain ⟨rfl, rfl, hR⟩ := hR
      exact pm_q_jdkI X0 hR hd hs kk
    all_goals exact absurd hs (by intro z; cases z)
end PMC
