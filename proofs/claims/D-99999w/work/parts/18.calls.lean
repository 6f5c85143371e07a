/-! SOUNDNESS, seventh part: branches, ends, throws, calls; the closed machine -/
theorem pm_has_drop {sv : Value} {ad : Nat → Nat} {ls ls' : Array Slot} {nL n : Nat} {L : pmL} {x : Value} (h0 : pm_has sv ad ls nL L) (hok : pm_ok1 L n = true) (hsv : sv = .null ∨ ∃ a, sv = .ref a)
    (h : lv_has ls' nL ((n, x) :: (pm_lv sv ad 0 L).filter (fun q => !(q.1 == n) && !(q.1 + 1 == n && q.2.category == 2)))) : pm_has sv ad ls' nL (pm_set L n none) := by
  refine ⟨h.1, by rw [pm_set_eq, List.length_set]; exact h0.2.1, h.2.1, fun j v hv => ?_⟩
  rw [pm_loc_some, pm_set_eq] at hv
  by_cases hj : n = j
  · subst hj
    have hl : n < L.length := by
      have := (List.getElem?_eq_some_iff.mp hv).1
      rwa [List.length_set] at this
    rw [List.getElem?_set_self hl] at hv
    cases hv
  · rw [List.getElem?_set_ne hj] at hv
    refine h.2.2 (j, pm_cv sv ad v) (List.mem_cons_of_mem _ (List.mem_filter.mpr ⟨(pm_lv_mem L 0 _).mpr ⟨j, v, hv, by rw [Nat.zero_add]⟩, ?_⟩))
    simp only [Bool.and_eq_true, Bool.not_eq_true', beq_eq_false_iff_ne, ne_eq, Bool.and_eq_false_iff]
    refine ⟨Ne.symm hj, ?_⟩
    by_cases hz : j + 1 = n
    · right
      rw [pm_cv_cat hsv]
      exact pm_c2_false hok hz hv
    · left; exact hz
section PMD
variable {D : va_G} {ac : Nat → ClassId} {b0 : Nat} {aR : Nat → Nat} {sv : Value} {sc : Nat × (Nat → Int32)} {ad0 : Nat → Nat} {n0 : Nat} {Q : pmO → Prop} {mi d mc ms : Nat}
variable {p : Program} {l : Launch} {e : Env} {R : Room} {s : State} {m : MethodId} {args : Array Value} {below : List Frame} {meth : Method} {c : Code}
theorem pm_br_ok {pc u t f : Nat} {C : Prop} {L : pmL} {st r : List Value} {h : pmH} (X : pm_Cx D ac b0 aR sv sc mi d mc ms p l R s m args meth c) (hs : pm_br mi pc st = some (C, t, f, r)) (kt : C → pm_G D ac b0 aR sv sc ad0 n0 Q mi mc ms p l e R s m args below meth c u t L r h) (kf : ¬ C → pm_G D ac b0 aR sv sc ad0 n0 Q mi mc ms p l e R s m args below meth c u f L r h) : pm_G D ac b0 aR sv sc ad0 n0 Q mi mc ms p l e R s m args below meth c u pc L st h := by
  obtain ⟨hx, hb, -⟩ := X
  unfold pm_br at hs
  cases hcode : pm_code mi pc with
  | none => rw [hcode] at hs; cases hs
  | some e0 =>
    rw [hcode] at hs
    have hV := pm_ok mi pc e0 hcode
    obtain ⟨ins, ln, nx, cv, n, tb⟩ := e0
    obtain ⟨hd, hR⟩ := hV
    cases ins
    case ifCond c7 o7 =>
      obtain ⟨rfl, rfl, ho⟩ := hR
      unfold pm_brE at hs
      simp only at hs
      split at hs
      · intro ad H locs cells slots ls h1 h2 h3 h4 h5 h6 h7 h8 h9
        cases c7
        · cases hs; exact lv_if_eq hx hb hd ho (fun q => kt q ad H locs cells slots ls h1 h2 h3 h4 h5 h6 (pm_wst_t h7) h8 h9) (fun q => kf q ad H locs cells slots ls h1 h2 h3 h4 h5 h6 (pm_wst_t h7) h8 h9)
        · cases hs; exact lv_if_ne hx hb hd ho (fun q => kt q ad H locs cells slots ls h1 h2 h3 h4 h5 h6 (pm_wst_t h7) h8 h9) (fun q => kf (fun z => z q) ad H locs cells slots ls h1 h2 h3 h4 h5 h6 (pm_wst_t h7) h8 h9)
        · cases hs; exact lv_if_lt hx hb hd ho (fun q => kt q ad H locs cells slots ls h1 h2 h3 h4 h5 h6 (pm_wst_t h7) h8 h9) (fun q => kf q ad H locs cells slots ls h1 h2 h3 h4 h5 h6 (pm_wst_t h7) h8 h9)
        · cases hs; exact lv_if_ge hx hb hd ho (fun q => kt q ad H locs cells slots ls h1 h2 h3 h4 h5 h6 (pm_wst_t h7) h8 h9) (fun q => kf q ad H locs cells slots ls h1 h2 h3 h4 h5 h6 (pm_wst_t h7) h8 h9)
        · cases hs; exact lv_if_gt hx hb hd ho (fun q => kt q ad H locs cells slots ls h1 h2 h3 h4 h5 h6 (pm_wst_t h7) h8 h9) (fun q => kf q ad H locs cells slots ls h1 h2 h3 h4 h5 h6 (pm_wst_t h7) h8 h9)
        · cases hs; exact lv_if_le hx hb hd ho (fun q => kt q ad H locs cells slots ls h1 h2 h3 h4 h5 h6 (pm_wst_t h7) h8 h9) (fun q => kf q ad H locs cells slots ls h1 h2 h3 h4 h5 h6 (pm_wst_t h7) h8 h9)
      · cases hs
    case if_icmp c7 o7 =>
      obtain ⟨rfl, rfl, ho⟩ := hR
      unfold pm_brE at hs
      simp only at hs
      split at hs
      · intro ad H locs cells slots ls h1 h2 h3 h4 h5 h6 h7 h8 h9
        cases c7
        · cases hs; exact lv_icmp_eq hx hb hd ho (fun q => kt q ad H locs cells slots ls h1 h2 h3 h4 h5 h6 (pm_wst_t (pm_wst_t h7)) h8 h9) (fun q => kf q ad H locs cells slots ls h1 h2 h3 h4 h5 h6 (pm_wst_t (pm_wst_t h7)) h8 h9)
        · cases hs; exact lv_icmp_ne hx hb hd ho (fun q => kt q ad H locs cells slots ls h1 h2 h3 h4 h5 h6 (pm_wst_t (pm_wst_t h7)) h8 h9) (fun q => kf (fun z => z q) ad H locs cells slots ls h1 h2 h3 h4 h5 h6 (pm_wst_t (pm_wst_t h7)) h8 h9)
        · cases hs; exact lv_icmp_lt hx hb hd ho (fun q => kt q ad H locs cells slots ls h1 h2 h3 h4 h5 h6 (pm_wst_t (pm_wst_t h7)) h8 h9) (fun q => kf q ad H locs cells slots ls h1 h2 h3 h4 h5 h6 (pm_wst_t (pm_wst_t h7)) h8 h9)
        · cases hs; exact lv_icmp_ge hx hb hd ho (fun q => kt q ad H locs cells slots ls h1 h2 h3 h4 h5 h6 (pm_wst_t (pm_wst_t h7)) h8 h9) (fun q => kf q ad H locs cells slots ls h1 h2 h3 h4 h5 h6 (pm_wst_t (pm_wst_t h7)) h8 h9)
        · cases hs; exact lv_icmp_gt hx hb hd ho (fun q => kt q ad H locs cells slots ls h1 h2 h3 h4 h5 h6 (pm_wst_t (pm_wst_t h7)) h8 h9) (fun q => kf q ad H locs cells slots ls h1 h2 h3 h4 h5 h6 (pm_wst_t (pm_wst_t h7)) h8 h9)
        · cases hs; exact lv_icmp_le hx hb hd ho (fun q => kt q ad H locs cells slots ls h1 h2 h3 h4 h5 h6 (pm_wst_t (pm_wst_t h7)) h8 h9) (fun q => kf q ad H locs cells slots ls h1 h2 h3 h4 h5 h6 (pm_wst_t (pm_wst_t h7)) h8 h9)
      · cases hs
    all_goals exact absurd hs (by intro z; cases z)
theorem pm_end {H : Heap} {locs : List Loc} {ad : Nat → Nat} {h : pmH} {v : Option Value} (hQ : Q (.inl v, h)) (h1 : ∀ i, i < n0 → ad i = ad0 i) (h2 : n0 ≤ h.length) (h3 : pm_M D ac b0 aR sv sc ad h H) (h4 : va_S (pm_A b0) s.heap H locs) (hw : ∀ w, v = some w → pm_wv h.length w) (t : State) (ht : t.heap = H) : pm_Qc D ac b0 aR sv sc ad0 n0 Q args s (.returned (v.map (pm_cv sv ad))) t :=
  ⟨⟨v, h, ad, hQ, rfl, h1, h2, hw, by rw [ht]; exact h3⟩, h4.F ht⟩
theorem pm_fin_ok {pc u : Nat} {P : Prop} {v : Option Value} {L : pmL} {st : List Value} {h : pmH} (X : pm_Cx D ac b0 aR sv sc mi d mc ms p l R s m args meth c) (hs : pm_fin mi pc st = some (P, v)) (hP : P) (hQ : Q (.inl v, h)) : pm_G D ac b0 aR sv sc ad0 n0 Q mi mc ms p l e R s m args below meth c u pc L st h := by
  obtain ⟨hx, hb, hr, hlocks, -, -, -, -, -, -, -, -, -, -, hE, -⟩ := X
  have hsv := hE.2.2.2.2.2.2.2.2.2.2.2
  unfold pm_fin at hs
  split at hs
  · rename_i ins rst hcode
    have hV := pm_ok mi pc _ hcode
    split at hs
    · split at hs
      · rename_i ty hty
        cases hs
        obtain ⟨hd, hR⟩ := hV
        intro ad H locs cells slots ls h1 h2 h3 h4 h5 h6 h7 h8 h9
        refine W.widen (k := mc) (n := ms) (by omega) (by omega) (vx_ret ?_)
        have hd2 : decode (pm_info mi).2.1 pc = .ok (.ireturn, 1) := by rw [← hR.1]; exact hd
        exact W.zret hx hb (hr.trans hty) hP (fun t ht hW => pm_end hQ h1 h2 h3 h4 (fun w hw => by cases hw; trivial) t ht) h4.2.2 hd2 hlocks
      · cases hs
    · split at hs
      · rename_i hty
        cases hs
        obtain ⟨hd, hR⟩ := hV
        intro ad H locs cells slots ls h1 h2 h3 h4 h5 h6 h7 h8 h9
        refine W.widen (k := mc) (n := ms) (by omega) (by omega) (vx_ret ?_)
        have hd2 : decode (pm_info mi).2.1 pc = .ok (.lreturn, 1) := by rw [← hR.1]; exact hd
        exact W.lret hx hb (hr.trans hty) (fun t ht hW => pm_end hQ h1 h2 h3 h4 (fun w hw => by cases hw; trivial) t ht) h4.2.2 hd2 hlocks
      · cases hs
    · split at hs
      · rename_i C hty
        cases hs
        obtain ⟨hd, hR⟩ := hV
        intro ad H locs cells slots ls h1 h2 h3 h4 h5 h6 h7 h8 h9
        refine W.widen (k := mc) (n := ms) (by omega) (by omega) (vx_ret ?_)
        have hd2 : decode (pm_info mi).2.1 pc = .ok (.areturn, 1) := by rw [← hR.1]; exact hd
        exact W.aret hx hb (hr.trans hty) (Or.inl ⟨_, rfl⟩) (pm_cv_isR hsv ad _) (fun t ht hW => pm_end hQ h1 h2 h3 h4 (fun w hw => by cases hw; exact pm_wst_h h7) t ht) h4.2.2 hd2 hlocks
      · cases hs
    · split at hs
      · rename_i C hty
        cases hs
        obtain ⟨hd, hR⟩ := hV
        intro ad H locs cells slots ls h1 h2 h3 h4 h5 h6 h7 h8 h9
        refine W.widen (k := mc) (n := ms) (by omega) (by omega) (vx_ret ?_)
        have hd2 : decode (pm_info mi).2.1 pc = .ok (.areturn, 1) := by rw [← hR.1]; exact hd
        exact W.aret hx hb (hr.trans hty) (Or.inl ⟨_, rfl⟩) (Or.inl rfl) (fun t ht hW => pm_end hQ h1 h2 h3 h4 (fun w hw => by cases hw; trivial) t ht) h4.2.2 hd2 hlocks
      · cases hs
    · split at hs
      · rename_i hty
        cases hs
        obtain ⟨hd, hR⟩ := hV
        intro ad H locs cells slots ls h1 h2 h3 h4 h5 h6 h7 h8 h9
        refine W.widen (k := mc) (n := ms) (by omega) (by omega) (vx_ret ?_)
        have hd2 : decode (pm_info mi).2.1 pc = .ok (.return_, 1) := by rw [← hR.1]; exact hd
        exact W.vret hx hb (hr.trans hty) (fun t ht hW => pm_end hQ h1 h2 h3 h4 (fun w hw => by cases hw) t ht) h4.2.2 hd2 hlocks
      · cases hs
    · cases hs
  · cases hs
theorem pm_hci_or (mi : Nat) : pm_hci mi = 2 ∨ pm_hci mi = 3 := by
  unfold pm_hci
  cases Nat.beq mi 1
  · exact Or.inl rfl
  · exact Or.inr rfl
/-- thrown here: caught by the method's row, or out -/
theorem pm_X_ok {pc u ci : Nat} {L : pmL} {h : pmH} (X : pm_Cx D ac b0 aR sv sc mi d mc ms p l R s m args meth c) (hn0 : 14 ≤ n0) (hx9 : pm_X (pm_Sd D ac b0 aR sv sc) d u mi pc L h Q ci)
    {ad : Nat → Nat} {H : Heap} {locs : List Loc} {cells slots : Nat} {ls : Array Slot} {rest : List Value} {q : Addr} {ce : Cell} (h1 : ∀ i, i < n0 → ad i = ad0 i) (h2 : n0 ≤ h.length) (h3 : pm_M D ac b0 aR sv sc ad h H) (h4 : va_S (pm_A b0) s.heap H locs) (h5 : pm_has sv ad ls (pm_info mi).2.2.1 L) (h6 : pm_wl h.length L) (h8 : cells + u ≤ mc) (h9 : slots + u ≤ ms)
    (hcell : H[q]? = some ce) (hv : ce.vm = .none) (hcl : s.vm.findClass (pm_cn ci) = some ce.cls) :
    vx_W p l e R s m args below meth c H locs cells slots (vx_MQ below (pm_Qc D ac b0 aR sv sc ad0 n0 Q) (pm_XC D ac b0 aR sv sc ad0 n0 Q) args s mc ms (pm_A b0)) (F0 m pc ls rest) q := by
  have X0 := X
  obtain ⟨hx, hb, hr, hlocks, hml, hown, hts, -, htab, -, -, -, hmc, hms, hE, hh⟩ := X
  have hsv := hE.2.2.2.2.2.2.2.2.2.2.2
  unfold pm_X at hx9
  split at hx9
  · rename_i t ht
    obtain ⟨rfl, nx, n, hst, hS⟩ := hx9
    rcases hh with hh | ⟨a, b, t9, idx, hh, hi0, hlk⟩
    · rw [hh] at ht; cases ht
    · rw [hh] at ht htab
      unfold pm_hnd at ht
      rcases pm_bif ht with ⟨hcv, ht⟩ | ⟨-, ht⟩
      · cases ht
        obtain ⟨c1, c2⟩ := pm_and2 hcv
        have hcast : (Cond.castable (pm_cn (pm_hci mi)) (pm_cn (pm_hci mi))).before args s = true := by
          have hc9 := hE.2.1.2.2.1
          rcases pm_hci_or mi with z | z
          · rw [z]; exact va_Nw.use rfl (hc9 RX2 (List.mem_of_getElem? (i := 0) rfl))
          · rw [z]; exact va_Nw.use rfl (hc9 RJ9 (List.mem_of_getElem? (i := 1) rfl))
        refine vx_catch hown [] ⟨a, b, t, idx⟩ [] htab (fun z hz => nomatch hz) (by
          show (decide (a ≤ pc) && decide (pc < b)) = true
          rw [decide_eq_true (Nat.le_of_ble_eq_true c1), decide_eq_true (pm_blt c2)]; rfl) hi0 (hts _ hlk) hcast hcell hv hcl ?_
        show W p l e R s m args below meth c H locs cells slots _ (F0 m t ls [.ref q])
        have kk := hS l p e R s m args below meth c mc ms X0 ad0 n0 hn0
        unfold pm_hst at hst
        split at hst
        · rename_i ins ln nx9 cv9 n9 tb9 hcode
          have hV := pm_ok mi t _ hcode
          obtain ⟨hd, hR⟩ := hV
          split at hst
          · rcases pm_bif hst with ⟨hb9, hst⟩ | ⟨-, hst⟩
            · cases hst
              obtain ⟨g1, g2⟩ := pm_and2 hb9
              obtain ⟨e1, e2, e3⟩ := hR
              have hd2 := hd
              try simp only at hd2
              rw [e1] at hd2
              refine lv_astore_n (lv' := _) hx hb hd2 e3.symm h5.lv (by have := pm_blt g2; rw [h5.2.1] at this; exact this) rfl fun ls' hl' => ?_
              have e2' := e2
              try simp only at e2'
              subst e2'
              exact kk ad H locs cells slots ls' h1 h2 h3 h4 (pm_has_drop h5 g1 hsv hl') (pm_wl_set h6 (fun v e => by cases e)) pm_wst_0 h8 h9
            · cases hst
          · rcases pm_bif hst with ⟨hb9, hst⟩ | ⟨-, hst⟩
            · cases hst
              obtain ⟨g1, g2⟩ := pm_and2 hb9
              obtain ⟨e1, e2, e3⟩ := hR
              have hd2 := hd
              try simp only at hd2
              rw [e1] at hd2
              have e3' := e3
              try simp only at e3'
              subst e3'
              refine lv_astore (lv' := _) hx hb hd2 h5.lv (by have := pm_blt g2; rw [h5.2.1] at this; exact this) rfl fun ls' hl' => ?_
              have e2' := e2
              try simp only at e2'
              subst e2'
              exact kk ad H locs cells slots ls' h1 h2 h3 h4 (pm_has_drop h5 g1 hsv hl') (pm_wl_set h6 (fun v e => by cases e)) pm_wst_0 h8 h9
            · cases hst
          · cases hst
        · cases hst
      · cases ht
  · rename_i ht
    have hout : ∀ x ∈ c.exceptionTable.toList, covers x pc = false := by
      intro x hxm
      rw [htab] at hxm
      rcases hh with hh | ⟨a, b, t9, idx, hh, hi0, hlk⟩
      · rw [hh] at hxm; cases hxm
      · rw [hh] at hxm ht
        have hx1 : x = ⟨a, b, t9, idx⟩ := by
          simpa [tableOf] using hxm
        rw [hx1]
        unfold pm_hnd at ht
        cases hc9 : (Nat.ble a pc && Nat.blt pc b) with
        | true => rw [hc9] at ht; cases ht
        | false =>
          show (decide (a ≤ pc) && decide (pc < b)) = false
          by_cases z1 : a ≤ pc
          · by_cases z2 : pc < b
            · rw [Nat.ble_eq_true_of_le z1, show Nat.blt pc b = true from Nat.ble_eq_true_of_le z2] at hc9
              cases hc9
            · rw [decide_eq_false z2, Bool.and_false]
          · rw [decide_eq_false z1, Bool.false_and]
    exact vx_out hout hlocks hcell hv hcl (fun t ht9 hA => ⟨⟨ci, h, ad, hx9, rfl, h1, h2, by rw [ht9]; exact h3⟩, h4.F ht9⟩) h4.2.2 (by omega) (by omega)
end PMD
