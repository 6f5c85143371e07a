/-! SOUNDNESS, eighth part: calls -/
theorem pm_lay_len {sv : Value} (hsv : sv = .null ∨ ∃ a, sv = .ref a) (ad : Nat → Nat) : ∀ vs : List Value, (lg_sl (vs.map (pm_cv sv ad))).length = (pm_lay vs).length
  | [] => rfl
  | v :: vs => by
    have ih := pm_lay_len hsv ad vs
    unfold lg_sl at ih ⊢
    rw [List.map_cons, List.flatMap_cons, List.length_append, ih, pm_cv_cat hsv]
    rw [show pm_lay (v :: vs) = bif Nat.beq v.category 2 then some v :: none :: pm_lay vs else some v :: pm_lay vs from rfl]
    by_cases hc : v.category = 2
    · rw [if_pos hc, hc]
      simp; omega
    · rw [if_neg hc]
      have : Nat.beq v.category 2 = false := by
        cases hb : Nat.beq v.category 2 with
        | false => rfl
        | true => exact absurd (Nat.eq_of_beq_eq_true hb) hc
      rw [this]
      simp; omega
theorem pm_lay_at {sv : Value} (hsv : sv = .null ∨ ∃ a, sv = .ref a) (ad : Nat → Nat) : ∀ (vs : List Value) (i j : Nat) (v : Value), (pm_lay vs)[j]? = some (some v) → (i + j, pm_cv sv ad v) ∈ lv_args i (vs.map (pm_cv sv ad)) ∧ v ∈ vs
  | [], i, j, v, h => by simp [pm_lay] at h
  | w :: vs, i, j, v, h => by
    rw [show pm_lay (w :: vs) = bif Nat.beq w.category 2 then some w :: none :: pm_lay vs else some w :: pm_lay vs from rfl] at h
    rw [List.map_cons]
    show (i + j, pm_cv sv ad v) ∈ (i, pm_cv sv ad w) :: lv_args (if (pm_cv sv ad w).category = 2 then i + 2 else i + 1) (vs.map (pm_cv sv ad)) ∧ _
    rw [pm_cv_cat hsv]
    by_cases hc : w.category = 2
    · rw [if_pos hc]
      rw [hc] at h
      match j, h with
      | 0, h => simp at h; subst h; exact ⟨List.mem_cons_self, List.mem_cons_self⟩
      | 1, h => simp at h
      | j + 2, h =>
        obtain ⟨h1, h2⟩ := pm_lay_at hsv ad vs (i + 2) j v (by simpa using h)
        exact ⟨List.mem_cons_of_mem _ (by rw [show i + (j + 2) = i + 2 + j by omega]; exact h1), List.mem_cons_of_mem _ h2⟩
    · rw [if_neg hc]
      have hb : Nat.beq w.category 2 = false := by
        cases hb : Nat.beq w.category 2 with
        | false => rfl
        | true => exact absurd (Nat.eq_of_beq_eq_true hb) hc
      rw [hb] at h
      match j, h with
      | 0, h => simp at h; subst h; exact ⟨List.mem_cons_self, List.mem_cons_self⟩
      | j + 1, h =>
        obtain ⟨h1, h2⟩ := pm_lay_at hsv ad vs (i + 1) j v (by simpa using h)
        exact ⟨List.mem_cons_of_mem _ (by rw [show i + (j + 1) = i + 1 + j by omega]; exact h1), List.mem_cons_of_mem _ h2⟩
theorem pm_pad_len : ∀ (l : pmL) (n : Nat), l.length ≤ n → (pm_pad l n).length = n
  | l, 0, h => by
    have : l = [] := List.length_eq_zero_iff.mp (Nat.le_zero.mp h)
    subst this; rfl
  | [], n + 1, _ => by
    show (none :: pm_pad [] n).length = n + 1
    rw [List.length_cons, pm_pad_len [] n (Nat.zero_le _)]
  | a :: l, n + 1, h => by
    show (a :: pm_pad l n).length = n + 1
    rw [List.length_cons, pm_pad_len l n (by simpa using h)]
theorem pm_pad_at : ∀ (l : pmL) (n j : Nat) (v : Value), (pm_pad l n)[j]? = some (some v) → l[j]? = some (some v)
  | l, 0, j, v, h => h
  | [], n + 1, j, v, h => by
    cases j with
    | zero => simp [pm_pad] at h
    | succ j => exact absurd (pm_pad_at [] n j v (by simpa [pm_pad] using h)) (by simp)
  | a :: l, n + 1, j, v, h => by
    cases j with
    | zero => simpa [pm_pad] using h
    | succ j => simpa using pm_pad_at l n j v (by simpa [pm_pad] using h)
def pm_rm (d u : Nat) : Room := { frames := d + 8, cells := u, slots := u, locals := 64 * d + 256 }
section PME
variable {D : va_G} {ac : Nat → ClassId} {b0 : Nat} {aR : Nat → Nat} {sv : Value} {sc : Nat × (Nat → Int32)} {ad0 : Nat → Nat} {n0 : Nat} {Q : pmO → Prop} {mi d mc ms : Nat}
variable {p : Program} {l : Launch} {e : Env} {R : Room} {s : State} {m : MethodId} {args : Array Value} {below : List Frame} {meth : Method} {c : Code}
def pm_Pc (D : va_G) (ac : Nat → ClassId) (b0 : Nat) (aR : Nat → Nat) (sv : Value) (sc : Nat × (Nat → Int32)) (ad : Nat → Nat) (h : pmH) (as : List Value) : Array Value → State → Prop := fun v U => v = (as.map (pm_cv sv ad)).toArray ∧ pm_E D ac b0 aR sv sc U ∧ pm_M D ac b0 aR sv sc ad h U.heap
theorem pm_Pc_blind {ad : Nat → Nat} {h : pmH} {as : List Value} : FrameBlind (pm_Pc D ac b0 aR sv sc ad h as) := by
  intro a U g mk q
  obtain ⟨q0, q1, q2⟩ := q
  exact ⟨q0, pm_E.move (U := U.calling g mk a) q1 (State.WarmedH.refl U) q1.2.2.2.2.1 (fun _ _ _ => rfl), q2⟩
/-- the body of a method out of its entry, for any table of handlers -/
theorem pm_body {d u y : Nat} {h : pmH} {as : List Value} {Q1 : pmO → Prop} {ad : Nat → Nat} (w : pm_Sd D ac b0 aR sv sc d u y 0 (pm_entry y as) [] h Q1) (hl : l.stackTraces = false) (hfit : (pm_lay as).length ≤ (pm_info y).2.2.1) (hwa : pm_wst h.length as)
    (X : pm_Cx D ac b0 aR sv sc y d u u p l (pm_rm d u) s m (as.map (pm_cv sv ad)).toArray meth c) (hM : pm_M D ac b0 aR sv sc ad h s.heap) :
    W p l e (pm_rm d u) s m (as.map (pm_cv sv ad)).toArray below meth c s.heap [] 0 0 (vx_MQ below (pm_Qc D ac b0 aR sv sc ad h.length Q1) (pm_XC D ac b0 aR sv sc ad h.length Q1) (as.map (pm_cv sv ad)).toArray s u u (pm_A b0)) (entryFrame m (as.map (pm_cv sv ad)).toArray (pm_info y).2.2.1) := by
  have hE := X.2.2.2.2.2.2.2.2.2.2.2.2.2.2.1
  have hsv := hE.2.2.2.2.2.2.2.2.2.2.2
  have hlen := pm_lay_len hsv ad as
  have hl9 := lv_entry (as.map (pm_cv sv ad)) (n := (pm_info y).2.2.1) (by rw [hlen]; exact hfit)
  rw [lg_entry_eq]
  generalize (lg_sl (as.map (pm_cv sv ad)) ++ List.replicate ((pm_info y).2.2.1 - (lg_sl (as.map (pm_cv sv ad))).length) Slot.unset).toArray = ls at hl9 ⊢
  have hhas : pm_has sv ad ls (pm_info y).2.2.1 (pm_entry y as) := by
    refine ⟨hl9.1, pm_pad_len _ _ hfit, hl9.2.1, fun j v hv => ?_⟩
    have h1 := pm_pad_at _ _ j v (pm_loc_some.mp hv)
    have h2 := (pm_lay_at hsv ad as 0 j v h1).1
    rw [Nat.zero_add] at h2
    exact hl9.2.2 _ h2
  have hwl : pm_wl h.length (pm_entry y as) := by
    intro v hv
    obtain ⟨j, hj⟩ := List.getElem?_of_mem hv
    exact hwa v (pm_lay_at hsv ad as 0 j v (pm_pad_at _ _ j v hj)).2
  exact w l p e (pm_rm d u) s m _ below meth c u u X ad h.length (pm_wf_len hM.2.2.1) ad s.heap [] 0 0 ls (fun _ _ => rfl) (Nat.le_refl _) hM va_S.rf hhas hwl pm_wst_0 (by omega) (by omega)
theorem pm_metC {d u y k : Nat} {h : pmH} {as : List Value} {Q1 : pmO → Prop} {ad : Nat → Nat} (hJ : pm_JV (pm_info y) (pm_hci y) k) (hh : (pm_info y).2.2.2.2.1 = []) (w : pm_Sd D ac b0 aR sv sc d u y 0 (pm_entry y as) [] h Q1) (hl : l.stackTraces = false) (hfit : (pm_lay as).length ≤ (pm_info y).2.2.1) (hwa : pm_wst h.length as) :
    vx_Met l (pm_info y).1 (ws_ (pm_info y).1 (pm_info y).2.1 (pm_info y).2.2.1 (pm_info y).2.2.2.1) (pm_rm d u) (pm_Pc D ac b0 aR sv sc ad h as) (pm_Qc D ac b0 aR sv sc ad h.length Q1) (pm_XC D ac b0 aR sv sc ad h.length Q1) u u (pm_A b0) := by
  refine vx_ofW (cc := (pm_info y).2.1) (maxL := (pm_info y).2.2.1) (ret := (pm_info y).2.2.2.1) hJ.2.1 rfl ?_
  intro p e s m args below meth c s₁ B hml ht hPc
  obtain ⟨rfl, hE, hM⟩ := hPc
  have hts := atoms_spec (ws := ws_ (pm_info y).1 (pm_info y).2.1 (pm_info y).2.2.1 (pm_info y).2.2.2.1) B.pre
  have hown : s.vm.findClass (pm_info y).2.2.2.2.2.1 = some m.cls := by rw [hJ.2.2.1]; exact findClass_of_methodNamed B.named
  refine pm_body w hl hfit hwa ⟨B.exec, B.bytes, B.returns, B.notSynchronized, hml, hown, fun w h => hts w (List.mem_cons_of_mem _ h), (name_of_methodNamed B.named B.method).1, ?_, hl, Nat.le_refl _, Nat.le_refl _, Nat.le_refl _, Nat.le_refl _, hE, Or.inl hh⟩ hM
  rw [hh]
  exact List.eq_nil_iff_forall_not_mem.mpr fun x hx => ht x hx
theorem pm_metH {d u y k : Nat} {h : pmH} {as : List Value} {Q1 : pmO → Prop} {ad : Nat → Nat} (hJ : pm_JV (pm_info y) (pm_hci y) k) (hh : ∃ a b t idx, (pm_info y).2.2.2.2.1 = [(a, b, t, idx)] ∧ idx ≠ 0 ∧ Cond.classLink (pm_info y).2.2.2.2.2.1 idx (pm_cn (pm_hci y)) ∈ lw_all) (w : pm_Sd D ac b0 aR sv sc d u y 0 (pm_entry y as) [] h Q1) (hl : l.stackTraces = false) (hfit : (pm_lay as).length ≤ (pm_info y).2.2.1) (hwa : pm_wst h.length as) :
    vx_Met l (pm_info y).1 (wsW_ (pm_info y).1 (pm_info y).2.1 (pm_info y).2.2.1 (pm_info y).2.2.2.1 (pm_info y).2.2.2.2.1) (pm_rm d u) (pm_Pc D ac b0 aR sv sc ad h as) (pm_Qc D ac b0 aR sv sc ad h.length Q1) (pm_XC D ac b0 aR sv sc ad h.length Q1) u u (pm_A b0) := by
  refine vx_ofWH (cc := (pm_info y).2.1) (maxL := (pm_info y).2.2.1) (ret := (pm_info y).2.2.2.1) (hh := (pm_info y).2.2.2.2.1) hJ.2.1 rfl ?_
  intro p e s m args below meth c s₁ B hml hPc
  obtain ⟨rfl, hE, hM⟩ := hPc
  have hts := atoms_spec (ws := wsW_ (pm_info y).1 (pm_info y).2.1 (pm_info y).2.2.1 (pm_info y).2.2.2.1 (pm_info y).2.2.2.2.1) B.pre
  have hown : s.vm.findClass (pm_info y).2.2.2.2.2.1 = some m.cls := by rw [hJ.2.2.1]; exact findClass_of_methodNamed B.named
  exact pm_body w hl hfit hwa ⟨B.exec, B.bytes, B.returns, B.notSynchronized, hml, hown, fun w h => hts w (List.mem_cons_of_mem _ h), (name_of_methodNamed B.named B.method).1, vx_table (x := (pm_info y).1) B (hts _ List.mem_cons_self), hl, Nat.le_refl _, Nat.le_refl _, Nat.le_refl _, Nat.le_refl _, hE, Or.inr hh⟩ hM
/-- behind a call -/
theorem pm_after {pc nx u u1 : Nat} {L : pmL} {r : List Value} {h : pmH} {Q1 : pmO → Prop} {ad : Nat → Nat} {H : Heap} {locs : List Loc} {cells slots : Nat} {ls : Array Slot} {st0 : List Value} {aa : Array Value}
    (X : pm_Cx D ac b0 aR sv sc mi d mc ms p l R s m args meth c) (hn0 : 14 ≤ n0) (hu : u1 ≤ u) (hnx : nx = pc + 3)
    (hr : vx_Run p l e R s m args below meth c H locs cells slots u1 u1 (F0 m pc ls st0) (r.map (pm_cv sv ad)) (pm_Qc D ac b0 aR sv sc ad h.length Q1 aa) (pm_XC D ac b0 aR sv sc ad h.length Q1) (pm_A b0))
    (k : ∀ v h', Q1 (.inl v, h') → pm_G D ac b0 aR sv sc ad0 n0 Q mi mc ms p l e R s m args below meth c (u - u1) nx L (v.toList ++ r) h') (kx : ∀ ci h', Q1 (.inr ci, h') → pm_X (pm_Sd D ac b0 aR sv sc) d (u - u1) mi pc L h' Q ci)
    (h1 : ∀ i, i < n0 → ad i = ad0 i) (h2 : n0 ≤ h.length) (h4 : va_S (pm_A b0) s.heap H locs) (h5 : pm_has sv ad ls (pm_info mi).2.2.1 L) (h6 : pm_wl h.length L) (h7 : pm_wst h.length r) (h8 : cells + u ≤ mc) (h9 : slots + u ≤ ms) :
    W p l e R s m args below meth c H locs cells slots (vx_MQ below (pm_Qc D ac b0 aR sv sc ad0 n0 Q) (pm_XC D ac b0 aR sv sc ad0 n0 Q) args s mc ms (pm_A b0)) (F0 m pc ls st0) := by
  intro T hT XS
  rcases hr T hT XS with ⟨v, st₀, t, T', Lo, g0, X', hL, e1, e2, hq, st⟩ | ⟨q, st₀, t, T', Lo, E, ce, g0, X', hL, e1, e2, hxc, hce, hcv, hcl, st⟩
  · obtain ⟨⟨v', h', ad', q1, q2, q3, q4, q5, q6⟩, hF⟩ := hq
    cases q2
    obtain ⟨-, -, z3⟩ := vx_keep g0 e1 h4 (fun _ _ q => q) (fun _ q => q) hL hF
    have hwr : pm_wst h'.length (v'.toList ++ r) := by
      intro x hx
      rcases List.mem_append.mp hx with z | z
      · exact q5 x (by cases v' <;> simp_all)
      · exact pm_wv_mono q4 (h7 x z)
    have k9 := k v' h' q1 ad' T'.heap (locs ++ Lo) (cells + u1) (slots + u1) ls (fun i hi => (q3 i (by omega)).trans (h1 i hi)) (Nat.le_trans h2 q4) (by rw [e1]; exact q6) z3 (pm_has_ag h5 q3 h6) (fun x hx => pm_wv_mono q4 (h6 x hx)) hwr (by omega) (by omega)
    rw [List.map_append, pm_cvs_ag q3 h7, hnx] at k9
    obtain ⟨t2, a1, b1⟩ := k9 T' rfl X'
    refine ⟨t2, st t2 ?_, b1⟩
    have e9 : (v'.map (pm_cv sv ad')).toList = v'.toList.map (pm_cv sv ad') := by cases v' <;> rfl
    rw [e9]
    exact a1
  · obtain ⟨⟨ci, h', ad', q1, q2, q3, q4, q6⟩, hF⟩ := hxc
    obtain ⟨-, -, z3⟩ := vx_keep g0 e1 h4 (fun _ _ q => q) (fun _ q => q) hL hF
    subst q2
    have k9 := pm_X_ok (e := e) (below := below) (rest := r.map (pm_cv sv ad)) (q := q) (ce := ce) X hn0 (kx ci h' q1) (ad := ad') (H := T'.heap) (locs := locs ++ Lo) (cells := cells + u1) (slots := slots + u1) (ls := ls) (fun i hi => (q3 i (by omega)).trans (h1 i hi)) (Nat.le_trans h2 q4) (by rw [e1]; exact q6) z3 (pm_has_ag h5 q3 h6) (fun x hx => pm_wv_mono q4 (h6 x hx)) (by omega) (by omega) (by rw [e1]; exact hce) hcv hcl
    obtain ⟨t2, a1, b1⟩ := k9 T' rfl X'
    exact ⟨t2, st.trans a1, b1⟩
end PME
