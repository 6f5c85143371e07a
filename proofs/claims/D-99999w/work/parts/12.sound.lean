/-! SOUNDNESS, first part: how a pure heap stands for the machine's -/
def pm_A (b0 : Nat) : Nat → Prop := fun q => b0 ≤ q
def pm_tys (ac : Nat → ClassId) : List (ClassId × FieldType) := [(ac 0, .int), (ac 1, .byte), (ac 2, .long), (ac 3, .object RX9)]
def pm_cv (sv : Value) (ad : Nat → Nat) (v : Value) : Value := match v with
  | .ref k => if k = 0 then sv else .ref (ad k)
  | v => v
def pm_ca (ad : Nat → Nat) (a : vp_A) : vp_A := match a with
  | (n, .inr (.inr (.inr (.inr f)))) => (n, .inr (.inr (.inr (.inr fun j => (f j).map ad))))
  | a => a
def pm_cc (ac : Nat → ClassId) (sv : Value) (ad : Nat → Nat) (c : va_E) : va_E := match c with
  | .inl (k, a) => .inl (ac k, pm_ca ad a)
  | .inr (ci, fs) => .inr (ci, fs.map (pm_cv sv ad))
def pm_ws (ac : Nat → ClassId) (sv : Value) (ad : Nat → Nat) (h : pmH) : va_W := (h.drop 14).mapIdx (fun i c => (ad (14 + i), pm_cc ac sv ad c))
def pm_wv (n : Nat) (v : Value) : Prop := match v with
  | .ref k => k < n
  | _ => True
def pm_wc (n : Nat) (c : va_E) : Prop := match c with
  | .inl (_, _, .inr (.inr (.inr (.inr f)))) => ∀ j k, f j = some k → k < n ∧ 0 < k
  | .inl _ => True
  | .inr (_, fs) => ∀ v ∈ fs, pm_wv n v
def pm_wf (sc : Nat × (Nat → Int32)) (h : pmH) : Prop := (∀ c ∈ h, pm_wc h.length c) ∧ h.take 14 = pm_ro sc
def pm_wl (n : Nat) (L : pmL) : Prop := ∀ v, some v ∈ L → pm_wv n v
def pm_wst (n : Nat) (st : List Value) : Prop := ∀ v ∈ st, pm_wv n v
theorem pm_wst_c {n : Nat} {v : Value} {st : List Value} (h1 : pm_wv n v) (h2 : pm_wst n st) : pm_wst n (v :: st) := List.forall_mem_cons.mpr ⟨h1, h2⟩
theorem pm_wst_t {n : Nat} {v : Value} {st : List Value} (h : pm_wst n (v :: st)) : pm_wst n st := (List.forall_mem_cons.mp h).2
theorem pm_wst_h {n : Nat} {v : Value} {st : List Value} (h : pm_wst n (v :: st)) : pm_wv n v := (List.forall_mem_cons.mp h).1
theorem pm_wst_0 {n : Nat} : pm_wst n [] := fun _ h => nomatch h
theorem pm_wv_mono {n n' : Nat} (hn : n ≤ n') {v : Value} (h : pm_wv n v) : pm_wv n' v := by
  cases v with
  | ref k => exact Nat.lt_of_lt_of_le h hn
  | _ => trivial
theorem pm_wc_mono {n n' : Nat} (hn : n ≤ n') {c : va_E} (h : pm_wc n c) : pm_wc n' c := by
  unfold pm_wc at h ⊢
  split at h
  · exact fun j k e => ⟨Nat.lt_of_lt_of_le (h j k e).1 hn, (h j k e).2⟩
  · trivial
  · exact fun v hv => pm_wv_mono hn (h v hv)
theorem pm_wf_len {sc : Nat × (Nat → Int32)} {h : pmH} (w : pm_wf sc h) : 14 ≤ h.length := by
  have := congrArg List.length w.2
  rw [List.length_take] at this
  have h2 : (pm_ro sc).length = 14 := rfl
  omega
theorem pm_wf_ro {sc : Nat × (Nat → Int32)} {h : pmH} (w : pm_wf sc h) {a : Nat} (ha : a < 14) : h[a]? = (pm_ro sc)[a]? := by
  rw [← w.2, List.getElem?_take_of_lt ha]
theorem pm_cv_ag {sv : Value} {ad ad' : Nat → Nat} {n : Nat} (hag : ∀ i, i < n → ad' i = ad i) {v : Value} (h : pm_wv n v) : pm_cv sv ad' v = pm_cv sv ad v := by
  cases v with
  | ref k =>
    unfold pm_cv
    simp only [hag k h]
  | _ => rfl
theorem pm_cvs_ag {sv : Value} {ad ad' : Nat → Nat} {n : Nat} (hag : ∀ i, i < n → ad' i = ad i) {st : List Value} (h : pm_wst n st) : st.map (pm_cv sv ad') = st.map (pm_cv sv ad) := List.map_congr_left fun v hv => pm_cv_ag hag (h v hv)
theorem pm_cc_ag {ac : Nat → ClassId} {sv : Value} {ad ad' : Nat → Nat} {n : Nat} (hag : ∀ i, i < n → ad' i = ad i) {c : va_E} (h : pm_wc n c) : pm_cc ac sv ad' c = pm_cc ac sv ad c := by
  rcases c with ⟨k, n0, f | f | f | f | f⟩ | ⟨ci, fs⟩
  · rfl
  · rfl
  · rfl
  · rfl
  · have hf : (fun j => (f j).map ad') = fun j => (f j).map ad := by
      funext j
      cases e : f j with
      | none => rfl
      | some k => exact congrArg some (hag k (h j k e).1)
    show (Sum.inl (ac k, (n0, Sum.inr (Sum.inr (Sum.inr (Sum.inr fun j => (f j).map ad')))) ) : va_E) = _
    rw [hf]
    rfl
  · show (Sum.inr (ci, fs.map (pm_cv sv ad')) : va_E) = Sum.inr (ci, fs.map (pm_cv sv ad))
    rw [List.map_congr_left fun v hv => pm_cv_ag hag (h v hv)]
theorem pm_ws_get {ac : Nat → ClassId} {sv : Value} {ad : Nat → Nat} {h : pmH} {a : Nat} {c : va_E} (ha : 14 ≤ a) (hc : h[a]? = some c) : (pm_ws ac sv ad h)[a - 14]? = some (ad a, pm_cc ac sv ad c) := by
  obtain ⟨k, rfl⟩ : ∃ k, a = 14 + k := ⟨a - 14, by omega⟩
  rw [Nat.add_sub_cancel_left]
  unfold pm_ws
  rw [List.getElem?_mapIdx, List.getElem?_drop, hc]
  rfl
theorem pm_ws_of {ac : Nat → ClassId} {sv : Value} {ad : Nat → Nat} {h : pmH} {k : Nat} {q : Nat × va_E} (hq : (pm_ws ac sv ad h)[k]? = some q) : ∃ c, h[14 + k]? = some c ∧ q = (ad (14 + k), pm_cc ac sv ad c) := by
  unfold pm_ws at hq
  rw [List.getElem?_mapIdx, List.getElem?_drop] at hq
  cases hc : h[14 + k]? with
  | none => rw [hc] at hq; cases hq
  | some c => rw [hc] at hq; exact ⟨c, rfl, (Option.some.inj hq).symm⟩
theorem pm_ws_set {ac : Nat → ClassId} {sv : Value} {ad : Nat → Nat} {h : pmH} {a : Nat} {c c0 : va_E} (ha : 14 ≤ a) (hc : h[a]? = some c0) : pm_ws ac sv ad (h.set a c) = (pm_ws ac sv ad h).set (a - 14) (ad a, pm_cc ac sv ad c) := by
  obtain ⟨k, rfl⟩ : ∃ k, a = 14 + k := ⟨a - 14, by omega⟩
  have hl : 14 + k < h.length := (List.getElem?_eq_some_iff.mp hc).1
  rw [Nat.add_sub_cancel_left]
  apply List.ext_getElem?
  intro j
  have e1 : (pm_ws ac sv ad (h.set (14 + k) c))[j]? = ((h.set (14 + k) c)[14 + j]?).map (fun c => (ad (14 + j), pm_cc ac sv ad c)) := by
    unfold pm_ws; rw [List.getElem?_mapIdx, List.getElem?_drop]
  have e2 : (pm_ws ac sv ad h)[j]? = (h[14 + j]?).map (fun c => (ad (14 + j), pm_cc ac sv ad c)) := by
    unfold pm_ws; rw [List.getElem?_mapIdx, List.getElem?_drop]
  have hl2 : k < (pm_ws ac sv ad h).length := by
    unfold pm_ws; rw [List.length_mapIdx, List.length_drop]; omega
  by_cases hj : j = k
  · subst hj
    rw [e1, List.getElem?_set_self hl, List.getElem?_set_self hl2]
    rfl
  · rw [e1, List.getElem?_set_ne (by omega), List.getElem?_set_ne (Ne.symm hj), e2]
theorem pm_ws_push {ac : Nat → ClassId} {sv : Value} {ad ad' : Nat → Nat} {h : pmH} {c : va_E} (hl : 14 ≤ h.length) (hag : ∀ i, i < h.length → ad' i = ad i) (hw : ∀ c ∈ h, pm_wc h.length c) : pm_ws ac sv ad' (h ++ [c]) = pm_ws ac sv ad h ++ [(ad' h.length, pm_cc ac sv ad' c)] := by
  apply List.ext_getElem?
  intro j
  have e1 : (pm_ws ac sv ad' (h ++ [c]))[j]? = ((h ++ [c])[14 + j]?).map (fun c => (ad' (14 + j), pm_cc ac sv ad' c)) := by
    unfold pm_ws; rw [List.getElem?_mapIdx, List.getElem?_drop]
  have e2 : (pm_ws ac sv ad h)[j]? = (h[14 + j]?).map (fun c => (ad (14 + j), pm_cc ac sv ad c)) := by
    unfold pm_ws; rw [List.getElem?_mapIdx, List.getElem?_drop]
  have hl2 : (pm_ws ac sv ad h).length = h.length - 14 := by
    unfold pm_ws; rw [List.length_mapIdx, List.length_drop]
  rw [e1]
  by_cases hj : 14 + j < h.length
  · rw [List.getElem?_append_left hj, List.getElem?_append_left (by omega), e2, List.getElem?_eq_getElem hj]
    simp only [Option.map_some]
    rw [hag _ hj, pm_cc_ag hag (hw _ (List.getElem_mem hj))]
  · rw [List.getElem?_append_right (by omega), List.getElem?_append_right (by omega)]
    by_cases hz : 14 + j = h.length
    · rw [hz, hl2, show j - (h.length - 14) = 0 by omega, Nat.sub_self]
      rfl
    · rw [List.getElem?_eq_none (by simp; omega), List.getElem?_eq_none (by simp; omega)]
      rfl
/-- locals -/
def pm_has (sv : Value) (ad : Nat → Nat) (ls : Array Slot) (nL : Nat) (L : pmL) : Prop := ls.size = nL ∧ L.length = nL ∧ lv_wf ls ∧ ∀ j v, pm_loc L j = some v → ls[j]? = some (.val (pm_cv sv ad v))
theorem pm_loc_some {L : pmL} {j : Nat} {v : Value} : pm_loc L j = some v ↔ L[j]? = some (some v) := by
  unfold pm_loc
  rw [pm_nth_eq]
  constructor
  · intro h
    split at h
    · rename_i w e; cases h; exact e
    · cases h
  · intro h; rw [h]
def pm_lv (sv : Value) (ad : Nat → Nat) : Nat → pmL → List (Nat × Value)
  | _, [] => []
  | i, none :: l => pm_lv sv ad (i + 1) l
  | i, some v :: l => (i, pm_cv sv ad v) :: pm_lv sv ad (i + 1) l
theorem pm_lv_mem {sv : Value} {ad : Nat → Nat} : ∀ (L : pmL) (i : Nat) (q : Nat × Value), q ∈ pm_lv sv ad i L ↔ ∃ j v, L[j]? = some (some v) ∧ q = (i + j, pm_cv sv ad v)
  | [], i, q => by simp [pm_lv]
  | none :: l, i, q => by
    rw [pm_lv, pm_lv_mem l (i + 1) q]
    constructor
    · rintro ⟨j, v, h1, h2⟩
      exact ⟨j + 1, v, by simpa using h1, by rw [h2]; congr 1; omega⟩
    · rintro ⟨j, v, h1, h2⟩
      cases j with
      | zero => simp at h1
      | succ j => exact ⟨j, v, by simpa using h1, by rw [h2]; congr 1; omega⟩
  | some w :: l, i, q => by
    rw [pm_lv, List.mem_cons, pm_lv_mem l (i + 1) q]
    constructor
    · rintro (h | ⟨j, v, h1, h2⟩)
      · exact ⟨0, w, by simp, by rw [h]; rfl⟩
      · exact ⟨j + 1, v, by simpa using h1, by rw [h2]; congr 1; omega⟩
    · rintro ⟨j, v, h1, h2⟩
      cases j with
      | zero =>
        simp at h1
        left; rw [h2, h1]; rfl
      | succ j => right; exact ⟨j, v, by simpa using h1, by rw [h2]; congr 1; omega⟩
theorem pm_has.lv {sv : Value} {ad : Nat → Nat} {ls : Array Slot} {nL : Nat} {L : pmL} (h : pm_has sv ad ls nL L) : lv_has ls nL (pm_lv sv ad 0 L) := by
  refine ⟨h.1, h.2.2.1, fun q hq => ?_⟩
  obtain ⟨j, v, h1, h2⟩ := (pm_lv_mem L 0 q).mp hq
  rw [h2, Nat.zero_add]
  exact h.2.2.2 j v (pm_loc_some.mpr h1)
theorem pm_cv_cat {sv : Value} (hsv : sv = .null ∨ ∃ a, sv = .ref a) (ad : Nat → Nat) (v : Value) : (pm_cv sv ad v).category = v.category := by
  cases v with
  | ref k =>
    by_cases hk : k = 0
    · rw [show pm_cv sv ad (.ref k) = sv from if_pos hk]
      rcases hsv with h | ⟨a, h⟩ <;> rw [h] <;> rfl
    · rw [show pm_cv sv ad (.ref k) = .ref (ad k) from if_neg hk]
      rfl
  | _ => rfl
theorem pm_c2_false {L : pmL} {n j : Nat} {v : Value} (h : pm_ok1 L n = true) (hj : j + 1 = n) (hv : L[j]? = some (some v)) : ¬ v.category = 2 := by
  subst hj
  unfold pm_ok1 pm_c2 at h
  simp only [pm_nth_eq, hv] at h
  intro hc
  rw [hc] at h
  exact absurd h (by decide)
theorem pm_has_set1 {sv : Value} (hsv : sv = .null ∨ ∃ a, sv = .ref a) {ad : Nat → Nat} {ls ls' : Array Slot} {nL n : Nat} {L : pmL} {x : Value} (h0 : pm_has sv ad ls nL L) (hok : pm_ok1 L n = true)
    (h : lv_has ls' nL ((n, pm_cv sv ad x) :: (pm_lv sv ad 0 L).filter (fun q => !(q.1 == n) && !(q.1 + 1 == n && q.2.category == 2)))) : pm_has sv ad ls' nL (pm_set L n (some x)) := by
  refine ⟨h.1, by rw [pm_set_eq, List.length_set]; exact h0.2.1, h.2.1, fun j v hv => ?_⟩
  rw [pm_loc_some, pm_set_eq] at hv
  by_cases hj : n = j
  · subst hj
    have hl : n < L.length := by
      have := (List.getElem?_eq_some_iff.mp hv).1
      rwa [List.length_set] at this
    rw [List.getElem?_set_self hl] at hv
    cases hv
    exact h.2.2 (n, _) List.mem_cons_self
  · rw [List.getElem?_set_ne hj] at hv
    refine h.2.2 (j, pm_cv sv ad v) (List.mem_cons_of_mem _ (List.mem_filter.mpr ⟨(pm_lv_mem L 0 _).mpr ⟨j, v, hv, by rw [Nat.zero_add]⟩, ?_⟩))
    simp only [Bool.and_eq_true, Bool.not_eq_true', beq_eq_false_iff_ne, ne_eq, Bool.and_eq_false_iff]
    refine ⟨Ne.symm hj, ?_⟩
    by_cases hz : j + 1 = n
    · right
      rw [pm_cv_cat hsv]
      exact pm_c2_false hok hz hv
    · left; exact hz
theorem pm_has_set0 {sv : Value} {ad : Nat → Nat} {ls : Array Slot} {nL n : Nat} {L : pmL} (h0 : pm_has sv ad ls nL L) : pm_has sv ad ls nL (pm_set L n none) := by
  refine ⟨h0.1, by rw [pm_set_eq, List.length_set]; exact h0.2.1, h0.2.2.1, fun j v hv => ?_⟩
  rw [pm_loc_some, pm_set_eq] at hv
  by_cases hj : n = j
  · subst hj
    have hl : n < L.length := by
      have := (List.getElem?_eq_some_iff.mp hv).1
      rwa [List.length_set] at this
    rw [List.getElem?_set_self hl] at hv
    cases hv
  · rw [List.getElem?_set_ne hj] at hv
    exact h0.2.2.2 j v (pm_loc_some.mpr hv)
theorem pm_has_set2 {sv : Value} (hsv : sv = .null ∨ ∃ a, sv = .ref a) {ad : Nat → Nat} {ls ls' : Array Slot} {nL n : Nat} {L : pmL} {x : Value} (h0 : pm_has sv ad ls nL L) (hok : pm_ok1 L n = true)
    (h : lv_has ls' nL ((n, pm_cv sv ad x) :: (pm_lv sv ad 0 L).filter (fun q => !(q.1 == n) && (!(q.1 == n + 1) && !(q.1 + 1 == n && q.2.category == 2))))) : pm_has sv ad ls' nL (pm_set (pm_set L n (some x)) (n + 1) none) := by
  refine ⟨h.1, by simp only [pm_set_eq, List.length_set]; exact h0.2.1, h.2.1, fun j v hv => ?_⟩
  rw [pm_loc_some, pm_set_eq, pm_set_eq] at hv
  have hl9 := (List.getElem?_eq_some_iff.mp hv).1
  simp only [List.length_set] at hl9
  by_cases hj1 : n + 1 = j
  · subst hj1
    rw [List.getElem?_set_self (by simpa using hl9)] at hv
    cases hv
  rw [List.getElem?_set_ne hj1] at hv
  by_cases hj : n = j
  · subst hj
    rw [List.getElem?_set_self hl9] at hv
    cases hv
    exact h.2.2 (n, _) List.mem_cons_self
  · rw [List.getElem?_set_ne hj] at hv
    refine h.2.2 (j, pm_cv sv ad v) (List.mem_cons_of_mem _ (List.mem_filter.mpr ⟨(pm_lv_mem L 0 _).mpr ⟨j, v, hv, by rw [Nat.zero_add]⟩, ?_⟩))
    simp only [Bool.and_eq_true, Bool.not_eq_true', beq_eq_false_iff_ne, ne_eq, Bool.and_eq_false_iff]
    refine ⟨Ne.symm hj, Ne.symm hj1, ?_⟩
    by_cases hz : j + 1 = n
    · right
      rw [pm_cv_cat hsv]
      exact pm_c2_false hok hz hv
    · left; exact hz
theorem pm_has_ag {sv : Value} {ad ad' : Nat → Nat} {ls : Array Slot} {nL n : Nat} {L : pmL} (h : pm_has sv ad ls nL L) (hag : ∀ i, i < n → ad' i = ad i) (hw : pm_wl n L) : pm_has sv ad' ls nL L :=
  ⟨h.1, h.2.1, h.2.2.1, fun j v hv => by rw [pm_cv_ag hag (hw v (List.mem_of_getElem? (pm_loc_some.mp hv)))]; exact h.2.2.2 j v hv⟩
theorem pm_wl_set {n k : Nat} {L : pmL} {o : Option Value} (h : pm_wl n L) (ho : ∀ v, o = some v → pm_wv n v) : pm_wl n (pm_set L k o) := by
  intro v hv
  rw [pm_set_eq] at hv
  rcases List.mem_or_eq_of_mem_set hv with q | q
  · exact h v q
  · exact ho v q.symm
/-! what stays through the whole run -/
def pm_lens : List Nat := [1, 6, 2, 3, 4, 4]
def pm_byts : List (List Int32) := [[121], [109, 103, 115, 112, 119, 100], [119, 99], [109, 98, 115], [97, 98, 103, 110], [121, 104, 97, 116]]
def pm_N (U : State) : Prop := (∀ q ∈ pm_nestM, va_Nw (.methodLinkNest q.1 q.2.1 q.2.2.1 q.2.2.2) U) ∧ (∀ q ∈ pm_nestF, va_Nw (.fieldLinkNest q.1 q.2.1 q.2.2.1 q.2.2.2.1 q.2.2.2.2.1 q.2.2.2.2.2) U) ∧ (∀ C ∈ pm_nestC, va_Nw (.castable C C) U) ∧ (∀ x ∈ pm_nestD, va_Nw (.declares x) U) ∧ va_AO RX9 U
def pm_T (aR : Nat → Nat) (U : State) : Prop := ∀ q ∈ pm_strs, vk_R q.1 q.2.1 q.2.2.1 (aR (2 + 2 * q.2.2.2)) U
def pm_E (D : va_G) (ac : Nat → ClassId) (b0 : Nat) (aR : Nat → Nat) (sv : Value) (sc : Nat × (Nat → Int32)) (U : State) : Prop :=
  va_K D pm_cl (pm_tys ac) U ∧ pm_N U ∧ va_X (aR 1) sc.1 sc.2 U U.heap ∧ aR 1 < b0 ∧ b0 ≤ U.heap.size ∧ vk_S 6 pm_lens pm_byts (fun i => aR (2 + 2 * i)) (fun i => aR (3 + 2 * i)) (pm_A b0) U U.heap ∧ pm_T aR U ∧
  va_Z "java/lang/String" "COMPACT_STRINGS" "Z" (.int 1) (pm_A b0) U U.heap ∧ va_Z "jdk/internal/util/Preconditions" "SIOOBE_FORMATTER" "Ljava/util/function/BiFunction;" sv (pm_A b0) U U.heap ∧
  vx_Zq Bundle.tN "UNASSIGNED_STACK" Bundle.steD (pm_A b0) U U.heap ∧ vx_Zq Bundle.tN "SUPPRESSED_SENTINEL" Bundle.listD (pm_A b0) U U.heap ∧ (sv = .null ∨ ∃ a, sv = .ref a)
theorem pm_N.move {s U : State} (hW : s.WarmedH U.vm) (h : pm_N s) : pm_N U :=
  ⟨fun q hq => va_Nw.warmM hW (h.1 q hq), fun q hq => va_Nw.warmF hW (h.2.1 q hq), fun C hC => va_Nw.warmC hW (h.2.2.1 C hC), fun x hx => va_Nw.warmD hW (h.2.2.2.1 x hx), va_AO.moved hW.alike h.2.2.2.2⟩
theorem pm_E.move {D : va_G} {ac : Nat → ClassId} {b0 : Nat} {aR : Nat → Nat} {sv : Value} {sc : Nat × (Nat → Int32)} {s U : State} (h : pm_E D ac b0 aR sv sc s) (hW : s.WarmedH U.vm) (hb : b0 ≤ U.heap.size) (hk : ∀ q : Nat, q < s.heap.size → ¬ pm_A b0 q → U.heap[q]? = s.heap[q]?) : pm_E D ac b0 aR sv sc U := by
  obtain ⟨h1, h2, h3, h4, h5, h6, h7, h8, h9, h10, h11, h12⟩ := h
  have hA := hW.alike
  refine ⟨va_K.moved hA h1, h2.move hW, (va_X.moved hA h3).kept (hk _ (by omega) (fun q => absurd h4 (Nat.not_lt.mpr q))), h4, hb, vk_S.moved hA (h6.kept hk), fun q hq => (h7 q hq).warm hW, va_Z.moved hA (h8.kept hk), va_Z.moved hA (h9.kept hk), vx_Zq.moved hA (h10.kept hk), vx_Zq.moved hA (h11.kept hk), h12⟩
def pm_M (D : va_G) (ac : Nat → ClassId) (b0 : Nat) (aR : Nat → Nat) (sv : Value) (sc : Nat × (Nat → Int32)) (ad : Nat → Nat) (h : pmH) (H : Heap) : Prop :=
  va_P D pm_cl (pm_ws ac sv ad h) H ∧ va_D (pm_A b0) (pm_ws ac sv ad h) ∧ pm_wf sc h ∧ ∀ i, i < 14 → ad i = aR i
def pm_Qc (D : va_G) (ac : Nat → ClassId) (b0 : Nat) (aR : Nat → Nat) (sv : Value) (sc : Nat × (Nat → Int32)) (ad0 : Nat → Nat) (n0 : Nat) (Q : pmO → Prop) : Array Value → State → Outcome → State → Prop := fun _ st o t =>
  (∃ v h' ad', Q (.inl v, h') ∧ o = .returned (v.map (pm_cv sv ad')) ∧ (∀ i, i < n0 → ad' i = ad0 i) ∧ n0 ≤ h'.length ∧ (∀ w, v = some w → pm_wv h'.length w) ∧ pm_M D ac b0 aR sv sc ad' h' t.heap) ∧ va_F (pm_A b0) st t
def pm_XC (D : va_G) (ac : Nat → ClassId) (b0 : Nat) (aR : Nat → Nat) (sv : Value) (sc : Nat × (Nat → Int32)) (ad0 : Nat → Nat) (n0 : Nat) (Q : pmO → Prop) : String → State → State → Prop := fun E st t =>
  (∃ ci h' ad', Q (.inr ci, h') ∧ E = pm_cn ci ∧ (∀ i, i < n0 → ad' i = ad0 i) ∧ n0 ≤ h'.length ∧ pm_M D ac b0 aR sv sc ad' h' t.heap) ∧ va_F (pm_A b0) st t
