/-! SOUNDNESS, second part: a step of the pure machine is a step of the machine -/
section PMS
variable {D : va_G} {ac : Nat → ClassId} {b0 : Nat} {aR : Nat → Nat} {sv : Value} {sc : Nat × (Nat → Int32)} {ad0 : Nat → Nat} {n0 : Nat} {Q : pmO → Prop} {mi d mc ms : Nat}
variable {p : Program} {l : Launch} {e : Env} {R : Room} {s : State} {m : MethodId} {args : Array Value} {below : List Frame} {meth : Method} {c : Code}
def pm_Cx (D : va_G) (ac : Nat → ClassId) (b0 : Nat) (aR : Nat → Nat) (sv : Value) (sc : Nat × (Nat → Int32)) (mi d mc ms : Nat) (p : Program) (l : Launch) (R : Room) (s : State) (m : MethodId) (args : Array Value) (meth : Method) (c : Code) : Prop :=
  p.tables.exec = Jvm.exec ∧ c.code = (pm_info mi).2.1 ∧ meth.sig.returnType = (pm_info mi).2.2.2.1 ∧ meth.locks = false ∧ c.maxLocals = (pm_info mi).2.2.1 ∧ s.vm.findClass (pm_info mi).2.2.2.2.2.1 = some m.cls ∧ (∀ w ∈ lw_all, w.before args s = true) ∧ meth.name = (pm_info mi).1.name ∧
  c.exceptionTable.toList = tableOf (pm_info mi).2.2.2.2.1 ∧ l.stackTraces = false ∧ d + 8 ≤ R.frames ∧ 64 * d + 256 ≤ R.locals ∧ mc ≤ R.cells ∧ ms ≤ R.slots ∧ pm_E D ac b0 aR sv sc s ∧ ((pm_info mi).2.2.2.2.1 = [] ∨ ∃ a b t idx, (pm_info mi).2.2.2.2.1 = [(a, b, t, idx)] ∧ idx ≠ 0 ∧ Cond.classLink (pm_info mi).2.2.2.2.2.1 idx (pm_cn (pm_hci mi)) ∈ lw_all)
/-- what is to be shown at a place of a method -/
def pm_G (D : va_G) (ac : Nat → ClassId) (b0 : Nat) (aR : Nat → Nat) (sv : Value) (sc : Nat × (Nat → Int32)) (ad0 : Nat → Nat) (n0 : Nat) (Q : pmO → Prop) (mi mc ms : Nat) (p : Program) (l : Launch) (e : Env) (R : Room) (s : State) (m : MethodId) (args : Array Value) (below : List Frame) (meth : Method) (c : Code) (u pc : Nat) (L : pmL) (st : List Value) (h : pmH) : Prop :=
  ∀ (ad : Nat → Nat) (H : Heap) (locs : List Loc) (cells slots : Nat) (ls : Array Slot), (∀ i, i < n0 → ad i = ad0 i) → n0 ≤ h.length → pm_M D ac b0 aR sv sc ad h H → va_S (pm_A b0) s.heap H locs → pm_has sv ad ls (pm_info mi).2.2.1 L → pm_wl h.length L → pm_wst h.length st → cells + u ≤ mc → slots + u ≤ ms →
    W p l e R s m args below meth c H locs cells slots (vx_MQ below (pm_Qc D ac b0 aR sv sc ad0 n0 Q) (pm_XC D ac b0 aR sv sc ad0 n0 Q) args s mc ms (pm_A b0)) (F0 m pc ls (st.map (pm_cv sv ad)))
abbrev pm_WQ (D : va_G) (ac : Nat → ClassId) (b0 : Nat) (aR : Nat → Nat) (sv : Value) (sc : Nat × (Nat → Int32)) (ad0 : Nat → Nat) (n0 : Nat) (Q : pmO → Prop) (mc ms : Nat) (s : State) (args : Array Value) (below : List Frame) : State → Prop := vx_MQ below (pm_Qc D ac b0 aR sv sc ad0 n0 Q) (pm_XC D ac b0 aR sv sc ad0 n0 Q) args s mc ms (pm_A b0)
theorem pm_q_i2 {f : Int32 → Int32 → Int32} {pc nx k pc' u : Nat} {P : Prop} {L L' : pmL} {st st' : List Value} {h h' : pmH} (hs : pm_i2 nx L st h f = some (P, k, pc', L', st', h')) (kk : pm_G D ac b0 aR sv sc ad0 n0 Q mi mc ms p l e R s m args below meth c (u - k) pc' L' st' h')
    (row : ∀ (H : Heap) (locs : List Loc) (cells slots : Nat) (ls : Array Slot) (rest : List Value) (x y : Int32), W p l e R s m args below meth c H locs cells slots (pm_WQ D ac b0 aR sv sc ad0 n0 Q mc ms s args below) (F0 m nx ls (.int (f x y) :: rest)) → W p l e R s m args below meth c H locs cells slots (pm_WQ D ac b0 aR sv sc ad0 n0 Q mc ms s args below) (F0 m pc ls (.int y :: .int x :: rest))) :
    pm_G D ac b0 aR sv sc ad0 n0 Q mi mc ms p l e R s m args below meth c u pc L st h := by
  unfold pm_i2 at hs
  split at hs
  · cases hs
    intro ad H locs cells slots ls h1 h2 h3 h4 h5 h6 h7 h8 h9
    exact row H locs cells slots ls _ _ _ (kk ad H locs cells slots ls h1 h2 h3 h4 h5 h6 (pm_wst_c trivial (pm_wst_t (pm_wst_t h7))) h8 h9)
  · cases hs
theorem pm_q_i2n {f : Int32 → Int32 → Int32} {pc nx k pc' u : Nat} {P : Prop} {L L' : pmL} {st st' : List Value} {h h' : pmH} (hs : pm_i2n nx L st h f = some (P, k, pc', L', st', h')) (hP : P) (kk : pm_G D ac b0 aR sv sc ad0 n0 Q mi mc ms p l e R s m args below meth c (u - k) pc' L' st' h')
    (row : ∀ (H : Heap) (locs : List Loc) (cells slots : Nat) (ls : Array Slot) (rest : List Value) (x y : Int32), ¬ y = 0 → W p l e R s m args below meth c H locs cells slots (pm_WQ D ac b0 aR sv sc ad0 n0 Q mc ms s args below) (F0 m nx ls (.int (f x y) :: rest)) → W p l e R s m args below meth c H locs cells slots (pm_WQ D ac b0 aR sv sc ad0 n0 Q mc ms s args below) (F0 m pc ls (.int y :: .int x :: rest))) :
    pm_G D ac b0 aR sv sc ad0 n0 Q mi mc ms p l e R s m args below meth c u pc L st h := by
  unfold pm_i2n at hs
  split at hs
  · cases hs
    intro ad H locs cells slots ls h1 h2 h3 h4 h5 h6 h7 h8 h9
    exact row H locs cells slots ls _ _ _ hP (kk ad H locs cells slots ls h1 h2 h3 h4 h5 h6 (pm_wst_c trivial (pm_wst_t (pm_wst_t h7))) h8 h9)
  · cases hs
theorem pm_q_i1 {f : Int32 → Value} {pc nx k pc' u : Nat} {P : Prop} {L L' : pmL} {st st' : List Value} {h h' : pmH} (hs : pm_i1 nx L st h f = some (P, k, pc', L', st', h')) (hf : ∀ x n ad, pm_wv n (f x) ∧ pm_cv sv ad (f x) = f x) (kk : pm_G D ac b0 aR sv sc ad0 n0 Q mi mc ms p l e R s m args below meth c (u - k) pc' L' st' h')
    (row : ∀ (H : Heap) (locs : List Loc) (cells slots : Nat) (ls : Array Slot) (rest : List Value) (x : Int32), W p l e R s m args below meth c H locs cells slots (pm_WQ D ac b0 aR sv sc ad0 n0 Q mc ms s args below) (F0 m nx ls (f x :: rest)) → W p l e R s m args below meth c H locs cells slots (pm_WQ D ac b0 aR sv sc ad0 n0 Q mc ms s args below) (F0 m pc ls (.int x :: rest))) :
    pm_G D ac b0 aR sv sc ad0 n0 Q mi mc ms p l e R s m args below meth c u pc L st h := by
  unfold pm_i1 at hs
  split at hs
  · rename_i x r
    cases hs
    intro ad H locs cells slots ls h1 h2 h3 h4 h5 h6 h7 h8 h9
    have k9 := kk ad H locs cells slots ls h1 h2 h3 h4 h5 h6 (pm_wst_c (hf _ _ ad).1 (pm_wst_t h7)) h8 h9
    rw [List.map_cons, (hf x 0 ad).2] at k9
    exact row H locs cells slots ls _ _ k9
  · cases hs
theorem pm_q_l2 {f : Int64 → Int64 → Value} {pc nx k pc' u : Nat} {P : Prop} {L L' : pmL} {st st' : List Value} {h h' : pmH} (hs : pm_l2 nx L st h f = some (P, k, pc', L', st', h')) (hf : ∀ x y n ad, pm_wv n (f x y) ∧ pm_cv sv ad (f x y) = f x y) (kk : pm_G D ac b0 aR sv sc ad0 n0 Q mi mc ms p l e R s m args below meth c (u - k) pc' L' st' h')
    (row : ∀ (H : Heap) (locs : List Loc) (cells slots : Nat) (ls : Array Slot) (rest : List Value) (x y : Int64), W p l e R s m args below meth c H locs cells slots (pm_WQ D ac b0 aR sv sc ad0 n0 Q mc ms s args below) (F0 m nx ls (f x y :: rest)) → W p l e R s m args below meth c H locs cells slots (pm_WQ D ac b0 aR sv sc ad0 n0 Q mc ms s args below) (F0 m pc ls (.long y :: .long x :: rest))) :
    pm_G D ac b0 aR sv sc ad0 n0 Q mi mc ms p l e R s m args below meth c u pc L st h := by
  unfold pm_l2 at hs
  split at hs
  · rename_i y x r
    cases hs
    intro ad H locs cells slots ls h1 h2 h3 h4 h5 h6 h7 h8 h9
    have k9 := kk ad H locs cells slots ls h1 h2 h3 h4 h5 h6 (pm_wst_c (hf _ _ _ ad).1 (pm_wst_t (pm_wst_t h7))) h8 h9
    rw [List.map_cons, (hf x y 0 ad).2] at k9
    exact row H locs cells slots ls _ _ _ k9
  · cases hs
theorem pm_q_l2n {f : Int64 → Int64 → Value} {pc nx k pc' u : Nat} {P : Prop} {L L' : pmL} {st st' : List Value} {h h' : pmH} (hs : pm_l2n nx L st h f = some (P, k, pc', L', st', h')) (hP : P) (hf : ∀ x y n ad, pm_wv n (f x y) ∧ pm_cv sv ad (f x y) = f x y) (kk : pm_G D ac b0 aR sv sc ad0 n0 Q mi mc ms p l e R s m args below meth c (u - k) pc' L' st' h')
    (row : ∀ (H : Heap) (locs : List Loc) (cells slots : Nat) (ls : Array Slot) (rest : List Value) (x y : Int64), ¬ y = 0 → W p l e R s m args below meth c H locs cells slots (pm_WQ D ac b0 aR sv sc ad0 n0 Q mc ms s args below) (F0 m nx ls (f x y :: rest)) → W p l e R s m args below meth c H locs cells slots (pm_WQ D ac b0 aR sv sc ad0 n0 Q mc ms s args below) (F0 m pc ls (.long y :: .long x :: rest))) :
    pm_G D ac b0 aR sv sc ad0 n0 Q mi mc ms p l e R s m args below meth c u pc L st h := by
  unfold pm_l2n at hs
  split at hs
  · rename_i y x r
    cases hs
    intro ad H locs cells slots ls h1 h2 h3 h4 h5 h6 h7 h8 h9
    have k9 := kk ad H locs cells slots ls h1 h2 h3 h4 h5 h6 (pm_wst_c (hf _ _ _ ad).1 (pm_wst_t (pm_wst_t h7))) h8 h9
    rw [List.map_cons, (hf x y 0 ad).2] at k9
    exact row H locs cells slots ls _ _ _ hP k9
  · cases hs
/-- a value that no heap speaks of goes on the stack -/
theorem pm_q_push {v : Value} {pc nx u : Nat} {L : pmL} {st : List Value} {h : pmH} (hv : ∀ n ad, pm_wv n v ∧ pm_cv sv ad v = v) (kk : pm_G D ac b0 aR sv sc ad0 n0 Q mi mc ms p l e R s m args below meth c u nx L (v :: st) h)
    (row : ∀ (H : Heap) (locs : List Loc) (cells slots : Nat) (ls : Array Slot) (rest : List Value), W p l e R s m args below meth c H locs cells slots (pm_WQ D ac b0 aR sv sc ad0 n0 Q mc ms s args below) (F0 m nx ls (v :: rest)) → W p l e R s m args below meth c H locs cells slots (pm_WQ D ac b0 aR sv sc ad0 n0 Q mc ms s args below) (F0 m pc ls rest)) :
    pm_G D ac b0 aR sv sc ad0 n0 Q mi mc ms p l e R s m args below meth c u pc L st h := by
  intro ad H locs cells slots ls h1 h2 h3 h4 h5 h6 h7 h8 h9
  have k9 := kk ad H locs cells slots ls h1 h2 h3 h4 h5 h6 (pm_wst_c (hv _ ad).1 h7) h8 h9
  rw [List.map_cons, (hv 0 ad).2] at k9
  exact row H locs cells slots ls _ k9
/-- a read-only reference (a text, or the opaque one) goes on the stack -/
theorem pm_q_pushR {k0 : Nat} {pc nx u : Nat} {L : pmL} {st : List Value} {h : pmH} (hk : k0 < 14) (kk : pm_G D ac b0 aR sv sc ad0 n0 Q mi mc ms p l e R s m args below meth c u nx L (.ref k0 :: st) h)
    (row : ∀ (H : Heap) (locs : List Loc) (cells slots : Nat) (ls : Array Slot) (rest : List Value), va_S (pm_A b0) s.heap H locs → W p l e R s m args below meth c H locs cells slots (pm_WQ D ac b0 aR sv sc ad0 n0 Q mc ms s args below) (F0 m nx ls (pm_cv sv aR (.ref k0) :: rest)) → W p l e R s m args below meth c H locs cells slots (pm_WQ D ac b0 aR sv sc ad0 n0 Q mc ms s args below) (F0 m pc ls rest)) :
    pm_G D ac b0 aR sv sc ad0 n0 Q mi mc ms p l e R s m args below meth c u pc L st h := by
  intro ad H locs cells slots ls h1 h2 h3 h4 h5 h6 h7 h8 h9
  have hl := pm_wf_len h3.2.2.1
  have k9 := kk ad H locs cells slots ls h1 h2 h3 h4 h5 h6 (pm_wst_c (show k0 < h.length by omega) h7) h8 h9
  rw [List.map_cons, pm_cv_ag (n := 14) (ad := aR) (ad' := ad) h3.2.2.2 (show pm_wv 14 (.ref k0) from hk)] at k9
  exact row H locs cells slots ls _ h4 k9
theorem pm_wl_at {n j : Nat} {L : pmL} {v : Value} (h : pm_wl n L) (hv : pm_loc L j = some v) : pm_wv n v := h v (List.mem_of_getElem? (pm_loc_some.mp hv))
theorem pm_q_ild {n pc nx k pc' u : Nat} {P : Prop} {L L' : pmL} {st st' : List Value} {h h' : pmH} (hs : pm_ild1 nx n L st h = some (P, k, pc', L', st', h')) (kk : pm_G D ac b0 aR sv sc ad0 n0 Q mi mc ms p l e R s m args below meth c (u - k) pc' L' st' h')
    (row : ∀ (H : Heap) (locs : List Loc) (cells slots : Nat) (ls : Array Slot) (rest : List Value) (x : Int32), ls[n]? = some (.val (.int x)) → W p l e R s m args below meth c H locs cells slots (pm_WQ D ac b0 aR sv sc ad0 n0 Q mc ms s args below) (F0 m nx ls (.int x :: rest)) → W p l e R s m args below meth c H locs cells slots (pm_WQ D ac b0 aR sv sc ad0 n0 Q mc ms s args below) (F0 m pc ls rest)) :
    pm_G D ac b0 aR sv sc ad0 n0 Q mi mc ms p l e R s m args below meth c u pc L st h := by
  unfold pm_ild1 at hs
  split at hs
  · rename_i x hx
    cases hs
    intro ad H locs cells slots ls h1 h2 h3 h4 h5 h6 h7 h8 h9
    exact row H locs cells slots ls _ _ (h5.2.2.2 _ _ hx) (kk ad H locs cells slots ls h1 h2 h3 h4 h5 h6 (pm_wst_c trivial h7) h8 h9)
  · cases hs
theorem pm_q_lld1 {n pc nx k pc' u : Nat} {P : Prop} {L L' : pmL} {st st' : List Value} {h h' : pmH} (hs : pm_lld1 nx n L st h = some (P, k, pc', L', st', h')) (kk : pm_G D ac b0 aR sv sc ad0 n0 Q mi mc ms p l e R s m args below meth c (u - k) pc' L' st' h')
    (row : ∀ (H : Heap) (locs : List Loc) (cells slots : Nat) (ls : Array Slot) (rest : List Value) (x : Int64), ls[n]? = some (.val (.long x)) → W p l e R s m args below meth c H locs cells slots (pm_WQ D ac b0 aR sv sc ad0 n0 Q mc ms s args below) (F0 m nx ls (.long x :: rest)) → W p l e R s m args below meth c H locs cells slots (pm_WQ D ac b0 aR sv sc ad0 n0 Q mc ms s args below) (F0 m pc ls rest)) :
    pm_G D ac b0 aR sv sc ad0 n0 Q mi mc ms p l e R s m args below meth c u pc L st h := by
  unfold pm_lld1 at hs
  split at hs
  · rename_i x hx
    cases hs
    intro ad H locs cells slots ls h1 h2 h3 h4 h5 h6 h7 h8 h9
    exact row H locs cells slots ls _ _ (h5.2.2.2 _ _ hx) (kk ad H locs cells slots ls h1 h2 h3 h4 h5 h6 (pm_wst_c trivial h7) h8 h9)
  · cases hs
theorem pm_cv_isR (hsv : sv = .null ∨ ∃ a, sv = .ref a) (ad : Nat → Nat) (k : Nat) : pm_cv sv ad (.ref k) = .null ∨ ∃ a, pm_cv sv ad (.ref k) = .ref a := by
  unfold pm_cv
  by_cases hk : k = 0
  · simp only [hk, if_true]; exact hsv
  · simp only [if_neg hk]; exact Or.inr ⟨_, rfl⟩
theorem pm_q_ald1 {n pc nx k pc' u : Nat} {P : Prop} {L L' : pmL} {st st' : List Value} {h h' : pmH} (hsv : sv = .null ∨ ∃ a, sv = .ref a) (hs : pm_ald1 nx n L st h = some (P, k, pc', L', st', h')) (kk : pm_G D ac b0 aR sv sc ad0 n0 Q mi mc ms p l e R s m args below meth c (u - k) pc' L' st' h')
    (row : ∀ (H : Heap) (locs : List Loc) (cells slots : Nat) (ls : Array Slot) (rest : List Value) (x : Nat), ls[n]? = some (.val (.ref x)) → W p l e R s m args below meth c H locs cells slots (pm_WQ D ac b0 aR sv sc ad0 n0 Q mc ms s args below) (F0 m nx ls (.ref x :: rest)) → W p l e R s m args below meth c H locs cells slots (pm_WQ D ac b0 aR sv sc ad0 n0 Q mc ms s args below) (F0 m pc ls rest))
    (rowN : ∀ (H : Heap) (locs : List Loc) (cells slots : Nat) (ls : Array Slot) (rest : List Value), ls[n]? = some (.val .null) → W p l e R s m args below meth c H locs cells slots (pm_WQ D ac b0 aR sv sc ad0 n0 Q mc ms s args below) (F0 m nx ls (.null :: rest)) → W p l e R s m args below meth c H locs cells slots (pm_WQ D ac b0 aR sv sc ad0 n0 Q mc ms s args below) (F0 m pc ls rest)) :
    pm_G D ac b0 aR sv sc ad0 n0 Q mi mc ms p l e R s m args below meth c u pc L st h := by
  unfold pm_ald1 at hs
  split at hs
  · rename_i a hx
    cases hs
    intro ad H locs cells slots ls h1 h2 h3 h4 h5 h6 h7 h8 h9
    have k9 := kk ad H locs cells slots ls h1 h2 h3 h4 h5 h6 (pm_wst_c (pm_wl_at h6 hx) h7) h8 h9
    have g9 := h5.2.2.2 _ _ hx
    rw [List.map_cons] at k9
    rcases pm_cv_isR hsv ad a with q | ⟨b, q⟩
    · rw [q] at k9 g9
      exact rowN H locs cells slots ls _ g9 k9
    · rw [q] at k9 g9
      exact row H locs cells slots ls _ _ g9 k9
  · rename_i hx
    cases hs
    intro ad H locs cells slots ls h1 h2 h3 h4 h5 h6 h7 h8 h9
    exact rowN H locs cells slots ls _ (h5.2.2.2 _ _ hx) (kk ad H locs cells slots ls h1 h2 h3 h4 h5 h6 (pm_wst_c trivial h7) h8 h9)
  · cases hs
theorem pm_and2 {a b : Bool} (h : (a && b) = true) : a = true ∧ b = true := by
  cases a <;> cases b <;> simp_all
theorem pm_q_ist1 {n pc nx k pc' u : Nat} {P : Prop} {L L' : pmL} {st st' : List Value} {h h' : pmH} (hsv : sv = .null ∨ ∃ a, sv = .ref a) (hs : pm_ist1 nx n L st h = some (P, k, pc', L', st', h')) (kk : pm_G D ac b0 aR sv sc ad0 n0 Q mi mc ms p l e R s m args below meth c (u - k) pc' L' st' h')
    (row : ∀ (H : Heap) (locs : List Loc) (cells slots : Nat) (ls : Array Slot) (rest : List Value) (x : Int32) (lv : List (Nat × Value)), lv_has ls (pm_info mi).2.2.1 lv → n < (pm_info mi).2.2.1 → (∀ ls', lv_has ls' (pm_info mi).2.2.1 ((n, .int x) :: lv.filter (fun q => !(q.1 == n) && !(q.1 + 1 == n && q.2.category == 2))) → W p l e R s m args below meth c H locs cells slots (pm_WQ D ac b0 aR sv sc ad0 n0 Q mc ms s args below) (F0 m nx ls' rest)) → W p l e R s m args below meth c H locs cells slots (pm_WQ D ac b0 aR sv sc ad0 n0 Q mc ms s args below) (F0 m pc ls (.int x :: rest))) :
    pm_G D ac b0 aR sv sc ad0 n0 Q mi mc ms p l e R s m args below meth c u pc L st h := by
  unfold pm_ist1 at hs
  split at hs
  · rcases pm_bif hs with ⟨hb, hs⟩ | ⟨hb, hs⟩
    · cases hs
      obtain ⟨hb1, hb2⟩ := pm_and2 hb
      intro ad H locs cells slots ls h1 h2 h3 h4 h5 h6 h7 h8 h9
      refine row H locs cells slots ls _ _ _ h5.lv (by have := pm_blt hb2; rw [h5.2.1] at this; exact this) fun ls' hl' => ?_
      exact kk ad H locs cells slots ls' h1 h2 h3 h4 (pm_has_set1 hsv h5 hb1 hl') (pm_wl_set h6 (fun v e => by cases e; trivial)) (pm_wst_t h7) h8 h9
    · cases hs
  · cases hs
theorem pm_q_lst1 {n pc nx k pc' u : Nat} {P : Prop} {L L' : pmL} {st st' : List Value} {h h' : pmH} (hsv : sv = .null ∨ ∃ a, sv = .ref a) (hs : pm_lst1 nx n L st h = some (P, k, pc', L', st', h')) (kk : pm_G D ac b0 aR sv sc ad0 n0 Q mi mc ms p l e R s m args below meth c (u - k) pc' L' st' h')
    (row : ∀ (H : Heap) (locs : List Loc) (cells slots : Nat) (ls : Array Slot) (rest : List Value) (x : Int64) (lv : List (Nat × Value)), lv_has ls (pm_info mi).2.2.1 lv → n + 1 < (pm_info mi).2.2.1 → (∀ ls', lv_has ls' (pm_info mi).2.2.1 ((n, .long x) :: lv.filter (fun q => !(q.1 == n) && (!(q.1 == n + 1) && !(q.1 + 1 == n && q.2.category == 2)))) → W p l e R s m args below meth c H locs cells slots (pm_WQ D ac b0 aR sv sc ad0 n0 Q mc ms s args below) (F0 m nx ls' rest)) → W p l e R s m args below meth c H locs cells slots (pm_WQ D ac b0 aR sv sc ad0 n0 Q mc ms s args below) (F0 m pc ls (.long x :: rest))) :
    pm_G D ac b0 aR sv sc ad0 n0 Q mi mc ms p l e R s m args below meth c u pc L st h := by
  unfold pm_lst1 at hs
  split at hs
  · rcases pm_bif hs with ⟨hb, hs⟩ | ⟨hb, hs⟩
    · cases hs
      obtain ⟨hb1, hb2⟩ := pm_and2 hb
      intro ad H locs cells slots ls h1 h2 h3 h4 h5 h6 h7 h8 h9
      refine row H locs cells slots ls _ _ _ h5.lv (by have := pm_blt hb2; rw [h5.2.1] at this; exact this) fun ls' hl' => ?_
      exact kk ad H locs cells slots ls' h1 h2 h3 h4 (pm_has_set2 hsv h5 hb1 hl') (pm_wl_set (pm_wl_set h6 (fun v e => by cases e; trivial)) (fun v e => by cases e)) (pm_wst_t h7) h8 h9
    · cases hs
  · cases hs
theorem pm_q_ast1 {n pc nx k pc' u : Nat} {P : Prop} {L L' : pmL} {st st' : List Value} {h h' : pmH} (hsv : sv = .null ∨ ∃ a, sv = .ref a) (hs : pm_ast1 nx n L st h = some (P, k, pc', L', st', h')) (kk : pm_G D ac b0 aR sv sc ad0 n0 Q mi mc ms p l e R s m args below meth c (u - k) pc' L' st' h')
    (row : ∀ (H : Heap) (locs : List Loc) (cells slots : Nat) (ls : Array Slot) (rest : List Value) (x : Value) (lv : List (Nat × Value)), x = .null ∨ (∃ a, x = .ref a) → lv_has ls (pm_info mi).2.2.1 lv → n < (pm_info mi).2.2.1 → (∀ ls', lv_has ls' (pm_info mi).2.2.1 ((n, x) :: lv.filter (fun q => !(q.1 == n) && !(q.1 + 1 == n && q.2.category == 2))) → W p l e R s m args below meth c H locs cells slots (pm_WQ D ac b0 aR sv sc ad0 n0 Q mc ms s args below) (F0 m nx ls' rest)) → W p l e R s m args below meth c H locs cells slots (pm_WQ D ac b0 aR sv sc ad0 n0 Q mc ms s args below) (F0 m pc ls (x :: rest))) :
    pm_G D ac b0 aR sv sc ad0 n0 Q mi mc ms p l e R s m args below meth c u pc L st h := by
  unfold pm_ast1 at hs
  split at hs
  · rcases pm_bif hs with ⟨hb, hs⟩ | ⟨hb, hs⟩
    · cases hs
      obtain ⟨hb1, hb2⟩ := pm_and2 hb
      intro ad H locs cells slots ls h1 h2 h3 h4 h5 h6 h7 h8 h9
      refine row H locs cells slots ls _ _ _ (pm_cv_isR hsv ad _) h5.lv (by have := pm_blt hb2; rw [h5.2.1] at this; exact this) fun ls' hl' => ?_
      exact kk ad H locs cells slots ls' h1 h2 h3 h4 (pm_has_set1 hsv h5 hb1 hl') (pm_wl_set h6 (fun v e => by cases e; exact pm_wst_h h7)) (pm_wst_t h7) h8 h9
    · cases hs
  · rcases pm_bif hs with ⟨hb, hs⟩ | ⟨hb, hs⟩
    · cases hs
      obtain ⟨hb1, hb2⟩ := pm_and2 hb
      intro ad H locs cells slots ls h1 h2 h3 h4 h5 h6 h7 h8 h9
      refine row H locs cells slots ls _ _ _ (Or.inl rfl) h5.lv (by have := pm_blt hb2; rw [h5.2.1] at this; exact this) fun ls' hl' => ?_
      exact kk ad H locs cells slots ls' h1 h2 h3 h4 (pm_has_set1 hsv h5 hb1 hl') (pm_wl_set h6 (fun v e => by cases e; trivial)) (pm_wst_t h7) h8 h9
    · cases hs
  · cases hs
theorem pm_q_iinc {n pc nx k pc' u : Nat} {kz : Int} {P : Prop} {L L' : pmL} {st st' : List Value} {h h' : pmH} {cv : Value} (hcv : cv = .int (Int32.ofInt kz)) (hsv : sv = .null ∨ ∃ a, sv = .ref a) (hs : pm_iinc nx n cv L st h = some (P, k, pc', L', st', h')) (kk : pm_G D ac b0 aR sv sc ad0 n0 Q mi mc ms p l e R s m args below meth c (u - k) pc' L' st' h')
    (row : ∀ (H : Heap) (locs : List Loc) (cells slots : Nat) (ls : Array Slot) (rest : List Value) (x : Int32) (lv : List (Nat × Value)) (j : Nat), lv_has ls (pm_info mi).2.2.1 lv → n < (pm_info mi).2.2.1 → lv[j]? = some (n, .int x) → (∀ ls', lv_has ls' (pm_info mi).2.2.1 ((n, .int (x + Int32.ofInt kz)) :: lv.filter (fun q => !(q.1 == n) && !(q.1 + 1 == n && q.2.category == 2))) → W p l e R s m args below meth c H locs cells slots (pm_WQ D ac b0 aR sv sc ad0 n0 Q mc ms s args below) (F0 m nx ls' rest)) → W p l e R s m args below meth c H locs cells slots (pm_WQ D ac b0 aR sv sc ad0 n0 Q mc ms s args below) (F0 m pc ls rest)) :
    pm_G D ac b0 aR sv sc ad0 n0 Q mi mc ms p l e R s m args below meth c u pc L st h := by
  subst hcv
  unfold pm_iinc at hs
  split at hs
  · rename_i x k2 hx hk
    cases hk
    rcases pm_bif hs with ⟨hb, hs⟩ | ⟨hb, hs⟩
    · cases hs
      intro ad H locs cells slots ls h1 h2 h3 h4 h5 h6 h7 h8 h9
      have hx2 := pm_loc_some.mp hx
      obtain ⟨j, hj⟩ := List.getElem?_of_mem ((pm_lv_mem (sv := sv) (ad := ad) L 0 (n, .int x)).mpr ⟨n, _, hx2, by rw [Nat.zero_add]; rfl⟩)
      refine row H locs cells slots ls _ _ _ j h5.lv (by have := (List.getElem?_eq_some_iff.mp hx2).1; rw [h5.2.1] at this; exact this) hj fun ls' hl' => ?_
      exact kk ad H locs cells slots ls' h1 h2 h3 h4 (pm_has_set1 hsv h5 hb hl') (pm_wl_set h6 (fun v e => by cases e; trivial)) h7 h8 h9
    · cases hs
  · cases hs
theorem pm_q_dup {pc nx k pc' u : Nat} {P : Prop} {L L' : pmL} {st st' : List Value} {h h' : pmH} (hsv : sv = .null ∨ ∃ a, sv = .ref a) (hs : pm_dup nx L st h = some (P, k, pc', L', st', h')) (kk : pm_G D ac b0 aR sv sc ad0 n0 Q mi mc ms p l e R s m args below meth c (u - k) pc' L' st' h')
    (row : ∀ (H : Heap) (locs : List Loc) (cells slots : Nat) (ls : Array Slot) (rest : List Value) (v : Value), v.category = 1 → W p l e R s m args below meth c H locs cells slots (pm_WQ D ac b0 aR sv sc ad0 n0 Q mc ms s args below) (F0 m nx ls (v :: v :: rest)) → W p l e R s m args below meth c H locs cells slots (pm_WQ D ac b0 aR sv sc ad0 n0 Q mc ms s args below) (F0 m pc ls (v :: rest))) :
    pm_G D ac b0 aR sv sc ad0 n0 Q mi mc ms p l e R s m args below meth c u pc L st h := by
  unfold pm_dup at hs
  split at hs
  · rcases pm_bif hs with ⟨hb, hs⟩ | ⟨hb, hs⟩
    · cases hs
      intro ad H locs cells slots ls h1 h2 h3 h4 h5 h6 h7 h8 h9
      exact row H locs cells slots ls _ _ (by rw [pm_cv_cat hsv]; exact Nat.eq_of_beq_eq_true hb) (kk ad H locs cells slots ls h1 h2 h3 h4 h5 h6 (pm_wst_c (pm_wst_h h7) h7) h8 h9)
    · cases hs
  · cases hs
theorem pm_q_pop {pc nx k pc' u : Nat} {P : Prop} {L L' : pmL} {st st' : List Value} {h h' : pmH} (hsv : sv = .null ∨ ∃ a, sv = .ref a) (hs : pm_pop nx L st h = some (P, k, pc', L', st', h')) (kk : pm_G D ac b0 aR sv sc ad0 n0 Q mi mc ms p l e R s m args below meth c (u - k) pc' L' st' h')
    (row : ∀ (H : Heap) (locs : List Loc) (cells slots : Nat) (ls : Array Slot) (rest : List Value) (v : Value), v.category = 1 → W p l e R s m args below meth c H locs cells slots (pm_WQ D ac b0 aR sv sc ad0 n0 Q mc ms s args below) (F0 m nx ls rest) → W p l e R s m args below meth c H locs cells slots (pm_WQ D ac b0 aR sv sc ad0 n0 Q mc ms s args below) (F0 m pc ls (v :: rest))) :
    pm_G D ac b0 aR sv sc ad0 n0 Q mi mc ms p l e R s m args below meth c u pc L st h := by
  unfold pm_pop at hs
  split at hs
  · rcases pm_bif hs with ⟨hb, hs⟩ | ⟨hb, hs⟩
    · cases hs
      intro ad H locs cells slots ls h1 h2 h3 h4 h5 h6 h7 h8 h9
      exact row H locs cells slots ls _ _ (by rw [pm_cv_cat hsv]; exact Nat.eq_of_beq_eq_true hb) (kk ad H locs cells slots ls h1 h2 h3 h4 h5 h6 (pm_wst_t h7) h8 h9)
    · cases hs
  · cases hs
theorem pm_q_dupx {pc nx k pc' u : Nat} {P : Prop} {L L' : pmL} {st st' : List Value} {h h' : pmH} (hsv : sv = .null ∨ ∃ a, sv = .ref a) (hs : pm_dupx nx L st h = some (P, k, pc', L', st', h')) (kk : pm_G D ac b0 aR sv sc ad0 n0 Q mi mc ms p l e R s m args below meth c (u - k) pc' L' st' h')
    (row : ∀ (H : Heap) (locs : List Loc) (cells slots : Nat) (ls : Array Slot) (rest : List Value) (v w : Value), v.category = 1 → w.category = 1 → W p l e R s m args below meth c H locs cells slots (pm_WQ D ac b0 aR sv sc ad0 n0 Q mc ms s args below) (F0 m nx ls (v :: w :: v :: rest)) → W p l e R s m args below meth c H locs cells slots (pm_WQ D ac b0 aR sv sc ad0 n0 Q mc ms s args below) (F0 m pc ls (v :: w :: rest))) :
    pm_G D ac b0 aR sv sc ad0 n0 Q mi mc ms p l e R s m args below meth c u pc L st h := by
  unfold pm_dupx at hs
  split at hs
  · rcases pm_bif hs with ⟨hb, hs⟩ | ⟨hb, hs⟩
    · cases hs
      obtain ⟨hb1, hb2⟩ := pm_and2 hb
      intro ad H locs cells slots ls h1 h2 h3 h4 h5 h6 h7 h8 h9
      exact row H locs cells slots ls _ _ _ (by rw [pm_cv_cat hsv]; exact Nat.eq_of_beq_eq_true hb1) (by rw [pm_cv_cat hsv]; exact Nat.eq_of_beq_eq_true hb2) (kk ad H locs cells slots ls h1 h2 h3 h4 h5 h6 (pm_wst_c (pm_wst_h h7) (pm_wst_c (pm_wst_h (pm_wst_t h7)) (pm_wst_c (pm_wst_h h7) (pm_wst_t (pm_wst_t h7))))) h8 h9)
    · cases hs
  · cases hs
theorem pm_q_dup2 {pc nx k pc' u : Nat} {P : Prop} {L L' : pmL} {st st' : List Value} {h h' : pmH} (hsv : sv = .null ∨ ∃ a, sv = .ref a) (hs : pm_dup2 nx L st h = some (P, k, pc', L', st', h')) (kk : pm_G D ac b0 aR sv sc ad0 n0 Q mi mc ms p l e R s m args below meth c (u - k) pc' L' st' h')
    (row1 : ∀ (H : Heap) (locs : List Loc) (cells slots : Nat) (ls : Array Slot) (rest : List Value) (v w : Value), v.category = 1 → w.category = 1 → W p l e R s m args below meth c H locs cells slots (pm_WQ D ac b0 aR sv sc ad0 n0 Q mc ms s args below) (F0 m nx ls (v :: w :: v :: w :: rest)) → W p l e R s m args below meth c H locs cells slots (pm_WQ D ac b0 aR sv sc ad0 n0 Q mc ms s args below) (F0 m pc ls (v :: w :: rest)))
    (row2 : ∀ (H : Heap) (locs : List Loc) (cells slots : Nat) (ls : Array Slot) (rest : List Value) (v : Value), v.category = 2 → W p l e R s m args below meth c H locs cells slots (pm_WQ D ac b0 aR sv sc ad0 n0 Q mc ms s args below) (F0 m nx ls (v :: v :: rest)) → W p l e R s m args below meth c H locs cells slots (pm_WQ D ac b0 aR sv sc ad0 n0 Q mc ms s args below) (F0 m pc ls (v :: rest))) :
    pm_G D ac b0 aR sv sc ad0 n0 Q mi mc ms p l e R s m args below meth c u pc L st h := by
  unfold pm_dup2 at hs
  split at hs
  · rcases pm_bif hs with ⟨hb, hs⟩ | ⟨hb, hs⟩
    · cases hs
      intro ad H locs cells slots ls h1 h2 h3 h4 h5 h6 h7 h8 h9
      exact row2 H locs cells slots ls _ _ (by rw [pm_cv_cat hsv]; exact Nat.eq_of_beq_eq_true hb) (kk ad H locs cells slots ls h1 h2 h3 h4 h5 h6 (pm_wst_c (pm_wst_h h7) h7) h8 h9)
    · split at hs
      · rcases pm_bif hs with ⟨hb, hs⟩ | ⟨hb, hs⟩
        · cases hs
          obtain ⟨hb1, hb2⟩ := pm_and2 hb
          intro ad H locs cells slots ls h1 h2 h3 h4 h5 h6 h7 h8 h9
          exact row1 H locs cells slots ls _ _ _ (by rw [pm_cv_cat hsv]; exact Nat.eq_of_beq_eq_true hb1) (by rw [pm_cv_cat hsv]; exact Nat.eq_of_beq_eq_true hb2) (kk ad H locs cells slots ls h1 h2 h3 h4 h5 h6 (pm_wst_c (pm_wst_h h7) (pm_wst_c (pm_wst_h (pm_wst_t h7)) h7)) h8 h9)
        · cases hs
      · cases hs
  · cases hs
theorem pm_q_nul {isN : Bool} {n pc nx k pc' u : Nat} {P : Prop} {L L' : pmL} {st st' : List Value} {h h' : pmH} (hs : pm_nul nx n isN L st h = some (P, k, pc', L', st', h')) (kk : pm_G D ac b0 aR sv sc ad0 n0 Q mi mc ms p l e R s m args below meth c (u - k) pc' L' st' h')
    (row : ∀ (H : Heap) (locs : List Loc) (cells slots : Nat) (ls : Array Slot) (rest : List Value) (x : Nat), W p l e R s m args below meth c H locs cells slots (pm_WQ D ac b0 aR sv sc ad0 n0 Q mc ms s args below) (F0 m (bif isN then nx else n) ls rest) → W p l e R s m args below meth c H locs cells slots (pm_WQ D ac b0 aR sv sc ad0 n0 Q mc ms s args below) (F0 m pc ls (.ref x :: rest)))
    (rowN : ∀ (H : Heap) (locs : List Loc) (cells slots : Nat) (ls : Array Slot) (rest : List Value), W p l e R s m args below meth c H locs cells slots (pm_WQ D ac b0 aR sv sc ad0 n0 Q mc ms s args below) (F0 m (bif isN then n else nx) ls rest) → W p l e R s m args below meth c H locs cells slots (pm_WQ D ac b0 aR sv sc ad0 n0 Q mc ms s args below) (F0 m pc ls (.null :: rest))) :
    pm_G D ac b0 aR sv sc ad0 n0 Q mi mc ms p l e R s m args below meth c u pc L st h := by
  unfold pm_nul at hs
  split at hs
  · cases hs
    intro ad H locs cells slots ls h1 h2 h3 h4 h5 h6 h7 h8 h9
    exact rowN H locs cells slots ls _ (kk ad H locs cells slots ls h1 h2 h3 h4 h5 h6 (pm_wst_t h7) h8 h9)
  · split at hs
    · cases hs
    · cases hs
      intro ad H locs cells slots ls h1 h2 h3 h4 h5 h6 h7 h8 h9
      exact row H locs cells slots ls _ _ (kk ad H locs cells slots ls h1 h2 h3 h4 h5 h6 (pm_wst_t h7) h8 h9)
  · cases hs
theorem pm_sw_tgt {pc n : Nat} {dv lo hi : Int} {offs : Array Int} {tb : List (Nat × Nat)} (hV : pm_TV pc dv lo hi offs n tb) (x : Int32) : ((x.toInt < lo ∨ hi < x.toInt) ∧ (pc : Int) + dv = (pm_sw tb n x : Int)) ∨ (¬ x.toInt < lo ∧ ¬ hi < x.toInt ∧ ∃ off, offs[(x.toInt - lo).toNat]? = some off ∧ (pc : Int) + off = (pm_sw tb n x : Int)) := by
  obtain ⟨h1, h2, h3, h4, h5⟩ := hV
  have key : ∀ (l : List (Nat × Nat)) (k : Nat), (∀ j, j < l.length → ∃ t o, l[j]? = some (lo.toNat + k + j, t) ∧ offs[k + j]? = some o ∧ (pc : Int) + o = (t : Int)) → lo + k + l.length = hi + 1 → ((x.toInt < lo + k ∨ hi < x.toInt) ∧ pm_sw l n x = n) ∨ (¬ x.toInt < lo + k ∧ ¬ hi < x.toInt ∧ ∃ off, offs[(x.toInt - lo).toNat]? = some off ∧ (pc : Int) + off = (pm_sw l n x : Int)) := by
    intro l
    induction l with
    | nil =>
      intro k _ hl
      left
      refine ⟨?_, rfl⟩
      have : lo + k + ((0 : Nat) : Int) = hi + 1 := hl
      omega
    | cons a l ih =>
      intro k hj hl
      obtain ⟨t, o, e1, e2, e3⟩ := hj 0 (by simp)
      simp only [List.getElem?_cons_zero, Nat.add_zero, Option.some.injEq] at e1
      subst e1
      rw [List.length_cons] at hl
      have hlt : lo.toNat + k < 2000 := by omega
      have hx : (Int32.ofNat (lo.toNat + k)).toInt = ((lo.toNat + k : Nat) : Int) := nI_toInt (n := lo.toNat + k) (by omega)
      unfold pm_sw
      by_cases hq : x = Int32.ofNat (lo.toNat + k)
      · rw [if_pos hq]
        right
        have hxi : x.toInt = ((lo.toNat + k : Nat) : Int) := by rw [hq, hx]
        refine ⟨by omega, by omega, o, ?_, e3⟩
        rw [show (x.toInt - lo).toNat = k + 0 by omega]
        exact e2
      · rw [if_neg hq]
        have hne : x.toInt ≠ ((lo.toNat + k : Nat) : Int) := fun z => hq (Int32.toInt_inj.mp (by rw [hx]; exact z))
        rcases ih (k + 1) (fun j hj9 => by
          obtain ⟨t, o, f1, f2, f3⟩ := hj (j + 1) (by simpa using hj9)
          refine ⟨t, o, ?_, ?_, f3⟩
          · simp only [List.getElem?_cons_succ] at f1
            rw [f1]; congr 2; omega
          · rw [← f2]; congr 1; omega) (by push_cast; push_cast at hl; omega) with ⟨g1, g2⟩ | ⟨g1, g2, g3⟩
        · left; exact ⟨by push_cast at g1; omega, g2⟩
        · right; exact ⟨by push_cast at g1; omega, g2, g3⟩
  rcases key tb 0 (fun j hj => by
    obtain ⟨t, o, f1, f2, f3⟩ := h5 j hj
    exact ⟨t, o, by rw [f1]; rfl, by rw [Nat.zero_add]; exact f2, f3⟩) (by push_cast; omega) with ⟨g1, g2⟩ | ⟨g1, g2, g3⟩
  · left; exact ⟨by push_cast at g1; omega, by rw [g2]; exact h1⟩
  · right; exact ⟨by push_cast at g1; omega, g2, g3⟩
theorem pm_lsw {pc n : Nat} {dv : Int} {tb : List (Nat × Nat)} (h1 : (pc : Int) + dv = (n : Int)) (h3 : ∀ q ∈ tb, q.1 < 2000) (x : Int32) : (pc : Int) + Op.lookupswitch.offset (tb.map (fun q => ((q.1 : Int), (q.2 : Int) - (pc : Int)))) dv x.toInt = (pm_sw tb n x : Int) := by
  induction tb with
  | nil => exact h1
  | cons a l ih =>
    obtain ⟨a, t⟩ := a
    have ha : a < 2000 := h3 (a, t) List.mem_cons_self
    have hx : (Int32.ofNat a).toInt = (a : Int) := nI_toInt (n := a) (by omega)
    unfold pm_sw
    by_cases hq : x = Int32.ofNat a
    · rw [if_pos hq]
      have hxi : x.toInt = (a : Int) := by rw [hq, hx]
      show (pc : Int) + Op.lookupswitch.offset (((a : Int), (t : Int) - (pc : Int)) :: _) dv x.toInt = (t : Int)
      rw [show Op.lookupswitch.offset (((a : Int), (t : Int) - (pc : Int)) :: l.map (fun q => ((q.1 : Int), (q.2 : Int) - (pc : Int)))) dv x.toInt = (t : Int) - (pc : Int) by simp [Op.lookupswitch.offset, hxi]]
      omega
    · rw [if_neg hq]
      show (pc : Int) + Op.lookupswitch.offset (((a : Int), (t : Int) - (pc : Int)) :: _) dv x.toInt = _
      rw [lv_osw hq hx]
      exact ih (fun q hq => h3 q (List.mem_cons_of_mem _ hq))
end PMS
