/-! THE CLAIM OUT OF ONE WALK OF THE LAW'S BODY. Your part is whole_start (and what it stands on); all else here is the same for every law, but numbers. -/
def R_law : String := "LosersBooksLaw"
def lw_P (b : Addr) (xs : List Int32) (args : Array Value) (s : State) : Prop := args = #[.ref b] ∧ s.IntsAt b xs ∧ xs.length ≤ 384 ∧ (Jvm.Cond.and given_1 narrow_1).before args s = true
def lw_Q (_ : Array Value) (s : State) (o : Outcome) (t : State) : Prop := o = .returned (some (.int 1)) ∧ Framed s o t [] 1200128 5501098
def lw_Z (below : List Frame) (a : Array Value) (s : State) : State → Prop := fun t => ∃ o, t.status = .running ∧ Ended t below o ∧ lw_Q a s o t
/-- the law's own end, with 1 on the stack, nothing written that was there before, its room as the claim has it -/
theorem lw_ret {p : Program} {l : Launch} {e : Env} {s : State} {m : MethodId} {below : List Frame} {meth : Method} {c : Code} {b : Nat} (hx : p.tables.exec = Jvm.exec) (hb : c.code = code) (hr : meth.sig.returnType = ret) (hlocks : meth.locks = false) {pc : Nat} {H : Heap} {ls : Array Slot} (hdg : decode code pc = .ok (.ireturn, 1)) : W p l e room_1 s m #[Value.ref b] below meth c H [] 1200128 5501098 (lw_Z below #[Value.ref b] s) (F0 m pc ls [.int 1]) := by
  intro T hT X
  obtain ⟨fs, hret, hrun, hended, hW, hframe⟩ := X.leave (v := some (.int 1)) (hlocks := hlocks) (fun h => by rw [hr] at h; cases h)
  have hmeth' : T.vm.method? m = some meth := X.method'
  refine ⟨T.setFrames fs, ?_, .returned (some (.int 1)), hrun, hended, rfl, ⟨_, rfl⟩, hW, hframe⟩
  jvm_step X.here [X.here.top, hx, hb, hdg, hmeth', hr, ret, narrow_b1]
  (try refine ⟨rfl, ?_⟩); (try refine ⟨rfl, ?_⟩)
  first | (intro acts; rw [hret _ acts rfl rfl rfl]) | rw [hret _ _ rfl rfl rfl]
  exact Steps.refl _
/-- what holds at the law's entry: the machine, the code, the tables' words (any of lw_tbl by 'hts w (by decide +kernel)'), the script of L ints xs at the cell b, what the Statement gives of the start (any of its parts by flat_of_before) -/
def lw_At (p : Program) (s : State) (m : MethodId) (meth : Method) (c : Code) (b L : Nat) (xs : Nat → Int32) : Prop :=
  p.tables.exec = Jvm.exec ∧ c.code = code ∧ meth.sig.returnType = ret ∧ c.maxLocals = 7 ∧ s.vm.findClass R_law = some m.cls ∧ (∀ w ∈ lw_tbl, w.before #[Value.ref b] s = true) ∧ va_X b L xs s s.heap ∧ b < s.heap.size ∧ meth.locks = false ∧ (Jvm.Cond.and given_1 narrow_1).before #[Value.ref b] s = true

/-! THE START: the machine at the law's entry, as the pure machine sees it -/
def pm_tm (i : Nat) : Term := match i with
  | 0 => .string "LosersBooks" 185
  | 1 => .string "LosersBooks" 117
  | 2 => .string "LosersBooks" 237
  | 3 => .string "LosersBooks" 239
  | 4 => .string "LosersBooks" 241
  | _ => .string "LosersBooks" 274
theorem pm_6 {i : Nat} (h : i < 6) : i = 0 ∨ i = 1 ∨ i = 2 ∨ i = 3 ∨ i = 4 ∨ i = 5 := by omega
section START
variable {s : State} {b : Addr}
theorem pm_texts (hg : (Jvm.Cond.and given_1 narrow_1).before #[Value.ref b] s = true) : ∃ adK adV : Nat → Nat, vk_S 6 pm_lens pm_byts adK adV (pm_A s.heap.size) s s.heap ∧ ∀ i : Nat, i < 6 → (pm_tm i).eval #[Value.ref b] s none [] s = some (.ref (adK i)) := by
  have hs := flat_of_before _ hg
  refine vk_Sof (args := #[Value.ref b]) (tm := pm_tm) ?_ ?_ ?_ ?_ ?_ ?_ ?_ (fun a h q => absurd h (Nat.not_lt.mpr q))
  · intro i hi; rcases pm_6 hi with rfl | rfl | rfl | rfl | rfl | rfl <;> decide
  · intro i hi; rcases pm_6 hi with rfl | rfl | rfl | rfl | rfl | rfl <;> exact hs _ (by decide +kernel)
  · intro i hi; rcases pm_6 hi with rfl | rfl | rfl | rfl | rfl | rfl <;> exact hs _ (by decide +kernel)
  · intro i hi; rcases pm_6 hi with rfl | rfl | rfl | rfl | rfl | rfl <;> exact hs _ (by decide +kernel)
  · intro i hi; rcases pm_6 hi with rfl | rfl | rfl | rfl | rfl | rfl <;> exact hs _ (by decide +kernel)
  · intro i hi j hj
    rcases pm_6 hi with rfl | rfl | rfl | rfl | rfl | rfl
    · have hj : j < 1 := hj
      rcases (show j = 0 by omega) with rfl
      exact hs _ (by decide +kernel)
    · have hj : j < 6 := hj
      rcases (show j = 0 ∨ j = 1 ∨ j = 2 ∨ j = 3 ∨ j = 4 ∨ j = 5 by omega) with rfl | rfl | rfl | rfl | rfl | rfl <;> exact hs _ (by decide +kernel)
    · have hj : j < 2 := hj
      rcases (show j = 0 ∨ j = 1 by omega) with rfl | rfl <;> exact hs _ (by decide +kernel)
    · have hj : j < 3 := hj
      rcases (show j = 0 ∨ j = 1 ∨ j = 2 by omega) with rfl | rfl | rfl <;> exact hs _ (by decide +kernel)
    · have hj : j < 4 := hj
      rcases (show j = 0 ∨ j = 1 ∨ j = 2 ∨ j = 3 by omega) with rfl | rfl | rfl | rfl <;> exact hs _ (by decide +kernel)
    · have hj : j < 4 := hj
      rcases (show j = 0 ∨ j = 1 ∨ j = 2 ∨ j = 3 by omega) with rfl | rfl | rfl | rfl <;> exact hs _ (by decide +kernel)
  · intro i j hi hj hij
    have key : ∀ i j : Nat, i < 6 → j < 6 → i < j → (Cond.not (Cond.eq (pm_tm i) (pm_tm j))).before #[Value.ref b] s = true ∨ (Cond.not (Cond.eq (pm_tm j) (pm_tm i))).before #[Value.ref b] s = true := by
      intro i j hi hj hij
      rcases pm_6 hi with rfl | rfl | rfl | rfl | rfl | rfl <;> rcases pm_6 hj with rfl | rfl | rfl | rfl | rfl | rfl <;> first | (exfalso; omega) | exact Or.inl (hs _ (by decide +kernel)) | exact Or.inr (hs _ (by decide +kernel))
    rcases Nat.lt_or_gt_of_ne hij with h | h
    · exact key i j hi hj h
    · exact (key j i hj hi h).symm
theorem pm_arr {ty : FieldType} {args : Array Value} (h : (Cond.arrayClass ty).before args s = true) : ∃ cA : ClassId, s.vm.findClass ("[" ++ ty.toString) = some cA ∧ ArrOfT s cA ty := by
  obtain ⟨c, k, comp, h1, h2, h3⟩ := Cond.arrayClass_spec (show (Cond.arrayClass ty).holds args s none s [] = true from h)
  exact ⟨c, h1, fun n z => ⟨fun k h => (by cases h), k, h2, comp, h3⟩⟩
theorem pm_strR {own tx : String} {k i a9 : Nat} {aR : Nat → Nat} (hall : ∀ w ∈ lw_tbl, w.before #[Value.ref b] s = true) (hq : Cond.stringRef own k tx ∈ lw_tbl) (he : (Term.string own k).eval #[Value.ref b] s none [] s = some (.ref a9)) (ha : aR (2 + 2 * i) = a9) : vk_R own k tx (aR (2 + 2 * i)) s := by
  rw [ha]
  exact vk_R.of (A := #[Value.ref b]) (hall _ hq) he
theorem pm_start_E (hts : ∀ w ∈ lw_tbl, w.before #[Value.ref b] s = true) (hg : (Jvm.Cond.and given_1 narrow_1).before #[Value.ref b] s = true) {n : Nat} {xs : Nat → Int32} (hX : va_X b n xs s s.heap) (hb : b < s.heap.size) : ∃ (D : va_G) (ac : Nat → ClassId) (aR : Nat → Nat) (sv : Value), aR 1 = b ∧ pm_E D ac s.heap.size aR sv (n, xs) s := by
  have hs := flat_of_before _ hg
  have hall : ∀ w ∈ lw_all, w.before #[Value.ref b] s = true := fun w h => hts w (lw_all_tbl h)
  obtain ⟨c0, i0, k0⟩ := u_known (C := RX1) (T := TX1) (N := 35) (n := 35) hts (fun w h => lw_all_tbl (in_X1 w h)) (hall _ q144)
  obtain ⟨c1, i1, k1⟩ := u_known (C := RX3) (T := TX3) (N := 48) (n := 48) hts (fun w h => lw_all_tbl (in_X3 w h)) (hall _ q1114)
  obtain ⟨c2, i2, k2⟩ := u_known (C := RX2) (T := TX2) (N := 0) (n := 6) hts (fun w h => by simp [u_ws] at h) (hall _ q152)
  obtain ⟨c3, i3, k3⟩ := u_known (C := RJ9) (T := TJ9) (N := 0) (n := 6) hts (fun w h => by simp [u_ws] at h) (hall _ q1094)
  obtain ⟨c4, i4, k4⟩ := u_known (C := RX5) (T := TX5) (N := 1) (n := 1) hts (fun w h => lw_all_tbl (in_X5 w h)) (hall _ q462)
  obtain ⟨c5, i5, k5⟩ := u_known (C := RX6) (T := TX6) (N := 1) (n := 1) hts (fun w h => lw_all_tbl (in_X6 w h)) (hall _ q478)
  obtain ⟨c6, i6, k6⟩ := u_known (C := RX7) (T := TX7) (N := 3) (n := 3) hts (fun w h => lw_all_tbl (in_X7 w h)) (hall _ q488)
  obtain ⟨c7, i7, k7⟩ := u_known (C := RX8) (T := TX8) (N := 3) (n := 3) hts (fun w h => lw_all_tbl (in_X8 w h)) (hall _ q508)
  obtain ⟨c8, i8, k8⟩ := u_known (C := RX9) (T := TX9) (N := 4) (n := 4) hts (fun w h => lw_all_tbl (in_X9 w h)) (hall _ q526)
  obtain ⟨c9, i9, k9⟩ := u_known (C := RX11) (T := TX11) (N := 2) (n := 2) hts (fun w h => lw_all_tbl (in_X11 w h)) (hall _ q560)
  obtain ⟨c10, i10, k10⟩ := u_known (C := RX12) (T := TX12) (N := 4) (n := 4) hts (fun w h => lw_all_tbl (in_X12 w h)) (hall _ q580)
  obtain ⟨c11, i11, k11⟩ := u_known (C := RX13) (T := TX13) (N := 4) (n := 4) hts (fun w h => lw_all_tbl (in_X13 w h)) (hall _ q597)
  obtain ⟨a0, f0, g0⟩ := pm_arr (s := s) (hall _ q317)
  obtain ⟨a1, f1, g1⟩ := pm_arr (s := s) (hall _ q316)
  obtain ⟨a2, f2, g2⟩ := pm_arr (s := s) (hall _ q1266)
  obtain ⟨comp, a3, kA, f3, f4, f5, f6, f7⟩ := Cond.arrayOver_spec (show (Cond.arrayOver (.object RX9)).holds #[Value.ref b] s none s [] = true from hts _ q209)
  obtain ⟨adK, adV, hS, hK⟩ := pm_texts hg
  have hA : ∀ a : Nat, a < s.heap.size → ¬ pm_A s.heap.size a := fun a h q => absurd h (Nat.not_lt.mpr q)
  obtain ⟨sv, hsv, hZ⟩ : ∃ sv : Value, (sv = .null ∨ ∃ a, sv = .ref a) ∧ va_Z "jdk/internal/util/Preconditions" "SIOOBE_FORMATTER" "Ljava/util/function/BiFunction;" sv (pm_A s.heap.size) s s.heap := by
    rcases va_Zqof (hts _ q406) (hall _ q128) (hs (Cond.isRef (.static "jdk/internal/util/Preconditions" "SIOOBE_FORMATTER" "Ljava/util/function/BiFunction;")) (by decide +kernel)) hA with h | ⟨t, h⟩
    · exact ⟨_, Or.inl rfl, h⟩
    · exact ⟨_, Or.inr ⟨t, rfl⟩, h⟩
  obtain ⟨aR, ha1, haK, haV⟩ : ∃ aR : Nat → Nat, aR 1 = b ∧ (∀ i, aR (2 + 2 * i) = adK i) ∧ ∀ i, aR (3 + 2 * i) = adV i := by
    refine ⟨fun k => if k = 1 then b else if k % 2 = 0 then adK ((k - 2) / 2) else adV ((k - 3) / 2), if_pos rfl, fun i => ?_, fun i => ?_⟩
    · show (if 2 + 2 * i = 1 then b else if (2 + 2 * i) % 2 = 0 then adK ((2 + 2 * i - 2) / 2) else adV ((2 + 2 * i - 3) / 2)) = adK i
      rw [if_neg (by omega), if_pos (by omega), show (2 + 2 * i - 2) / 2 = i by omega]
    · show (if 3 + 2 * i = 1 then b else if (3 + 2 * i) % 2 = 0 then adK ((3 + 2 * i - 2) / 2) else adV ((3 + 2 * i - 3) / 2)) = adV i
      rw [if_neg (by omega), if_neg (by omega), show (3 + 2 * i - 3) / 2 = i by omega]
  refine ⟨(fun k => match k with | 0 => c0 | 1 => c1 | 2 => c2 | 3 => c3 | 4 => c4 | 5 => c5 | 6 => c6 | 7 => c7 | 8 => c8 | 9 => c9 | 10 => c10 | _ => c11, fun k => match k with | 0 => i0 | 1 => i1 | 2 => i2 | 3 => i3 | 4 => i4 | 5 => i5 | 6 => i6 | 7 => i7 | 8 => i8 | 9 => i9 | 10 => i10 | _ => i11), fun k => match k with | 0 => a0 | 1 => a1 | 2 => a2 | _ => a3, aR, sv, ha1, ?_⟩
  have eK : (fun i => aR (2 + 2 * i)) = adK := funext haK
  have eV : (fun i => aR (3 + 2 * i)) = adV := funext haV
  refine ⟨⟨fun k q hq => ?_, fun k q hq => ?_⟩, ⟨?_, ?_, ?_, ?_, va_AO.of (hts _ q209)⟩, by rw [ha1]; exact hX, by rw [ha1]; exact hb, Nat.le_refl _, ?_, ?_, va_Zof (hts _ q363) (hall _ q124) (va_eqt (hs _ (by decide +kernel))) hA, hZ, vx_Zqof (hts _ q176) (hall _ q120) (hs _ (by decide +kernel)) hA, vx_Zqof (hts _ q178) (hall _ q120) (hs _ (by decide +kernel)) hA, hsv⟩
  · match k, hq with
    | 0, hq => cases hq; exact k0
    | 1, hq => cases hq; exact k1
    | 2, hq => cases hq; exact k2
    | 3, hq => cases hq; exact k3
    | 4, hq => cases hq; exact k4
    | 5, hq => cases hq; exact k5
    | 6, hq => cases hq; exact k6
    | 7, hq => cases hq; exact k7
    | 8, hq => cases hq; exact k8
    | 9, hq => cases hq; exact k9
    | 10, hq => cases hq; exact k10
    | 11, hq => cases hq; exact k11
    | k + 12, hq => exact absurd (List.getElem?_eq_some_iff.mp hq).1 (by simp [pm_cl])
  · match k, hq with
    | 0, hq => cases hq; exact ⟨g0, f0⟩
    | 1, hq => cases hq; exact ⟨g1, f1⟩
    | 2, hq => cases hq; exact ⟨g2, f2⟩
    | 3, hq => cases hq; exact ⟨fun n z => ⟨fun k h => (by cases h), kA, f5, comp, f6⟩, kA, comp, f5, f6, f3, f7⟩
    | k + 4, hq => exact absurd (List.getElem?_eq_some_iff.mp hq).1 (by simp [pm_tys])
  · intro q hq
    unfold pm_nestM at hq
    simp only [List.mem_cons, List.not_mem_nil, or_false] at hq
    rcases hq with rfl | rfl | rfl | rfl | rfl | rfl | rfl
    · exact va_Nw.of rfl (hts _ q189)
    · exact va_Nw.of rfl (hts _ q466)
    · exact va_Nw.of rfl (hts _ q482)
    · exact va_Nw.of rfl (hts _ q492)
    · exact va_Nw.of rfl (hts _ q564)
    · exact va_Nw.of rfl (hts _ q584)
    · exact va_Nw.of rfl (hts _ q601)
  · intro q hq
    unfold pm_nestF at hq
    simp only [List.mem_cons, List.not_mem_nil, or_false] at hq
    rcases hq with rfl | rfl | rfl | rfl | rfl | rfl
    · exact va_Nw.of rfl (hts _ q515)
    · exact va_Nw.of rfl (hts _ q532)
    · exact va_Nw.of rfl (hts _ q534)
    · exact va_Nw.of rfl (hts _ q536)
    · exact va_Nw.of rfl (hts _ q537)
    · exact va_Nw.of rfl (hts _ q569)
  · intro q hq
    unfold pm_nestC at hq
    simp only [List.mem_cons, List.not_mem_nil, or_false] at hq
    rcases hq with rfl | rfl
    · exact va_Nw.of rfl (hts _ q153)
    · exact va_Nw.of rfl (hts _ q1095)
  · intro q hq
    unfold pm_nestD at hq
    simp only [List.mem_cons, List.not_mem_nil, or_false] at hq
    rcases hq with rfl | rfl | rfl | rfl | rfl
    · exact va_Nw.of rfl (hts _ q776)
    · exact va_Nw.of rfl (hts _ q770)
    · exact va_Nw.of rfl (hts _ q154)
    · exact va_Nw.of rfl (hts _ q156)
    · exact va_Nw.of rfl (hts _ q1096)
  · rw [eK, eV]; exact hS
  · intro q hq
    unfold pm_strs at hq
    simp only [List.mem_cons, List.not_mem_nil, or_false] at hq
    rcases hq with rfl | rfl | rfl | rfl | rfl | rfl | rfl | rfl | rfl | rfl | rfl | rfl
    · exact pm_strR hts q460 (hK 1 (by decide)) (haK 1)
    · exact pm_strR hts q349 (hK 0 (by decide)) (haK 0)
    · exact pm_strR hts q639 (hK 2 (by decide)) (haK 2)
    · exact pm_strR hts q640 (hK 3 (by decide)) (haK 3)
    · exact pm_strR hts q641 (hK 4 (by decide)) (haK 4)
    · exact pm_strR hts q667 (hK 5 (by decide)) (haK 5)
    · exact pm_strR hts q1119 (va_eqR (t := pm_tm 0) (hs _ (by decide +kernel)) (hK 0 (by decide))) (haK 0)
    · exact pm_strR hts q1120 (va_eqR (t := pm_tm 1) (hs _ (by decide +kernel)) (hK 1 (by decide))) (haK 1)
    · exact pm_strR hts q1317 (va_eqR (t := pm_tm 2) (hs _ (by decide +kernel)) (hK 2 (by decide))) (haK 2)
    · exact pm_strR hts q1345 (va_eqR (t := pm_tm 3) (hs _ (by decide +kernel)) (hK 3 (by decide))) (haK 3)
    · exact pm_strR hts q1346 (va_eqR (t := pm_tm 4) (hs _ (by decide +kernel)) (hK 4 (by decide))) (haK 4)
    · exact pm_strR hts q1416 (va_eqR (t := pm_tm 5) (hs _ (by decide +kernel)) (hK 5 (by decide))) (haK 5)
end START
/-- the law's walk out of the pure machine's -/
theorem pm_whole {d u : Nat} (hd : d ≤ 1500) (hu : u ≤ 1200128) {p : Program} {e : Env} {s : State} {m : MethodId} {below : List Frame} {meth : Method} {c : Code} (l : Launch) (hflags : l.flags = flags0) {b L : Nat} {xs : Nat → Int32} (C0 : lw_At p s m meth c b L xs)
    (hname : meth.name = "law") (htab : c.exceptionTable.toList = [])
    (w : Wp d u 0 0 (pm_entry 0 [.ref 1]) [] (pm_ro (L, xs)) (fun o => o.1 = .inl (some (.int 1)))) : W p l e room_1 s m #[Value.ref b] below meth c s.heap [] 0 0 (lw_Z below #[Value.ref b] s) (entryFrame m ([Value.ref b] : List Value).toArray 7) := by
  obtain ⟨hx, hcb, hr, hml, hown, hts, hX, hb, hlocks, hg⟩ := C0
  obtain ⟨D, ac, aR, sv, hb1, hE⟩ := pm_start_E hts hg hX hb
  have hall : ∀ w ∈ lw_all, w.before #[Value.ref b] s = true := fun w h => hts w (lw_all_tbl h)
  have hl9 : l.stackTraces = false := by
    unfold Launch.stackTraces
    rw [hflags]
    decide +kernel
  have hM : pm_M D ac s.heap.size aR sv (L, xs) aR (pm_ro (L, xs)) s.heap := by
    refine ⟨fun k q hq => ?_, ⟨fun i j p q hp => ?_, fun k q hq => ?_⟩, ⟨fun c hc => ?_, rfl⟩, fun _ _ => rfl⟩
    · cases hq
    · cases hp
    · cases hq
    · have h9 : ∀ c ∈ pm_ro (L, xs), pm_wc 14 c := by
        unfold pm_ro
        intro c hc
        simp only [List.mem_cons, List.not_mem_nil, or_false] at hc
        rcases hc with rfl | rfl | rfl | rfl | rfl | rfl | rfl | rfl | rfl | rfl | rfl | rfl | rfl | rfl <;> simp [pm_wc, pm_wv]
      exact h9 c hc
  have X : pm_Cx D ac s.heap.size aR sv (L, xs) 0 d 1200128 5501098 p l room_1 s m #[Value.ref b] meth c := by
    refine ⟨hx, hcb, hr, hlocks, hml, hown, hall, hname, htab, hl9, ?_, ?_, Nat.le_refl _, Nat.le_refl _, hE, Or.inl rfl⟩
    · show d + 8 ≤ 8192
      omega
    · show 64 * d + 256 ≤ 100000
      omega
  have h9 := pm_sound (D := D) (ac := ac) (b0 := s.heap.size) (aR := aR) (sv := sv) (sc := (L, xs)) w l p e room_1 s m #[Value.ref b] below meth c 1200128 5501098 X aR 14 (Nat.le_refl _)
  have hl := lv_entry ([Value.ref b]) (n := 7) (Nat.le_of_ble_eq_true rfl)
  rw [lg_entry_eq]
  generalize (lg_sl ([Value.ref b]) ++ List.replicate (7 - (lg_sl ([Value.ref b])).length) Slot.unset).toArray = ls at hl ⊢
  have hhas : pm_has sv aR ls (pm_info 0).2.2.1 (pm_entry 0 [.ref 1]) := by
    refine ⟨hl.1, rfl, hl.2.1, fun j v hv => ?_⟩
    have h1 := pm_pad_at _ _ j v (pm_loc_some.mp hv)
    have h2 := (pm_lay_at hE.2.2.2.2.2.2.2.2.2.2.2 aR [.ref 1] 0 j v h1).1
    rw [Nat.zero_add] at h2
    have h3 : ([Value.ref 1].map (pm_cv sv aR)) = [Value.ref b] := by rw [List.map_cons, pm_cv_ref (by decide), hb1]; rfl
    rw [h3] at h2
    exact hl.2.2 _ h2
  have hwl : pm_wl (pm_ro (L, xs)).length (pm_entry 0 [.ref 1]) := by
    intro v hv
    obtain ⟨j, hj⟩ := List.getElem?_of_mem hv
    have h2 := (pm_lay_at hE.2.2.2.2.2.2.2.2.2.2.2 aR [.ref 1] 0 j v (pm_pad_at _ _ j v hj)).2
    rw [List.mem_singleton.mp h2]
    show 1 < 14
    decide
  have K := h9 aR s.heap [] 0 0 ls (fun _ _ => rfl) (Nat.le_refl _) hM va_S.rf hhas hwl pm_wst_0 (by omega) (by omega)
  intro T hT XT
  obtain ⟨t, a1, o, b1, b2, b3⟩ := K T hT XT
  refine ⟨t, a1, o, b1, b2, ?_⟩
  rcases b3 with ⟨⟨⟨v, h', ad', q1, q2, -⟩, -⟩, Lo, hF, hfree⟩ | ⟨q, rfl, E, ce, Lo, ⟨⟨ci, h', ad', q1, -⟩, -⟩, -⟩
  · cases q1
    refine ⟨q2, hF.1, hF.2.1, hF.2.2.weaken (fun y hy hlt => absurd hlt (Nat.not_lt.mpr (hfree y hy))) (Nat.le_refl _) (Nat.le_refl _)⟩
  · cases q1
