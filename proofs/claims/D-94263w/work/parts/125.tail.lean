set_option maxRecDepth 100000
theorem tk_Pm {D : va_G} {cl : List vw_C} {ws : va_W} {H : Heap} : va_P D cl ws H ↔ ∀ q ∈ ws, va_at D cl q H := by
  constructor
  · intro h q hq
    obtain ⟨k, hk⟩ := List.mem_iff_getElem?.mp hq
    exact h k q hk
  · intro h k q hk
    exact h q (List.mem_of_getElem? hk)
theorem tk_Dm {A : Nat → Prop} {ws : va_W} : va_D A ws ↔ (ws.map (fun q => q.1)).Nodup ∧ ∀ q ∈ ws, A q.1 := by
  constructor
  · rintro ⟨h1, h2⟩
    refine ⟨?_, fun q hq => ?_⟩
    · refine List.pairwise_iff_getElem.mpr fun i j hi hj hij he => ?_
      simp only [List.length_map] at hi hj
      simp only [List.getElem_map] at he
      have := h1 i j _ _ (List.getElem?_eq_getElem hi) (List.getElem?_eq_getElem hj) he
      omega
    · obtain ⟨k, hk⟩ := List.mem_iff_getElem?.mp hq
      exact h2 k q hk
  · rintro ⟨h1, h2⟩
    refine ⟨fun i j p q hi hj he => ?_, fun k q hk => h2 q (List.mem_of_getElem? hk)⟩
    obtain ⟨hi1, hi2⟩ := List.getElem?_eq_some_iff.mp hi
    obtain ⟨hj1, hj2⟩ := List.getElem?_eq_some_iff.mp hj
    have key := List.pairwise_iff_getElem.mp h1
    rcases Nat.lt_trichotomy i j with h | h | h
    · refine absurd ?_ (key i j (by simpa using hi1) (by simpa using hj1) h)
      rw [List.getElem_map, List.getElem_map, hi2, hj2]; exact he
    · exact h
    · refine absurd ?_ (key j i (by simpa using hj1) (by simpa using hi1) h)
      rw [List.getElem_map, List.getElem_map, hi2, hj2]; exact he.symm
theorem tk_Pp {D : va_G} {cl : List vw_C} {ws w2 : va_W} {H : Heap} (h : List.Perm ws w2) (hP : va_P D cl ws H) : va_P D cl w2 H := tk_Pm.mpr fun q hq => tk_Pm.mp hP q (h.mem_iff.mpr hq)
theorem tk_Dp {A : Nat → Prop} {ws w2 : va_W} (h : List.Perm ws w2) (hD : va_D A ws) : va_D A w2 := by
  obtain ⟨h1, h2⟩ := tk_Dm.mp hD
  exact tk_Dm.mpr ⟨(h.map _).nodup_iff.mp h1, fun q hq => h2 q (h.mem_iff.mpr hq)⟩
theorem tk_insP {L t n : va_W} : List.Perm ((L ++ t) ++ n) ((L ++ n) ++ t) := by
  rw [List.append_assoc, List.append_assoc]
  exact List.Perm.append_left L List.perm_append_comm
/-- a literal list's cells, some of them first -/
theorem tk_lit {L pk Lu : va_W} (isC isU : List Nat) (hC : isC.map (fun i => L[i]?) = pk.map some) (hU : isU.map (fun i => L[i]?) = Lu.map some) (hp : (isC ++ isU).isPerm (List.range L.length) = true) : List.Perm L (pk ++ Lu) := by
  have h1 : List.Perm (isC ++ isU) (List.range L.length) := List.isPerm_iff.mp hp
  have h2 : (List.range L.length).map (fun i => L[i]?) = L.map some := by
    refine List.ext_getElem? fun i => ?_
    rw [List.getElem?_map, List.getElem?_map]
    by_cases hi : i < L.length
    · rw [List.getElem?_range hi, List.getElem?_eq_getElem hi]
      show some (L[i]?) = _
      rw [List.getElem?_eq_getElem hi]
      rfl
    · rw [List.getElem?_eq_none (by simpa using hi), List.getElem?_eq_none (Nat.not_lt.mp hi)]
      rfl
  have h3 := h1.map (fun i => L[i]?)
  rw [h2, List.map_append, hC, hU, ← List.map_append] at h3
  have h4 := (h3.filterMap id)
  simpa [List.filterMap_map] using h4.symm
/-- a callee's start: its cells out of its caller's -/
theorem tk_mkM {D : va_G} {ar : Nat → ClassId} {ad : Nat → Nat → Nat} {A : Nat → Prop} {ws rs xs wc wu rc xc : va_W} {s : State} {H : Heap} {locs : List Loc} (hP : va_P D tkCl ws H) (hD : va_D A ws) (hS : va_S A s.heap H locs) (hA : ∀ q, s.heap.size ≤ q → A q) (hE : tk_E D ar ad A s s.heap) (hR : tk_R D A rs s.heap) (hX : tk_R D A xs s.heap)
    (hw : List.Perm ws (wc ++ wu)) (hr : ∀ q ∈ rc, q ∈ wu ∨ q ∈ rs ∨ q ∈ xs) (hx : ∀ q ∈ xc, q ∈ wu ∨ q ∈ rs ∨ q ∈ xs) (U : State) (hU : U.heap = H) (hW : s.WarmedH U.vm) : tk_Pre D ar ad wc rc xc H.size U := by
  have hP2 := tk_Pp hw hP
  have hD2 := tk_Dp hw hD
  obtain ⟨d1, d2⟩ := tk_Dm.mp hD2
  rw [List.map_append] at d1
  obtain ⟨e1, e2, e3⟩ := List.nodup_append.mp d1
  have hAc : ∀ q, va_A wc H.size q → A q := by
    rintro q (⟨j, e, hj⟩ | h)
    · exact d2 (q, e) (List.mem_append_left _ (List.mem_of_getElem? hj))
    · exact hA q (Nat.le_trans hS.1 h)
  have key : ∀ q, (q ∈ wu ∨ q ∈ rs ∨ q ∈ xs) → va_at D tkCl q H ∧ ¬ va_A wc H.size q.1 := by
    rintro q (h | h | h)
    · refine ⟨tk_Pm.mp hP2 q (List.mem_append_right _ h), ?_⟩
      rintro (⟨j, e, hj⟩ | hz)
      · exact e3 q.1 (List.mem_map.mpr ⟨(q.1, e), List.mem_of_getElem? hj, rfl⟩) q.1 (List.mem_map.mpr ⟨q, h, rfl⟩) rfl
      · exact absurd (tk_Pm.mp hP2 q (List.mem_append_right _ h)).lt (Nat.not_lt.mpr hz)
    · obtain ⟨k, hk⟩ := List.mem_iff_getElem?.mp h
      exact ⟨(hR.at hS) k q hk, fun hz => hR.2 k q hk (hAc _ hz)⟩
    · obtain ⟨k, hk⟩ := List.mem_iff_getElem?.mp h
      exact ⟨(hX.at hS) k q hk, fun hz => hX.2 k q hk (hAc _ hz)⟩
  refine ⟨by rw [hU], by rw [hU]; exact tk_Pm.mpr fun q hq => tk_Pm.mp hP2 q (List.mem_append_left _ hq), tk_Dm.mpr ⟨e1, fun _ _ => trivial⟩, ?_, ?_, ?_⟩
  · rw [hU]; exact ⟨fun k q hk => (key q (hr q (List.mem_of_getElem? hk))).1, fun k q hk => (key q (hr q (List.mem_of_getElem? hk))).2⟩
  · rw [hU]; exact ⟨fun k q hk => (key q (hx q (List.mem_of_getElem? hk))).1, fun k q hk => (key q (hx q (List.mem_of_getElem? hk))).2⟩
  · rw [hU]
    exact ⟨va_K.moved hW.alike hE.1, tk_N.warm hW hE.2.1, ((tk_St.warm hW hE.2.2).kept hS.2.1).narrow hAc⟩
/-- what such a callee writes, its caller may -/
theorem tk_frM {A : Nat → Prop} {ws wc wu : va_W} {H0 H : Heap} {locs : List Loc} (hD : va_D A ws) (hS : va_S A H0 H locs) (hA : ∀ q, H0.size ≤ q → A q) (hw : List.Perm ws (wc ++ wu)) : ∀ q, va_A wc H.size q → A q := by
  rintro q (⟨j, e, hj⟩ | h)
  · exact (tk_Dm.mp hD).2 (q, e) (hw.mem_iff.mpr (List.mem_append_left _ (List.mem_of_getElem? hj)))
  · exact hA q (Nat.le_trans hS.1 h)
/-- behind such a call -/
theorem tk_joinM {A : Nat → Prop} {D : va_G} {ws wc wu w1 : va_W} {H H1 : Heap} (hP : va_P D tkCl ws H) (hD : va_D A ws) (hw : List.Perm ws (wc ++ wu)) (hk : ∀ q : Nat, q < H.size → ¬ va_A wc H.size q → H1[q]? = H[q]?) (hF : ∀ q, va_A wc H.size q → A q) (hP1 : va_P D tkCl w1 H1) (hD1 : va_D (va_A wc H.size) w1) : va_P D tkCl (w1 ++ wu) H1 ∧ va_D A (w1 ++ wu) := by
  have hP2 := tk_Pp hw hP
  have hD2 := tk_Dp hw hD
  obtain ⟨d1, d2⟩ := tk_Dm.mp hD2
  rw [List.map_append] at d1
  obtain ⟨e1, e2, e3⟩ := List.nodup_append.mp d1
  obtain ⟨f1, f2⟩ := tk_Dm.mp hD1
  have nu : ∀ q ∈ wu, ¬ va_A wc H.size q.1 := by
    rintro q h (⟨j, e, hj⟩ | hz)
    · exact e3 q.1 (List.mem_map.mpr ⟨(q.1, e), List.mem_of_getElem? hj, rfl⟩) q.1 (List.mem_map.mpr ⟨q, h, rfl⟩) rfl
    · exact absurd (tk_Pm.mp hP2 q (List.mem_append_right _ h)).lt (Nat.not_lt.mpr hz)
  refine ⟨tk_Pm.mpr fun q hq => ?_, tk_Dm.mpr ⟨?_, fun q hq => ?_⟩⟩
  · rcases List.mem_append.mp hq with h | h
    · exact tk_Pm.mp hP1 q h
    · have h1 := tk_Pm.mp hP2 q (List.mem_append_right _ h)
      exact h1.kept (hk q.1 h1.lt (nu q h))
  · rw [List.map_append]
    refine List.nodup_append.mpr ⟨f1, e2, fun a ha b hb he => ?_⟩
    obtain ⟨x, hx, rfl⟩ := List.mem_map.mp ha
    obtain ⟨y, hy, rfl⟩ := List.mem_map.mp hb
    exact nu y hy (he ▸ f2 x hx)
  · rcases List.mem_append.mp hq with h | h
    · exact hF _ (f2 q h)
    · exact d2 q (List.mem_append_right _ h)
/-- a callee's start where a tail of unknown length stands behind the caller's cells -/
theorem tk_mk0 {D : va_G} {ar : Nat → ClassId} {ad : Nat → Nat → Nat} {A : Nat → Prop} {L t rs xs wc rc : va_W} {s : State} {H : Heap} {locs : List Loc} (hP : va_P D tkCl (L ++ t) H) (hD : va_D A (L ++ t)) (hS : va_S A s.heap H locs) (hA : ∀ q, s.heap.size ≤ q → A q) (hE : tk_E D ar ad A s s.heap) (hR : tk_R D A rs s.heap) (hX : tk_R D A xs s.heap) (isC isR : List Nat)
    (hC : isC.map (fun i => (L ++ t)[i]?) = wc.map some) (hn : va_nd isC = true) (hr : isR.map (fun i => (L ++ rs)[i]?) = rc.map some) (hd : isR.all (fun i => !isC.contains i) = true) (U : State) (hU : U.heap = H) (hW : s.WarmedH U.vm) : tk_Pre D ar ad wc rc xs H.size U := by
  obtain ⟨h1, h2, h3, -, h5, h6⟩ := tk_mk hP hD hS hA hE hR hX (wc := wc) (rc := []) isC [] hC hn rfl rfl U hU hW
  refine ⟨h1, h2, h3, ?_, h5, h6⟩
  have hF : ∀ q, va_A wc H.size q → A q := va_free hD hS hA isC hC
  rw [hU]
  have key : ∀ (k : Nat) (q : Nat × va_E), rc[k]? = some q → va_at D tkCl q H ∧ ¬ va_A wc H.size q.1 := by
    intro k q hk
    obtain ⟨i, hi, hq⟩ := tk_mapAt hr hk
    by_cases hl : i < L.length
    · have hq2 : (L ++ t)[i]? = some q := by rw [List.getElem?_append_left hl] at hq ⊢; exact hq
      refine ⟨hP i q hq2, fun hz => ?_⟩
      rcases hz with ⟨j, e, hj⟩ | hz
      · obtain ⟨i2, hi2, hq3⟩ := tk_mapAt hC hj
        have := hD.1 i i2 q (q.1, e) hq2 hq3 rfl
        subst this
        have h1 := List.all_eq_true.mp hd i (List.mem_of_getElem? hi)
        have h2 : isC.contains i = true := List.contains_iff_mem.mpr (List.mem_of_getElem? hi2)
        rw [h2] at h1
        cases h1
      · exact absurd (hP i q hq2).lt (Nat.not_lt.mpr hz)
    · rw [List.getElem?_append_right (Nat.not_lt.mp hl)] at hq
      exact ⟨(hR.at hS) _ q hq, fun hz => hR.2 _ q hq (hF _ hz)⟩
  exact ⟨fun k q hk => (key k q hk).1, fun k q hk => (key k q hk).2⟩
