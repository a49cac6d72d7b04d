set_option maxRecDepth 100000
abbrev tk_sq (k : Nat) : List Int32 := match tk_str[k]? with
  | some q => q.2.2.2
  | none => []
theorem tk_sq_eq {k : Nat} {q : String × Nat × String × List Int32} (h : tk_str[k]? = some q) : tk_sq k = q.2.2.2 := by
  unfold tk_sq
  rw [h]
theorem tk_sq_len : ∀ k, k < 43 → (tk_sq k).length < 9 := by decide +kernel
theorem tk_sq_ch : ∀ k, k < 43 → ∀ j, j < (tk_sq k).length → ((((tk_sq k).getD j 0) &&& 255).toUInt32 % 65536).toInt32 = (tk_sq k).getD j 0 ∧ vp_nar .char ((tk_sq k).getD j 0) = (tk_sq k).getD j 0 := by decide +kernel
theorem tk_nc {x : Int32} (h : vp_nar .char x = x) : narrow .char (.int x) = .int x := by
  have h1 : narrow .char (.int x) = .int (vp_nar .char x) := rfl
  rw [h1, h]
theorem tk_in_lt {x : Int32} {n : Nat} (h : tk_in x n) (hn : n < 2 ^ 31) : ¬ x < 0 ∧ x < Int32.ofNat n := by
  obtain ⟨h1, h2⟩ := vp_in_iff.mp h
  have e : (Int32.ofNat n).toInt = (n : Int) := nI_toInt hn
  refine ⟨fun q => h (Or.inl q), ?_⟩
  rw [Int32.lt_iff_toInt_lt, e]
  exact h2
theorem tk_in_n {x : Int32} {n : Nat} (h : tk_in x n) : x.toNatClampNeg < n := Nat.not_le.mp fun q => h (Or.inr q)
theorem tk_in_size {x n : Int32} (h : tk_in x n.toNatClampNeg) : x < n := by
  obtain ⟨h1, h2⟩ := vp_in_iff.mp h
  rw [Int32.lt_iff_toInt_lt]
  have e : ((n.toNatClampNeg : Nat) : Int) = ((n.toInt.toNat : Nat) : Int) := rfl
  omega
theorem tk_in_mk {x : Int32} {n m : Nat} (h : tk_in x n) (hm : x.toNatClampNeg < m) : tk_in x m := fun q => by
  rcases q with q | q
  · exact h (Or.inl q)
  · omega
theorem tk_all1 {α : Type} {a : α} {l : List α} (h1 : a ∈ l) : ∀ q ∈ [a], q ∈ l := List.forall_mem_cons.mpr ⟨h1, fun _ h => absurd h List.not_mem_nil⟩
theorem tk_all2 {α : Type} {a b : α} {l : List α} (h1 : a ∈ l) (h2 : b ∈ l) : ∀ q ∈ [a, b], q ∈ l := List.forall_mem_cons.mpr ⟨h1, tk_all1 h2⟩
abbrev tk_ra (ar : Nat → ClassId) (n : Nat) (f : Nat → Option Nat) : va_E := .inl (ar 3, n, .inr (.inr (.inr (.inr f))))
/-- a list of waves, its cells in xs but for the list's own -/
def tk_Fwv (ar : Nat → ClassId) (xs : va_W) (r : Nat → Nat) (n : Int32) (wv : Nat → Nat → Int32) : Prop := ∀ k : Nat, k < n.toNatClampNeg → ∃ (cap : Nat) (f : Nat → Option Nat) (a : Nat), (r 1, tk_ra ar cap f) ∈ xs ∧ k < cap ∧ f k = some a ∧ (a, Sum.inr (9, oX11 (wv k))) ∈ xs
def tk_Fal (ar : Nat → ClassId) (xs : va_W) (al : Nat) (n : Int32) (av : Nat → Nat → Int32) : Prop := ∃ (r : Nat → Nat) (i : Nat → Int32), i 2 = n ∧ (al, Sum.inr (13, oJ5 r i)) ∈ xs ∧ ∀ k : Nat, k < n.toNatClampNeg → ∃ (cap : Nat) (f : Nat → Option Nat) (a : Nat), (r 1, tk_ra ar cap f) ∈ xs ∧ k < cap ∧ f k = some a ∧ (a, Sum.inr (8, oX10 (av k))) ∈ xs
def tk_Fhl (ar : Nat → ClassId) (xs : va_W) (hl : Nat) (n : Int32) (an : Nat → Int32) (av : Nat → Nat → Nat → Int32) : Prop := ∃ (r : Nat → Nat) (i : Nat → Int32), i 2 = n ∧ (hl, Sum.inr (13, oJ5 r i)) ∈ xs ∧ ∀ k : Nat, k < n.toNatClampNeg → ∃ (cap : Nat) (f : Nat → Option Nat) (a al : Nat), (r 1, tk_ra ar cap f) ∈ xs ∧ k < cap ∧ f k = some a ∧ (a, Sum.inr (7, oX9 (fun _ => al))) ∈ xs ∧ tk_Fal ar xs al (an k) (av k)
def tk_Fpl (ar : Nat → ClassId) (xs : va_W) (r : Nat → Nat) (n : Int32) (hn : Nat → Int32) (an : Nat → Nat → Int32) (av : Nat → Nat → Nat → Nat → Int32) : Prop := ∀ k : Nat, k < n.toNatClampNeg → ∃ (cap : Nat) (f : Nat → Option Nat) (a hl : Nat), (r 1, tk_ra ar cap f) ∈ xs ∧ k < cap ∧ f k = some a ∧ (a, Sum.inr (12, oX14 (fun _ => hl))) ∈ xs ∧ tk_Fhl ar xs hl (hn k) (an k) (av k)
theorem tk_rc2 {α : Type} {a b : α} {P : α → Prop} (h1 : P a) (h2 : P b) : ∀ q ∈ [a, b], P q := List.forall_mem_cons.mpr ⟨h1, List.forall_mem_cons.mpr ⟨h2, fun _ h => absurd h List.not_mem_nil⟩⟩
theorem tk_recvX {D : va_G} {ar : Nat → ClassId} {A : Nat → Prop} {xs : va_W} {s : State} {H : Heap} {locs : List Loc} {a ci : Nat} {fs : List Value} {q : vw_C} (hK : va_K D tkCl (tk_ty ar) s) (hX : tk_R D A xs s.heap) (hS : va_S A s.heap H locs) (hm : (a, Sum.inr (ci, fs)) ∈ xs) (hc : tkCl[ci]? = some q) : ∃ cell : Cell, H[a]? = some cell ∧ cell.vm.isStatics = false ∧ s.vm.findClass q.1 = some cell.cls := by
  obtain ⟨j, hj⟩ := List.getElem?_of_mem hm
  exact va_recv hK (hX.at hS) hc hj
theorem tk_tw_lt (k : Nat) : tk_tw.getD k 0 < 43 := by
  match k with
  | 0 => decide
  | 1 => decide
  | 2 => decide
  | 3 => decide
  | 4 => decide
  | 5 => decide
  | n + 6 => exact (show (0 : Nat) < 43 by decide)
theorem tk_str_at {k : Nat} (hk : k < 43) : ∃ q, tk_str[k]? = some q := ⟨_, List.getElem?_eq_getElem (show k < tk_str.length from hk)⟩
theorem tk_recvO {E : String} {t : Nat} {A : Nat → Prop} {s : State} {H : Heap} {locs : List Loc} (hO : va_O E t A s s.heap) (hS : va_S A s.heap H locs) : ∃ cell : Cell, H[t]? = some cell ∧ cell.vm.isStatics = false ∧ s.vm.findClass E = some cell.cls := by
  obtain ⟨cell, h1, h2, h3, -⟩ := hO.kept hS.2.1
  exact ⟨cell, h1, h2, h3⟩
/-- a list's reading out of cells that aren't written: all of them lie in xs -/
theorem tk_mkX {D : va_G} {ar : Nat → ClassId} {ad : Nat → Nat → Nat} {A : Nat → Prop} {ws rs xs rc : va_W} {s : State} {H : Heap} {locs : List Loc} (hP : va_P D tkCl ws H) (hD : va_D A ws) (hS : va_S A s.heap H locs) (hA : ∀ q, s.heap.size ≤ q → A q) (hE : tk_E D ar ad A s s.heap) (hR : tk_R D A rs s.heap) (hX : tk_R D A xs s.heap)
    (hr : ∀ q ∈ rc, q ∈ xs) (U : State) (hU : U.heap = H) (hW : s.WarmedH U.vm) : tk_Pre D ar ad [] rc xs H.size U := by
  obtain ⟨h1, h2, h3, h4, h5, h6⟩ := tk_mk hP hD hS hA hE hR hX (wc := []) (rc := []) [] [] rfl rfl rfl rfl U hU hW
  refine ⟨h1, h2, h3, ?_, h5, h6⟩
  have key : ∀ (k : Nat) (q : Nat × va_E), rc[k]? = some q → ∃ j : Nat, xs[j]? = some q := fun k q hk => List.getElem?_of_mem (hr q (List.mem_of_getElem? hk))
  refine ⟨fun k q hk => ?_, fun k q hk => ?_⟩
  · obtain ⟨j, hj⟩ := key k q hk
    exact h5.1 j q hj
  · obtain ⟨j, hj⟩ := key k q hk
    exact h5.2 j q hj
theorem tk_xs {D : va_G} {A : Nat → Prop} {xs : va_W} {H : Heap} {a : Nat} {e : va_E} (h : (a, e) ∈ xs) : ∃ j : Nat, xs[j]? = some (a, e) := List.getElem?_of_mem h
set_option maxHeartbeats 4000000 in
theorem mJ9_checkIndex_n (l : Launch) (D : va_G) (ar : Nat → ClassId) (ad : Nat → Nat → Nat) (xs : va_W) (sz : Nat) (p0 p1 : Int32) (hn0 : ¬ p0 < 0) (hlt : p0 < p1) : Met l yJ9_checkIndex (ws_ yJ9_checkIndex cJ9_checkIndex 3 (some .int)) ({ frames := 0, cells := 0, slots := 0, locals := 0 }) (va_Pc [.int p0, .int p1, .null] (tk_Pre D ar ad [] [] xs sz)) (va_Qi (fun (zr : Int32) (_ : Unit) => zr = p0) (fun z t => tk_Post D (va_A [] sz) [] t) (va_A [] sz)) 0 0 (va_A [] sz) := by
  refine Met.ofW (cc := cJ9_checkIndex) (maxL := 3) (ret := (some .int)) (by decide) rfl ?_
  intro p e s m args below meth c s₁ B hml hv
  obtain ⟨rfl, hsz, hP, hD0, hR, hX, hE⟩ := hv
  have hx := B.exec
  have hb := B.bytes
  have hr := B.returns
  have hts := atoms_spec (ws := (ws_ yJ9_checkIndex cJ9_checkIndex 3 (some .int))) B.pre
  have hts : ∀ w ∈ lw_all, w.before _ s = true := fun w h => hts w (List.mem_cons_of_mem _ h)
  have hown : s.vm.findClass RJ9 = some m.cls := findClass_of_methodNamed B.named
  have hlocks := B.notSynchronized
  subst hsz
  have hD := hD0.self (sz := s.heap.size)
  generalize hAe : va_A [] s.heap.size = A at hD hR hX hE ⊢
  have hA : ∀ q : Nat, s.heap.size ≤ q → A q := fun q h => by rw [← hAe]; exact Or.inr h
  have hS : va_S A s.heap s.heap [] := va_S.rf
  have hK := hE.1
  have hl := lv_entry ([.int p0, .int p1, .null]) (n := 3) (Nat.le_of_ble_eq_true rfl)
  rw [lg_entry_eq]
  generalize (lg_sl ([.int p0, .int p1, .null]) ++ List.replicate (3 - (lg_sl ([.int p0, .int p1, .null])).length) Slot.unset).toArray = ls at hl ⊢
  have hl : lv_has ls 3 [(0, .int p0), (1, .int p1), (2, .null)] := hl
  refine lv_iload_n hx hb dJ9_checkIndex_0 rfl (lv_at hl 0 rfl) ?_
  refine lv_if_lt (tgt := 9) hx hb dJ9_checkIndex_1 (by decide) (fun c => absurd c hn0) (fun c => ?_)
  refine lv_iload_n hx hb dJ9_checkIndex_4 rfl (lv_at hl 0 rfl) ?_
  refine lv_iload_n hx hb dJ9_checkIndex_5 rfl (lv_at hl 1 rfl) ?_
  refine lv_icmp_lt (tgt := 16) hx hb dJ9_checkIndex_6 (by decide) (fun c => ?_) (fun c => absurd hlt c)
  refine lv_iload_n hx hb dJ9_checkIndex_16 rfl (lv_at hl 0 rfl) ?_
  exact W.iret (v := p0) hx hb hr (fun t ht hW => ⟨⟨_, (), rfl, rfl, tk_pst ht hP hD⟩, hS.F ht⟩) hS.2.2 dJ9_checkIndex_17
set_option maxHeartbeats 4000000 in
theorem mJ9_checkIndex_r (l : Launch) (D : va_G) (ar : Nat → ClassId) (ad : Nat → Nat → Nat) (xs : va_W) (sz : Nat) (h2 : Nat) (p0 p1 : Int32) (hn0 : ¬ p0 < 0) (hlt : p0 < p1) : Met l yJ9_checkIndex (ws_ yJ9_checkIndex cJ9_checkIndex 3 (some .int)) ({ frames := 0, cells := 0, slots := 0, locals := 0 }) (va_Pc [.int p0, .int p1, .ref h2] (tk_Pre D ar ad [] [] xs sz)) (va_Qi (fun (zr : Int32) (_ : Unit) => zr = p0) (fun z t => tk_Post D (va_A [] sz) [] t) (va_A [] sz)) 0 0 (va_A [] sz) := by
  refine Met.ofW (cc := cJ9_checkIndex) (maxL := 3) (ret := (some .int)) (by decide) rfl ?_
  intro p e s m args below meth c s₁ B hml hv
  obtain ⟨rfl, hsz, hP, hD0, hR, hX, hE⟩ := hv
  have hx := B.exec
  have hb := B.bytes
  have hr := B.returns
  have hts := atoms_spec (ws := (ws_ yJ9_checkIndex cJ9_checkIndex 3 (some .int))) B.pre
  have hts : ∀ w ∈ lw_all, w.before _ s = true := fun w h => hts w (List.mem_cons_of_mem _ h)
  have hown : s.vm.findClass RJ9 = some m.cls := findClass_of_methodNamed B.named
  have hlocks := B.notSynchronized
  subst hsz
  have hD := hD0.self (sz := s.heap.size)
  generalize hAe : va_A [] s.heap.size = A at hD hR hX hE ⊢
  have hA : ∀ q : Nat, s.heap.size ≤ q → A q := fun q h => by rw [← hAe]; exact Or.inr h
  have hS : va_S A s.heap s.heap [] := va_S.rf
  have hK := hE.1
  have hl := lv_entry ([.int p0, .int p1, .ref h2]) (n := 3) (Nat.le_of_ble_eq_true rfl)
  rw [lg_entry_eq]
  generalize (lg_sl ([.int p0, .int p1, .ref h2]) ++ List.replicate (3 - (lg_sl ([.int p0, .int p1, .ref h2])).length) Slot.unset).toArray = ls at hl ⊢
  have hl : lv_has ls 3 [(0, .int p0), (1, .int p1), (2, .ref h2)] := hl
  refine lv_iload_n hx hb dJ9_checkIndex_0 rfl (lv_at hl 0 rfl) ?_
  refine lv_if_lt (tgt := 9) hx hb dJ9_checkIndex_1 (by decide) (fun c => absurd c hn0) (fun c => ?_)
  refine lv_iload_n hx hb dJ9_checkIndex_4 rfl (lv_at hl 0 rfl) ?_
  refine lv_iload_n hx hb dJ9_checkIndex_5 rfl (lv_at hl 1 rfl) ?_
  refine lv_icmp_lt (tgt := 16) hx hb dJ9_checkIndex_6 (by decide) (fun c => ?_) (fun c => absurd hlt c)
  refine lv_iload_n hx hb dJ9_checkIndex_16 rfl (lv_at hl 0 rfl) ?_
  exact W.iret (v := p0) hx hb hr (fun t ht hW => ⟨⟨_, (), rfl, rfl, tk_pst ht hP hD⟩, hS.F ht⟩) hS.2.2 dJ9_checkIndex_17
set_option maxHeartbeats 4000000 in
theorem mJ13_checkIndex (l : Launch) (D : va_G) (ar : Nat → ClassId) (ad : Nat → Nat → Nat) (xs : va_W) (sz : Nat) (p0 p1 : Int32) (hn0 : ¬ p0 < 0) (hlt : p0 < p1) : Met l yJ13_checkIndex (ws_ yJ13_checkIndex cJ13_checkIndex 2 (some .int)) ({ frames := 1, cells := 0, slots := 0, locals := 22 }) (va_Pc [.int p0, .int p1] (tk_Pre D ar ad [] [] xs sz)) (va_Qi (fun (zr : Int32) (_ : Unit) => zr = p0) (fun z t => tk_Post D (va_A [] sz) [] t) (va_A [] sz)) 0 0 (va_A [] sz) := by
  refine Met.ofW (cc := cJ13_checkIndex) (maxL := 2) (ret := (some .int)) (by decide) rfl ?_
  intro p e s m args below meth c s₁ B hml hv
  obtain ⟨rfl, hsz, hP, hD0, hR, hX, hE⟩ := hv
  have hx := B.exec
  have hb := B.bytes
  have hr := B.returns
  have hts := atoms_spec (ws := (ws_ yJ13_checkIndex cJ13_checkIndex 2 (some .int))) B.pre
  have hts : ∀ w ∈ lw_all, w.before _ s = true := fun w h => hts w (List.mem_cons_of_mem _ h)
  have hown : s.vm.findClass RJ13 = some m.cls := findClass_of_methodNamed B.named
  have hlocks := B.notSynchronized
  subst hsz
  have hD := hD0.self (sz := s.heap.size)
  generalize hAe : va_A [] s.heap.size = A at hD hR hX hE ⊢
  have hA : ∀ q : Nat, s.heap.size ≤ q → A q := fun q h => by rw [← hAe]; exact Or.inr h
  have hS : va_S A s.heap s.heap [] := va_S.rf
  have hK := hE.1
  have hl := lv_entry ([.int p0, .int p1]) (n := 2) (Nat.le_of_ble_eq_true rfl)
  rw [lg_entry_eq]
  generalize (lg_sl ([.int p0, .int p1]) ++ List.replicate (2 - (lg_sl ([.int p0, .int p1])).length) Slot.unset).toArray = ls at hl ⊢
  have hl : lv_has ls 2 [(0, .int p0), (1, .int p1)] := hl
  refine lv_iload_n hx hb dJ13_checkIndex_0 rfl (lv_at hl 0 rfl) ?_
  refine lv_iload_n hx hb dJ13_checkIndex_1 rfl (lv_at hl 1 rfl) ?_
  refine lv_null hx hb dJ13_checkIndex_2 ?_
  refine va_calli (va_runS (As := [.int p0, .int p1, .null]) (rest := []) ⟨hx, hb, hml, hown, hts⟩ (mJ9_checkIndex_n (l := l) (D := D) (ar := ar) (ad := ad) (xs := xs) (sz := s.heap.size) (p0 := p0) (p1 := p1) (hn0 := hn0) (hlt := hlt)) (va_cwS 3 hts (lw_S q1050 q683 q106 q684) rfl rfl rfl (by decide +kernel) ⟨(Nat.le_of_ble_eq_true rfl), (Nat.le_of_ble_eq_true rfl)⟩) ⟨tk_blind, fun U hU hW => ⟨rfl, tk_mk hP hD hS hA hE hR hX [] [] rfl rfl rfl rfl U hU hW⟩⟩ rfl rfl hl.1 rfl (lv_room (Nat.le_of_ble_eq_true rfl)) dJ13_checkIndex_3 ⟨(Nat.le_of_ble_eq_true rfl), (Nat.le_of_ble_eq_true rfl)⟩) hS (fun q _ h => (va_free hD hS hA [] rfl) q h) (va_free hD hS hA [] rfl) (fun zr zu zt H1 zl zht zvm zw zB zz zk zS => ?_)
  have zw := Eq.symm zw
  subst zw
  obtain ⟨hP, hD⟩ := tk_join hP hD zk [] rfl rfl (va_free hD hS hA [] rfl) (zht ▸ zB.1) zB.2 (Nat.le_of_ble_eq_true rfl)
  have hS := zS
  generalize H1 = H at hP hS ⊢
  exact W.iret (v := p0) hx hb hr (fun t ht hW => ⟨⟨_, (), rfl, rfl, tk_pst ht hP hD⟩, hS.F ht⟩) hS.2.2 dJ13_checkIndex_6
set_option maxHeartbeats 4000000 in
theorem mJ5_elementData (l : Launch) (D : va_G) (ar : Nat → ClassId) (ad : Nat → Nat → Nat) (xs : va_W) (sz : Nat) (h0 : Nat) (r0 : Nat → Nat) (i0 : Nat → Int32) (cap : Nat) (f : Nat → Option Nat) (a : Nat) (p0 : Int32) (hin9 : tk_in p0 cap) (hf9 : f p0.toNatClampNeg = some a) : Met l yJ5_elementData (ws_ yJ5_elementData cJ5_elementData 2 (some (.object "java/lang/Object"))) ({ frames := 0, cells := 0, slots := 0, locals := 0 }) (va_Pc [.ref h0, .int p0] (tk_Pre D ar ad [] [(h0, .inr (13, oJ5 r0 i0)), ((r0 1), .inl (ar 3, cap, .inr (.inr (.inr (.inr f)))))] xs sz)) (va_Qr (fun _ : Unit => True) (fun z ra t => ra = a ∧ tk_Post D (va_A [] sz) [] t) (va_A [] sz)) 0 0 (va_A [] sz) := by
  refine Met.ofW (cc := cJ5_elementData) (maxL := 2) (ret := (some (.object "java/lang/Object"))) (by decide) rfl ?_
  intro p e s m args below meth c s₁ B hml hv
  obtain ⟨rfl, hsz, hP, hD0, hR, hX, hE⟩ := hv
  have hx := B.exec
  have hb := B.bytes
  have hr := B.returns
  have hts := atoms_spec (ws := (ws_ yJ5_elementData cJ5_elementData 2 (some (.object "java/lang/Object")))) B.pre
  have hts : ∀ w ∈ lw_all, w.before _ s = true := fun w h => hts w (List.mem_cons_of_mem _ h)
  have hown : s.vm.findClass RJ5 = some m.cls := findClass_of_methodNamed B.named
  have hlocks := B.notSynchronized
  subst hsz
  have hD := hD0.self (sz := s.heap.size)
  generalize hAe : va_A [] s.heap.size = A at hD hR hX hE ⊢
  have hA : ∀ q : Nat, s.heap.size ≤ q → A q := fun q h => by rw [← hAe]; exact Or.inr h
  have hS : va_S A s.heap s.heap [] := va_S.rf
  have hK := hE.1
  have hl := lv_entry ([.ref h0, .int p0]) (n := 2) (Nat.le_of_ble_eq_true rfl)
  rw [lg_entry_eq]
  generalize (lg_sl ([.ref h0, .int p0]) ++ List.replicate (2 - (lg_sl ([.ref h0, .int p0])).length) Slot.unset).toArray = ls at hl ⊢
  have hl : lv_has ls 2 [(0, .ref h0), (1, .int p0)] := hl
  refine lv_aload_n hx hb dJ5_elementData_0 rfl (lv_at hl 0 rfl) ?_
  refine va_get (D := D) (ci := 13) (v := .ref (r0 1)) (C := RJ5) (T := TJ5) (N := 3) hx hb hts in_J5 hown hK (hR.at hS) 0 rfl rfl 1 (by decide) (hts _ q300) (fun _ h9 => h9) rfl dJ5_elementData_1 ?_
  refine lv_iload_n hx hb dJ5_elementData_4 rfl (lv_at hl 1 rfl) ?_
  refine va_aldq hx hb hK (hR.at hS) 1 3 rfl rfl hin9 dJ5_elementData_5 ?_
  rw [hf9]
  show W p l e _ s m _ below meth c _ _ 0 0 _ (F0 m 6 ls [.ref a])
  exact W.aret (v := .ref a) hx hb hr (Or.inl ⟨_, rfl⟩) (Or.inr ⟨_, rfl⟩) (fun t ht hW => ⟨⟨(), _, rfl, trivial, rfl, tk_pst ht hP hD⟩, hS.F ht⟩) hS.2.2 dJ5_elementData_6
set_option maxHeartbeats 4000000 in
theorem mJ5_get (l : Launch) (D : va_G) (ar : Nat → ClassId) (ad : Nat → Nat → Nat) (xs : va_W) (sz : Nat) (h0 : Nat) (r0 : Nat → Nat) (i0 : Nat → Int32) (cap : Nat) (f : Nat → Option Nat) (a : Nat) (p0 : Int32) (hn0 : ¬ p0 < 0) (hlt : p0 < i0 2) (hin9 : tk_in p0 cap) (hf9 : f p0.toNatClampNeg = some a) : Met l yJ5_get (ws_ yJ5_get cJ5_get 2 (some (.object "java/lang/Object"))) ({ frames := 2, cells := 0, slots := 0, locals := 43 }) (va_Pc [.ref h0, .int p0] (tk_Pre D ar ad [] [(h0, .inr (13, oJ5 r0 i0)), ((r0 1), .inl (ar 3, cap, .inr (.inr (.inr (.inr f)))))] xs sz)) (va_Qr (fun _ : Unit => True) (fun z ra t => ra = a ∧ tk_Post D (va_A [] sz) [] t) (va_A [] sz)) 0 0 (va_A [] sz) := by
  refine Met.ofW (cc := cJ5_get) (maxL := 2) (ret := (some (.object "java/lang/Object"))) (by decide) rfl ?_
  intro p e s m args below meth c s₁ B hml hv
  obtain ⟨rfl, hsz, hP, hD0, hR, hX, hE⟩ := hv
  have hx := B.exec
  have hb := B.bytes
  have hr := B.returns
  have hts := atoms_spec (ws := (ws_ yJ5_get cJ5_get 2 (some (.object "java/lang/Object")))) B.pre
  have hts : ∀ w ∈ lw_all, w.before _ s = true := fun w h => hts w (List.mem_cons_of_mem _ h)
  have hown : s.vm.findClass RJ5 = some m.cls := findClass_of_methodNamed B.named
  have hlocks := B.notSynchronized
  subst hsz
  have hD := hD0.self (sz := s.heap.size)
  generalize hAe : va_A [] s.heap.size = A at hD hR hX hE ⊢
  have hA : ∀ q : Nat, s.heap.size ≤ q → A q := fun q h => by rw [← hAe]; exact Or.inr h
  have hS : va_S A s.heap s.heap [] := va_S.rf
  have hK := hE.1
  have hl := lv_entry ([.ref h0, .int p0]) (n := 2) (Nat.le_of_ble_eq_true rfl)
  rw [lg_entry_eq]
  generalize (lg_sl ([.ref h0, .int p0]) ++ List.replicate (2 - (lg_sl ([.ref h0, .int p0])).length) Slot.unset).toArray = ls at hl ⊢
  have hl : lv_has ls 2 [(0, .ref h0), (1, .int p0)] := hl
  refine lv_iload_n hx hb dJ5_get_0 rfl (lv_at hl 1 rfl) ?_
  refine lv_aload_n hx hb dJ5_get_1 rfl (lv_at hl 0 rfl) ?_
  refine va_get (D := D) (ci := 13) (v := .int (i0 2)) (C := RJ5) (T := TJ5) (N := 3) hx hb hts in_J5 hown hK (hR.at hS) 0 rfl rfl 2 (by decide) (hts _ q301) (fun _ h9 => h9) rfl dJ5_get_2 ?_
  refine va_calli (va_runS (As := [.int p0, .int (i0 2)]) (rest := []) ⟨hx, hb, hml, hown, hts⟩ (mJ13_checkIndex (l := l) (D := D) (ar := ar) (ad := ad) (xs := xs) (sz := s.heap.size) (p0 := p0) (p1 := i0 2) (hn0 := hn0) (hlt := hlt)) (va_cwS 2 hts (lw_S q1047 q1048 q117 q1049) rfl rfl rfl (by decide +kernel) ⟨(Nat.le_of_ble_eq_true rfl), (Nat.le_of_ble_eq_true rfl)⟩) ⟨tk_blind, fun U hU hW => ⟨rfl, tk_mk hP hD hS hA hE hR hX [] [] rfl rfl rfl rfl U hU hW⟩⟩ rfl rfl hl.1 rfl (lv_room (Nat.le_of_ble_eq_true rfl)) dJ5_get_5 ⟨(Nat.le_of_ble_eq_true rfl), (Nat.le_of_ble_eq_true rfl)⟩) hS (fun q _ h => (va_free hD hS hA [] rfl) q h) (va_free hD hS hA [] rfl) (fun zr zu zt H1 zl zht zvm zw zB zz zk zS => ?_)
  have zw := Eq.symm zw
  subst zw
  obtain ⟨hP, hD⟩ := tk_join hP hD zk [] rfl rfl (va_free hD hS hA [] rfl) (zht ▸ zB.1) zB.2 (Nat.le_of_ble_eq_true rfl)
  have hS := zS
  generalize H1 = H at hP hS ⊢
  refine lv_pop hx hb dJ5_get_8 rfl ?_
  refine lv_aload_n hx hb dJ5_get_9 rfl (lv_at hl 0 rfl) ?_
  refine lv_iload_n hx hb dJ5_get_10 rfl (lv_at hl 1 rfl) ?_
  refine va_callr (va_runV (As := [.int p0]) (rest := []) ⟨hx, hb, hml, hown, hts⟩ (mJ5_elementData (l := l) (D := D) (ar := ar) (ad := ad) (xs := xs) (sz := H.size) (h0 := h0) (r0 := r0) (i0 := i0) (cap := cap) (f := f) (a := a) (p0 := p0) (hin9 := hin9) (hf9 := hf9)) (cwV 1 hts (lw_V q1051 q1052 q1053 q98 q1054) rfl rfl rfl (by decide +kernel) ⟨(Nat.le_of_ble_eq_true rfl), (Nat.le_of_ble_eq_true rfl)⟩) ⟨tk_blind, va_recv hK (hR.at hS) (ci := 13) (q0 := 0) rfl rfl, fun U hU hW => ⟨rfl, tk_mk hP hD hS hA hE hR hX [] [0, 1] rfl rfl rfl rfl U hU hW⟩⟩ rfl rfl hl.1 rfl (lv_room (Nat.le_of_ble_eq_true rfl)) dJ5_get_11 ⟨(Nat.le_of_ble_eq_true rfl), (Nat.le_of_ble_eq_true rfl)⟩) hS (fun q _ h => (va_free hD hS hA [] rfl) q h) (va_free hD hS hA [] rfl) (fun zu zr zt H1 zl zht zvm zw zB zz zk zS => ?_)
  obtain ⟨zr9, zB⟩ := zB
  have zr9 := Eq.symm zr9
  subst zr9
  obtain ⟨hP, hD⟩ := tk_join hP hD zk [] rfl rfl (va_free hD hS hA [] rfl) (zht ▸ zB.1) zB.2 (Nat.le_of_ble_eq_true rfl)
  have hS := zS
  generalize H1 = H at hP hS ⊢
  exact W.aret (v := .ref a) hx hb hr (Or.inl ⟨_, rfl⟩) (Or.inr ⟨_, rfl⟩) (fun t ht hW => ⟨⟨(), _, rfl, trivial, rfl, tk_pst ht hP hD⟩, hS.F ht⟩) hS.2.2 dJ5_get_14
set_option maxHeartbeats 4000000 in
theorem mJ5_size_d (l : Launch) (D : va_G) (ar : Nat → ClassId) (ad : Nat → Nat → Nat) (xs : va_W) (sz : Nat) (h0 : Nat) (r0 : Nat → Nat) (i0 : Nat → Int32)  : Met l yJ5_size (ws_ yJ5_size cJ5_size 1 (some .int)) ({ frames := 0, cells := 0, slots := 0, locals := 0 }) (va_Pc [.ref h0] (tk_Pre D ar ad [] [(h0, .inr (13, oJ5 r0 i0))] xs sz)) (va_Qi (fun (zr : Int32) (_ : Unit) => zr = i0 2) (fun z t => tk_Post D (va_A [] sz) [] t) (va_A [] sz)) 0 0 (va_A [] sz) := by
  refine Met.ofW (cc := cJ5_size) (maxL := 1) (ret := (some .int)) (by decide) rfl ?_
  intro p e s m args below meth c s₁ B hml hv
  obtain ⟨rfl, hsz, hP, hD0, hR, hX, hE⟩ := hv
  have hx := B.exec
  have hb := B.bytes
  have hr := B.returns
  have hts := atoms_spec (ws := (ws_ yJ5_size cJ5_size 1 (some .int))) B.pre
  have hts : ∀ w ∈ lw_all, w.before _ s = true := fun w h => hts w (List.mem_cons_of_mem _ h)
  have hown : s.vm.findClass RJ5 = some m.cls := findClass_of_methodNamed B.named
  have hlocks := B.notSynchronized
  subst hsz
  have hD := hD0.self (sz := s.heap.size)
  generalize hAe : va_A [] s.heap.size = A at hD hR hX hE ⊢
  have hA : ∀ q : Nat, s.heap.size ≤ q → A q := fun q h => by rw [← hAe]; exact Or.inr h
  have hS : va_S A s.heap s.heap [] := va_S.rf
  have hK := hE.1
  have hl := lv_entry ([.ref h0]) (n := 1) (Nat.le_of_ble_eq_true rfl)
  rw [lg_entry_eq]
  generalize (lg_sl ([.ref h0]) ++ List.replicate (1 - (lg_sl ([.ref h0])).length) Slot.unset).toArray = ls at hl ⊢
  have hl : lv_has ls 1 [(0, .ref h0)] := hl
  refine lv_aload_n hx hb dJ5_size_0 rfl (lv_at hl 0 rfl) ?_
  refine va_get (D := D) (ci := 13) (v := .int (i0 2)) (C := RJ5) (T := TJ5) (N := 3) hx hb hts in_J5 hown hK (hR.at hS) 0 rfl rfl 2 (by decide) (hts _ q301) (fun _ h9 => h9) rfl dJ5_size_1 ?_
  exact W.iret (v := i0 2) hx hb hr (fun t ht hW => ⟨⟨_, (), rfl, rfl, tk_pst ht hP hD⟩, hS.F ht⟩) hS.2.2 dJ5_size_4
set_option maxHeartbeats 4000000 in
theorem mJ7_coder (l : Launch) (D : va_G) (ar : Nat → ClassId) (ad : Nat → Nat → Nat) (xs : va_W) (sz : Nat) (k : Nat) (hk : k < 43) : Met l yJ7_coder (ws_ yJ7_coder cJ7_coder 1 (some .byte)) ({ frames := 0, cells := 0, slots := 0, locals := 0 }) (va_Pc [.ref (ad 0 k)] (tk_Pre D ar ad [] [] xs sz)) (va_Qi (fun (zr : Int32) (_ : Unit) => zr = 0) (fun z t => tk_Post D (va_A [] sz) [] t) (va_A [] sz)) 0 0 (va_A [] sz) := by
  refine Met.ofW (cc := cJ7_coder) (maxL := 1) (ret := (some .byte)) (by decide) rfl ?_
  intro p e s m args below meth c s₁ B hml hv
  obtain ⟨rfl, hsz, hP, hD0, hR, hX, hE⟩ := hv
  have hx := B.exec
  have hb := B.bytes
  have hr := B.returns
  have hts := atoms_spec (ws := (ws_ yJ7_coder cJ7_coder 1 (some .byte))) B.pre
  have hts : ∀ w ∈ lw_all, w.before _ s = true := fun w h => hts w (List.mem_cons_of_mem _ h)
  have hown : s.vm.findClass RJ7 = some m.cls := findClass_of_methodNamed B.named
  have hlocks := B.notSynchronized
  subst hsz
  have hD := hD0.self (sz := s.heap.size)
  generalize hAe : va_A [] s.heap.size = A at hD hR hX hE ⊢
  have hA : ∀ q : Nat, s.heap.size ≤ q → A q := fun q h => by rw [← hAe]; exact Or.inr h
  have hS : va_S A s.heap s.heap [] := va_S.rf
  have hK := hE.1
  have hl := lv_entry ([.ref (ad 0 k)]) (n := 1) (Nat.le_of_ble_eq_true rfl)
  rw [lg_entry_eq]
  generalize (lg_sl ([.ref (ad 0 k)]) ++ List.replicate (1 - (lg_sl ([.ref (ad 0 k)])).length) Slot.unset).toArray = ls at hl ⊢
  have hl : lv_has ls 1 [(0, .ref (ad 0 k))] := hl
  obtain ⟨q, hq⟩ := tk_str_at hk
  have hsq := tk_sq_eq hq
  obtain ⟨hV, hO, hC, hA5, hT⟩ := hE.2.2.2.1 k q hq
  rw [← hsq] at hT
  refine va_gets (n := "COMPACT_STRINGS") hx hb hE.2.2.2.2.2.1 hS hown (hts _ q664) (fun _ h9 => h9) dJ7_coder_0 ?_
  refine lv_if_eq (tgt := 13) hx hb dJ7_coder_3 (by decide) (fun c => absurd c (by decide)) (fun c => ?_)
  refine lv_aload_n hx hb dJ7_coder_6 rfl (lv_at hl 0 rfl) ?_
  refine vk_getf hx hb hC hS hown (hts _ q2034) (fun _ h9 => h9) dJ7_coder_7 ?_
  refine lv_goto (tgt := 14) hx hb dJ7_coder_10 (by decide) ?_
  exact W.zret (v := 0) hx hb hr rfl (fun t ht hW => ⟨⟨_, (), rfl, rfl, tk_pst ht hP hD⟩, hS.F ht⟩) hS.2.2 dJ7_coder_14
set_option maxHeartbeats 4000000 in
theorem mJ7_isLatin1 (l : Launch) (D : va_G) (ar : Nat → ClassId) (ad : Nat → Nat → Nat) (xs : va_W) (sz : Nat) (k : Nat) (hk : k < 43) : Met l yJ7_isLatin1 (ws_ yJ7_isLatin1 cJ7_isLatin1 1 (some .boolean)) ({ frames := 0, cells := 0, slots := 0, locals := 0 }) (va_Pc [.ref (ad 0 k)] (tk_Pre D ar ad [] [] xs sz)) (va_Qi (fun (zr : Int32) (_ : Unit) => zr = 1) (fun z t => tk_Post D (va_A [] sz) [] t) (va_A [] sz)) 0 0 (va_A [] sz) := by
  refine Met.ofW (cc := cJ7_isLatin1) (maxL := 1) (ret := (some .boolean)) (by decide) rfl ?_
  intro p e s m args below meth c s₁ B hml hv
  obtain ⟨rfl, hsz, hP, hD0, hR, hX, hE⟩ := hv
  have hx := B.exec
  have hb := B.bytes
  have hr := B.returns
  have hts := atoms_spec (ws := (ws_ yJ7_isLatin1 cJ7_isLatin1 1 (some .boolean))) B.pre
  have hts : ∀ w ∈ lw_all, w.before _ s = true := fun w h => hts w (List.mem_cons_of_mem _ h)
  have hown : s.vm.findClass RJ7 = some m.cls := findClass_of_methodNamed B.named
  have hlocks := B.notSynchronized
  subst hsz
  have hD := hD0.self (sz := s.heap.size)
  generalize hAe : va_A [] s.heap.size = A at hD hR hX hE ⊢
  have hA : ∀ q : Nat, s.heap.size ≤ q → A q := fun q h => by rw [← hAe]; exact Or.inr h
  have hS : va_S A s.heap s.heap [] := va_S.rf
  have hK := hE.1
  have hl := lv_entry ([.ref (ad 0 k)]) (n := 1) (Nat.le_of_ble_eq_true rfl)
  rw [lg_entry_eq]
  generalize (lg_sl ([.ref (ad 0 k)]) ++ List.replicate (1 - (lg_sl ([.ref (ad 0 k)])).length) Slot.unset).toArray = ls at hl ⊢
  have hl : lv_has ls 1 [(0, .ref (ad 0 k))] := hl
  obtain ⟨q, hq⟩ := tk_str_at hk
  have hsq := tk_sq_eq hq
  obtain ⟨hV, hO, hC, hA5, hT⟩ := hE.2.2.2.1 k q hq
  rw [← hsq] at hT
  refine va_gets (n := "COMPACT_STRINGS") hx hb hE.2.2.2.2.2.1 hS hown (hts _ q664) (fun _ h9 => h9) dJ7_isLatin1_0 ?_
  refine lv_if_eq (tgt := 17) hx hb dJ7_isLatin1_3 (by decide) (fun c => absurd c (by decide)) (fun c => ?_)
  refine lv_aload_n hx hb dJ7_isLatin1_6 rfl (lv_at hl 0 rfl) ?_
  refine vk_getf hx hb hC hS hown (hts _ q2034) (fun _ h9 => h9) dJ7_isLatin1_7 ?_
  refine lv_if_ne (tgt := 17) hx hb dJ7_isLatin1_10 (by decide) (fun c => absurd rfl c) (fun c => ?_)
  refine lv_iconst (v := 1) hx hb dJ7_isLatin1_13 (by decide) ?_
  refine lv_goto (tgt := 18) hx hb dJ7_isLatin1_14 (by decide) ?_
  exact W.zret (v := 1) hx hb hr rfl (fun t ht hW => ⟨⟨_, (), rfl, rfl, tk_pst ht hP hD⟩, hS.F ht⟩) hS.2.2 dJ7_isLatin1_18
set_option maxHeartbeats 4000000 in
theorem mJ7_length (l : Launch) (D : va_G) (ar : Nat → ClassId) (ad : Nat → Nat → Nat) (xs : va_W) (sz : Nat) (k : Nat) (hk : k < 43) : Met l yJ7_length (ws_ yJ7_length cJ7_length 1 (some .int)) ({ frames := 1, cells := 0, slots := 0, locals := 20 }) (va_Pc [.ref (ad 0 k)] (tk_Pre D ar ad [] [] xs sz)) (va_Qi (fun (zr : Int32) (_ : Unit) => zr = Int32.ofNat (tk_sq k).length) (fun z t => tk_Post D (va_A [] sz) [] t) (va_A [] sz)) 0 0 (va_A [] sz) := by
  refine Met.ofW (cc := cJ7_length) (maxL := 1) (ret := (some .int)) (by decide) rfl ?_
  intro p e s m args below meth c s₁ B hml hv
  obtain ⟨rfl, hsz, hP, hD0, hR, hX, hE⟩ := hv
  have hx := B.exec
  have hb := B.bytes
  have hr := B.returns
  have hts := atoms_spec (ws := (ws_ yJ7_length cJ7_length 1 (some .int))) B.pre
  have hts : ∀ w ∈ lw_all, w.before _ s = true := fun w h => hts w (List.mem_cons_of_mem _ h)
  have hown : s.vm.findClass RJ7 = some m.cls := findClass_of_methodNamed B.named
  have hlocks := B.notSynchronized
  subst hsz
  have hD := hD0.self (sz := s.heap.size)
  generalize hAe : va_A [] s.heap.size = A at hD hR hX hE ⊢
  have hA : ∀ q : Nat, s.heap.size ≤ q → A q := fun q h => by rw [← hAe]; exact Or.inr h
  have hS : va_S A s.heap s.heap [] := va_S.rf
  have hK := hE.1
  have hl := lv_entry ([.ref (ad 0 k)]) (n := 1) (Nat.le_of_ble_eq_true rfl)
  rw [lg_entry_eq]
  generalize (lg_sl ([.ref (ad 0 k)]) ++ List.replicate (1 - (lg_sl ([.ref (ad 0 k)])).length) Slot.unset).toArray = ls at hl ⊢
  have hl : lv_has ls 1 [(0, .ref (ad 0 k))] := hl
  obtain ⟨q, hq⟩ := tk_str_at hk
  have hsq := tk_sq_eq hq
  obtain ⟨hV, hO, hC, hA5, hT⟩ := hE.2.2.2.1 k q hq
  rw [← hsq] at hT
  refine lv_aload_n hx hb dJ7_length_0 rfl (lv_at hl 0 rfl) ?_
  refine vk_getf hx hb hA5 hS hown (hts _ q2033) (fun _ h9 => h9) dJ7_length_1 ?_
  refine va_tlen hx hb hT hS rfl dJ7_length_4 ?_
  refine lv_aload_n hx hb dJ7_length_5 rfl (lv_at hl 0 rfl) ?_
  refine va_calli (va_runV (As := []) (rest := [.int (Int32.ofNat (tk_sq k).length)]) ⟨hx, hb, hml, hown, hts⟩ (mJ7_coder (l := l) (D := D) (ar := ar) (ad := ad) (xs := xs) (sz := s.heap.size) (k := k) (hk := hk)) (cwV 0 hts (lw_V q660 q661 q662 q104 q663) rfl rfl rfl (by decide +kernel) ⟨(Nat.le_of_ble_eq_true rfl), (Nat.le_of_ble_eq_true rfl)⟩) ⟨tk_blind, tk_recvO hO hS, fun U hU hW => ⟨rfl, tk_mk hP hD hS hA hE hR hX [] [] rfl rfl rfl rfl U hU hW⟩⟩ rfl rfl hl.1 rfl (lv_room (Nat.le_of_ble_eq_true rfl)) dJ7_length_6 ⟨(Nat.le_of_ble_eq_true rfl), (Nat.le_of_ble_eq_true rfl)⟩) hS (fun q _ h => (va_free hD hS hA [] rfl) q h) (va_free hD hS hA [] rfl) (fun zr zu zt H1 zl zht zvm zw zB zz zk zS => ?_)
  have zw := Eq.symm zw
  subst zw
  obtain ⟨hP, hD⟩ := tk_join hP hD zk [] rfl rfl (va_free hD hS hA [] rfl) (zht ▸ zB.1) zB.2 (Nat.le_of_ble_eq_true rfl)
  have hS := zS
  generalize H1 = H at hP hS ⊢
  refine lv_ishr hx hb dJ7_length_9 ?_
  refine W.eq (g2 := F0 m 10 ls [.int (Int32.ofNat (tk_sq k).length)]) (by rw [show Int32.ofNat (tk_sq k).length >>> ((0 : Int32) &&& 31) = Int32.ofNat (tk_sq k).length from sc_shr0 (Nat.lt_trans (tk_sq_len k hk) (by decide))]) ?_
  exact W.iret (v := Int32.ofNat (tk_sq k).length) hx hb hr (fun t ht hW => ⟨⟨_, (), rfl, rfl, tk_pst ht hP hD⟩, hS.F ht⟩) hS.2.2 dJ7_length_10
set_option maxHeartbeats 4000000 in
theorem mJ7_checkIndex (l : Launch) (D : va_G) (ar : Nat → ClassId) (ad : Nat → Nat → Nat) (xs : va_W) (sz : Nat) (p0 p1 : Int32) (hn0 : ¬ p0 < 0) (hlt : p0 < p1) : Met l yJ7_checkIndex (ws_ yJ7_checkIndex cJ7_checkIndex 2 none) ({ frames := 1, cells := 0, slots := 0, locals := 22 }) (va_Pc [.int p0, .int p1] (tk_Pre D ar ad [] [] xs sz)) (va_Qv (fun _ : Unit => True) (fun z t => tk_Post D (va_A [] sz) [] t) (va_A [] sz)) 0 0 (va_A [] sz) := by
  refine Met.ofW (cc := cJ7_checkIndex) (maxL := 2) (ret := none) (by decide) rfl ?_
  intro p e s m args below meth c s₁ B hml hv
  obtain ⟨rfl, hsz, hP, hD0, hR, hX, hE⟩ := hv
  have hx := B.exec
  have hb := B.bytes
  have hr := B.returns
  have hts := atoms_spec (ws := (ws_ yJ7_checkIndex cJ7_checkIndex 2 none)) B.pre
  have hts : ∀ w ∈ lw_all, w.before _ s = true := fun w h => hts w (List.mem_cons_of_mem _ h)
  have hown : s.vm.findClass RJ7 = some m.cls := findClass_of_methodNamed B.named
  have hlocks := B.notSynchronized
  subst hsz
  have hD := hD0.self (sz := s.heap.size)
  generalize hAe : va_A [] s.heap.size = A at hD hR hX hE ⊢
  have hA : ∀ q : Nat, s.heap.size ≤ q → A q := fun q h => by rw [← hAe]; exact Or.inr h
  have hS : va_S A s.heap s.heap [] := va_S.rf
  have hK := hE.1
  have hl := lv_entry ([.int p0, .int p1]) (n := 2) (Nat.le_of_ble_eq_true rfl)
  rw [lg_entry_eq]
  generalize (lg_sl ([.int p0, .int p1]) ++ List.replicate (2 - (lg_sl ([.int p0, .int p1])).length) Slot.unset).toArray = ls at hl ⊢
  have hl : lv_has ls 2 [(0, .int p0), (1, .int p1)] := hl
  rcases hE.2.2.2.2.2.2.1 with hZ | ⟨h2, hZ⟩
  · refine lv_iload_n hx hb dJ7_checkIndex_0 rfl (lv_at hl 0 rfl) ?_
    refine lv_iload_n hx hb dJ7_checkIndex_1 rfl (lv_at hl 1 rfl) ?_
    refine va_gets (n := "SIOOBE_FORMATTER") hx hb hZ hS hown (hts _ q680) (fun _ h9 => h9) dJ7_checkIndex_2 ?_
    refine va_calli (va_runS (As := [.int p0, .int p1, .null]) (rest := []) ⟨hx, hb, hml, hown, hts⟩ (mJ9_checkIndex_n (l := l) (D := D) (ar := ar) (ad := ad) (xs := xs) (sz := s.heap.size) (p0 := p0) (p1 := p1) (hn0 := hn0) (hlt := hlt)) (va_cwS 3 hts (lw_S q682 q683 q106 q684) rfl rfl rfl (by decide +kernel) ⟨(Nat.le_of_ble_eq_true rfl), (Nat.le_of_ble_eq_true rfl)⟩) ⟨tk_blind, fun U hU hW => ⟨rfl, tk_mk hP hD hS hA hE hR hX [] [] rfl rfl rfl rfl U hU hW⟩⟩ rfl rfl hl.1 rfl (lv_room (Nat.le_of_ble_eq_true rfl)) dJ7_checkIndex_5 ⟨(Nat.le_of_ble_eq_true rfl), (Nat.le_of_ble_eq_true rfl)⟩) hS (fun q _ h => (va_free hD hS hA [] rfl) q h) (va_free hD hS hA [] rfl) (fun zr zu zt H1 zl zht zvm zw zB zz zk zS => ?_)
    have zw := Eq.symm zw
    subst zw
    obtain ⟨hP, hD⟩ := tk_join hP hD zk [] rfl rfl (va_free hD hS hA [] rfl) (zht ▸ zB.1) zB.2 (Nat.le_of_ble_eq_true rfl)
    have hS := zS
    generalize H1 = H at hP hS ⊢
    refine lv_pop hx hb dJ7_checkIndex_8 rfl ?_
    exact W.vret hx hb hr (fun t ht hW => ⟨⟨(), rfl, trivial, tk_pst ht hP hD⟩, hS.F ht⟩) hS.2.2 dJ7_checkIndex_9
  · refine lv_iload_n hx hb dJ7_checkIndex_0 rfl (lv_at hl 0 rfl) ?_
    refine lv_iload_n hx hb dJ7_checkIndex_1 rfl (lv_at hl 1 rfl) ?_
    refine va_gets (n := "SIOOBE_FORMATTER") hx hb hZ hS hown (hts _ q680) (fun _ h9 => h9) dJ7_checkIndex_2 ?_
    refine va_calli (va_runS (As := [.int p0, .int p1, .ref h2]) (rest := []) ⟨hx, hb, hml, hown, hts⟩ (mJ9_checkIndex_r (l := l) (D := D) (ar := ar) (ad := ad) (xs := xs) (sz := s.heap.size) (h2 := h2) (p0 := p0) (p1 := p1) (hn0 := hn0) (hlt := hlt)) (va_cwS 3 hts (lw_S q682 q683 q106 q684) rfl rfl rfl (by decide +kernel) ⟨(Nat.le_of_ble_eq_true rfl), (Nat.le_of_ble_eq_true rfl)⟩) ⟨tk_blind, fun U hU hW => ⟨rfl, tk_mk hP hD hS hA hE hR hX [] [] rfl rfl rfl rfl U hU hW⟩⟩ rfl rfl hl.1 rfl (lv_room (Nat.le_of_ble_eq_true rfl)) dJ7_checkIndex_5 ⟨(Nat.le_of_ble_eq_true rfl), (Nat.le_of_ble_eq_true rfl)⟩) hS (fun q _ h => (va_free hD hS hA [] rfl) q h) (va_free hD hS hA [] rfl) (fun zr zu zt H1 zl zht zvm zw zB zz zk zS => ?_)
    have zw := Eq.symm zw
    subst zw
    obtain ⟨hP, hD⟩ := tk_join hP hD zk [] rfl rfl (va_free hD hS hA [] rfl) (zht ▸ zB.1) zB.2 (Nat.le_of_ble_eq_true rfl)
    have hS := zS
    generalize H1 = H at hP hS ⊢
    refine lv_pop hx hb dJ7_checkIndex_8 rfl ?_
    exact W.vret hx hb hr (fun t ht hW => ⟨⟨(), rfl, trivial, tk_pst ht hP hD⟩, hS.F ht⟩) hS.2.2 dJ7_checkIndex_9
set_option maxHeartbeats 4000000 in
theorem mJ8_charAt (l : Launch) (D : va_G) (ar : Nat → ClassId) (ad : Nat → Nat → Nat) (xs : va_W) (sz : Nat) (k : Nat) (p0 : Int32) (hk : k < 43) (hg : tk_in p0 (tk_sq k).length) : Met l yJ8_charAt (ws_ yJ8_charAt cJ8_charAt 2 (some .char)) ({ frames := 2, cells := 0, slots := 0, locals := 43 }) (va_Pc [.ref (ad 1 k), .int p0] (tk_Pre D ar ad [] [] xs sz)) (va_Qi (fun (zr : Int32) (_ : Unit) => zr = ((tk_sq k).getD p0.toNatClampNeg 0)) (fun z t => tk_Post D (va_A [] sz) [] t) (va_A [] sz)) 0 0 (va_A [] sz) := by
  refine Met.ofW (cc := cJ8_charAt) (maxL := 2) (ret := (some .char)) (by decide) rfl ?_
  intro p e s m args below meth c s₁ B hml hv
  obtain ⟨rfl, hsz, hP, hD0, hR, hX, hE⟩ := hv
  have hx := B.exec
  have hb := B.bytes
  have hr := B.returns
  have hts := atoms_spec (ws := (ws_ yJ8_charAt cJ8_charAt 2 (some .char))) B.pre
  have hts : ∀ w ∈ lw_all, w.before _ s = true := fun w h => hts w (List.mem_cons_of_mem _ h)
  have hown : s.vm.findClass RJ8 = some m.cls := findClass_of_methodNamed B.named
  have hlocks := B.notSynchronized
  subst hsz
  have hD := hD0.self (sz := s.heap.size)
  generalize hAe : va_A [] s.heap.size = A at hD hR hX hE ⊢
  have hA : ∀ q : Nat, s.heap.size ≤ q → A q := fun q h => by rw [← hAe]; exact Or.inr h
  have hS : va_S A s.heap s.heap [] := va_S.rf
  have hK := hE.1
  have hl := lv_entry ([.ref (ad 1 k), .int p0]) (n := 2) (Nat.le_of_ble_eq_true rfl)
  rw [lg_entry_eq]
  generalize (lg_sl ([.ref (ad 1 k), .int p0]) ++ List.replicate (2 - (lg_sl ([.ref (ad 1 k), .int p0])).length) Slot.unset).toArray = ls at hl ⊢
  have hl : lv_has ls 2 [(0, .ref (ad 1 k)), (1, .int p0)] := hl
  obtain ⟨q, hq⟩ := tk_str_at hk
  have hsq := tk_sq_eq hq
  obtain ⟨hV, hO, hC, hA5, hT⟩ := hE.2.2.2.1 k q hq
  rw [← hsq] at hT
  obtain ⟨hn0, hlt⟩ := tk_in_lt hg (Nat.lt_trans (tk_sq_len k hk) (by decide))
  refine lv_iload_n hx hb dJ8_charAt_0 rfl (lv_at hl 1 rfl) ?_
  refine lv_aload_n hx hb dJ8_charAt_1 rfl (lv_at hl 0 rfl) ?_
  refine va_tlen hx hb hT hS rfl dJ8_charAt_2 ?_
  refine va_callv (va_runS (As := [.int p0, .int (Int32.ofNat (tk_sq k).length)]) (rest := []) ⟨hx, hb, hml, hown, hts⟩ (mJ7_checkIndex (l := l) (D := D) (ar := ar) (ad := ad) (xs := xs) (sz := s.heap.size) (p0 := p0) (p1 := Int32.ofNat (tk_sq k).length) (hn0 := hn0) (hlt := hlt)) (va_cwS 2 hts (lw_S q677 q678 q104 q679) rfl rfl rfl (by decide +kernel) ⟨(Nat.le_of_ble_eq_true rfl), (Nat.le_of_ble_eq_true rfl)⟩) ⟨tk_blind, fun U hU hW => ⟨rfl, tk_mk hP hD hS hA hE hR hX [] [] rfl rfl rfl rfl U hU hW⟩⟩ rfl rfl hl.1 rfl (lv_room (Nat.le_of_ble_eq_true rfl)) dJ8_charAt_3 ⟨(Nat.le_of_ble_eq_true rfl), (Nat.le_of_ble_eq_true rfl)⟩) hS (fun q _ h => (va_free hD hS hA [] rfl) q h) (va_free hD hS hA [] rfl) (fun zu zt H1 zl zht zvm zw zB zz zk zS => ?_)
  obtain ⟨hP, hD⟩ := tk_join hP hD zk [] rfl rfl (va_free hD hS hA [] rfl) (zht ▸ zB.1) zB.2 (Nat.le_of_ble_eq_true rfl)
  have hS := zS
  generalize H1 = H at hP hS ⊢
  refine lv_aload_n hx hb dJ8_charAt_6 rfl (lv_at hl 0 rfl) ?_
  refine lv_iload_n hx hb dJ8_charAt_7 rfl (lv_at hl 1 rfl) ?_
  refine va_tb hx hb hT hS hg (v := .int ((tk_sq k).getD p0.toNatClampNeg 0)) rfl dJ8_charAt_8 ?_
  refine lv_sipush (v := 255) hx hb dJ8_charAt_9 (by decide) ?_
  refine lv_iand hx hb dJ8_charAt_12 ?_
  obtain ⟨hc1, hc2⟩ := tk_sq_ch k hk _ (tk_in_n hg)
  refine lv_i2c (v := ((tk_sq k).getD p0.toNatClampNeg 0)) hx hb dJ8_charAt_13 hc1 ?_
  exact W.zret (v := ((tk_sq k).getD p0.toNatClampNeg 0)) hx hb hr (tk_nc hc2) (fun t ht hW => ⟨⟨_, (), rfl, rfl, tk_pst ht hP hD⟩, hS.F ht⟩) hS.2.2 dJ8_charAt_14
set_option maxHeartbeats 4000000 in
theorem mJ7_charAt (l : Launch) (D : va_G) (ar : Nat → ClassId) (ad : Nat → Nat → Nat) (xs : va_W) (sz : Nat) (k : Nat) (p0 : Int32) (hk : k < 43) (hg : tk_in p0 (tk_sq k).length) : Met l yJ7_charAt (ws_ yJ7_charAt cJ7_charAt 2 (some .char)) ({ frames := 3, cells := 0, slots := 0, locals := 64 }) (va_Pc [.ref (ad 0 k), .int p0] (tk_Pre D ar ad [] [] xs sz)) (va_Qi (fun (zr : Int32) (_ : Unit) => zr = ((tk_sq k).getD p0.toNatClampNeg 0)) (fun z t => tk_Post D (va_A [] sz) [] t) (va_A [] sz)) 0 0 (va_A [] sz) := by
  refine Met.ofW (cc := cJ7_charAt) (maxL := 2) (ret := (some .char)) (by decide) rfl ?_
  intro p e s m args below meth c s₁ B hml hv
  obtain ⟨rfl, hsz, hP, hD0, hR, hX, hE⟩ := hv
  have hx := B.exec
  have hb := B.bytes
  have hr := B.returns
  have hts := atoms_spec (ws := (ws_ yJ7_charAt cJ7_charAt 2 (some .char))) B.pre
  have hts : ∀ w ∈ lw_all, w.before _ s = true := fun w h => hts w (List.mem_cons_of_mem _ h)
  have hown : s.vm.findClass RJ7 = some m.cls := findClass_of_methodNamed B.named
  have hlocks := B.notSynchronized
  subst hsz
  have hD := hD0.self (sz := s.heap.size)
  generalize hAe : va_A [] s.heap.size = A at hD hR hX hE ⊢
  have hA : ∀ q : Nat, s.heap.size ≤ q → A q := fun q h => by rw [← hAe]; exact Or.inr h
  have hS : va_S A s.heap s.heap [] := va_S.rf
  have hK := hE.1
  have hl := lv_entry ([.ref (ad 0 k), .int p0]) (n := 2) (Nat.le_of_ble_eq_true rfl)
  rw [lg_entry_eq]
  generalize (lg_sl ([.ref (ad 0 k), .int p0]) ++ List.replicate (2 - (lg_sl ([.ref (ad 0 k), .int p0])).length) Slot.unset).toArray = ls at hl ⊢
  have hl : lv_has ls 2 [(0, .ref (ad 0 k)), (1, .int p0)] := hl
  obtain ⟨q, hq⟩ := tk_str_at hk
  have hsq := tk_sq_eq hq
  obtain ⟨hV, hO, hC, hA5, hT⟩ := hE.2.2.2.1 k q hq
  rw [← hsq] at hT
  refine lv_aload_n hx hb dJ7_charAt_0 rfl (lv_at hl 0 rfl) ?_
  refine va_calli (va_runV (As := []) (rest := []) ⟨hx, hb, hml, hown, hts⟩ (mJ7_isLatin1 (l := l) (D := D) (ar := ar) (ad := ad) (xs := xs) (sz := s.heap.size) (k := k) (hk := hk)) (cwV 0 hts (lw_V q670 q671 q672 q104 q673) rfl rfl rfl (by decide +kernel) ⟨(Nat.le_of_ble_eq_true rfl), (Nat.le_of_ble_eq_true rfl)⟩) ⟨tk_blind, tk_recvO hO hS, fun U hU hW => ⟨rfl, tk_mk hP hD hS hA hE hR hX [] [] rfl rfl rfl rfl U hU hW⟩⟩ rfl rfl hl.1 rfl (lv_room (Nat.le_of_ble_eq_true rfl)) dJ7_charAt_1 ⟨(Nat.le_of_ble_eq_true rfl), (Nat.le_of_ble_eq_true rfl)⟩) hS (fun q _ h => (va_free hD hS hA [] rfl) q h) (va_free hD hS hA [] rfl) (fun zr zu zt H1 zl zht zvm zw zB zz zk zS => ?_)
  have zw := Eq.symm zw
  subst zw
  obtain ⟨hP, hD⟩ := tk_join hP hD zk [] rfl rfl (va_free hD hS hA [] rfl) (zht ▸ zB.1) zB.2 (Nat.le_of_ble_eq_true rfl)
  have hS := zS
  generalize H1 = H at hP hS ⊢
  refine lv_if_eq (tgt := 16) hx hb dJ7_charAt_4 (by decide) (fun c => absurd c (by decide)) (fun c => ?_)
  refine lv_aload_n hx hb dJ7_charAt_7 rfl (lv_at hl 0 rfl) ?_
  refine vk_getf hx hb hA5 hS hown (hts _ q2033) (fun _ h9 => h9) dJ7_charAt_8 ?_
  refine lv_iload_n hx hb dJ7_charAt_11 rfl (lv_at hl 1 rfl) ?_
  refine va_calli (va_runS (As := [.ref (ad 1 k), .int p0]) (rest := []) ⟨hx, hb, hml, hown, hts⟩ (mJ8_charAt (l := l) (D := D) (ar := ar) (ad := ad) (xs := xs) (sz := H.size) (k := k) (p0 := p0) (hk := hk) (hg := hg)) (va_cwS 2 hts (lw_S q674 q675 q105 q676) rfl rfl rfl (by decide +kernel) ⟨(Nat.le_of_ble_eq_true rfl), (Nat.le_of_ble_eq_true rfl)⟩) ⟨tk_blind, fun U hU hW => ⟨rfl, tk_mk hP hD hS hA hE hR hX [] [] rfl rfl rfl rfl U hU hW⟩⟩ rfl rfl hl.1 rfl (lv_room (Nat.le_of_ble_eq_true rfl)) dJ7_charAt_12 ⟨(Nat.le_of_ble_eq_true rfl), (Nat.le_of_ble_eq_true rfl)⟩) hS (fun q _ h => (va_free hD hS hA [] rfl) q h) (va_free hD hS hA [] rfl) (fun zr zu zt H1 zl zht zvm zw zB zz zk zS => ?_)
  have zw := Eq.symm zw
  subst zw
  obtain ⟨hP, hD⟩ := tk_join hP hD zk [] rfl rfl (va_free hD hS hA [] rfl) (zht ▸ zB.1) zB.2 (Nat.le_of_ble_eq_true rfl)
  have hS := zS
  generalize H1 = H at hP hS ⊢
  obtain ⟨hc1, hc2⟩ := tk_sq_ch k hk _ (tk_in_n hg)
  exact W.zret (v := ((tk_sq k).getD p0.toNatClampNeg 0)) hx hb hr (tk_nc hc2) (fun t ht hW => ⟨⟨_, (), rfl, rfl, tk_pst ht hP hD⟩, hS.F ht⟩) hS.2.2 dJ7_charAt_15
