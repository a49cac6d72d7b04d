set_option maxRecDepth 100000
noncomputable def tk_deq : DecidableEq (Nat × va_E) := fun a b => Classical.propDecidable (a = b)
theorem tk_cnt {l1 l2 : va_W} (h : ∀ a : Nat × va_E, @List.count _ (@instBEqOfDecidableEq _ tk_deq) a l1 = @List.count _ (@instBEqOfDecidableEq _ tk_deq) a l2) : List.Perm l1 l2 := by
  letI : DecidableEq (Nat × va_E) := tk_deq
  exact List.perm_iff_count.mpr h
theorem tk_Psub {D : va_G} {cl : List vw_C} {ws w2 : va_W} {H : Heap} (h : List.Sublist w2 ws) (hP : va_P D cl ws H) : va_P D cl w2 H := tk_Pm.mpr fun q hq => tk_Pm.mp hP q (h.subset hq)
theorem tk_Dsub {A : Nat → Prop} {ws w2 : va_W} (h : List.Sublist w2 ws) (hD : va_D A ws) : va_D A w2 := by
  obtain ⟨h1, h2⟩ := tk_Dm.mp hD
  exact tk_Dm.mpr ⟨(h.map _).nodup h1, fun q hq => h2 q (h.subset hq)⟩
/-- a list: its array and its elements' cells in a tail of the world -/
def tk_DL (E : Nat → Nat → va_W → Prop) (ad : Nat → Nat → Nat) (ar : Nat → ClassId) (r : Nat → Nat) (n : Int32) (dy : va_W) : Prop := ∃ (f : Nat → Option Nat) (ea el : va_W), dy = ea ++ el ∧ tk_LS ad ar r n ea f ∧ ∀ k : Nat, k < n.toNatClampNeg → ∃ a : Nat, f k = some a ∧ E k a el
abbrev tk_EW (wv : Nat → Nat → Int32) : Nat → Nat → va_W → Prop := fun k a el => (a, Sum.inr (9, oX11 (wv k))) ∈ el
abbrev tk_EA (av : Nat → Nat → Int32) : Nat → Nat → va_W → Prop := fun k a el => (a, Sum.inr (8, oX10 (av k))) ∈ el
abbrev tk_EH (ar : Nat → ClassId) (an : Nat → Int32) (av : Nat → Nat → Nat → Int32) : Nat → Nat → va_W → Prop := fun k a el => ∃ al : Nat, (a, Sum.inr (7, oX9 (fun _ => al))) ∈ el ∧ tk_Fal ar el al (an k) (av k)
abbrev tk_EP (ar : Nat → ClassId) (hn : Nat → Int32) (an : Nat → Nat → Int32) (av : Nat → Nat → Nat → Nat → Int32) : Nat → Nat → va_W → Prop := fun k a el => ∃ hl : Nat, (a, Sum.inr (12, oX14 (fun _ => hl))) ∈ el ∧ tk_Fhl ar el hl (hn k) (an k) (av k)
theorem tk_Fal.mono {ar : Nat → ClassId} {x y : va_W} (h : ∀ q ∈ x, q ∈ y) {al : Nat} {n : Int32} {av : Nat → Nat → Int32} (hf : tk_Fal ar x al n av) : tk_Fal ar y al n av := by
  obtain ⟨r, i, h1, h2, h4⟩ := hf
  exact ⟨r, i, h1, h _ h2, fun k hk => by
    obtain ⟨cap, f, a, g0, g1, g2, g3⟩ := h4 k hk
    exact ⟨cap, f, a, h _ g0, g1, g2, h _ g3⟩⟩
theorem tk_Fhl.mono {ar : Nat → ClassId} {x y : va_W} (h : ∀ q ∈ x, q ∈ y) {al : Nat} {n : Int32} {an : Nat → Int32} {av : Nat → Nat → Nat → Int32} (hf : tk_Fhl ar x al n an av) : tk_Fhl ar y al n an av := by
  obtain ⟨r, i, h1, h2, h4⟩ := hf
  exact ⟨r, i, h1, h _ h2, fun k hk => by
    obtain ⟨cap, f, a, al9, g0, g1, g2, g3, g4⟩ := h4 k hk
    exact ⟨cap, f, a, al9, h _ g0, g1, g2, h _ g3, g4.mono h⟩⟩
/-- out of a tail: the families that the reading walks ask -/
theorem tk_DL.get {E : Nat → Nat → va_W → Prop} {ad : Nat → Nat → Nat} {ar : Nat → ClassId} {r : Nat → Nat} {n : Int32} {dy X : va_W} (h : tk_DL E ad ar r n dy) (hX : ∀ q ∈ dy, q ∈ X) {k : Nat} (hk : k < n.toNatClampNeg) : ∃ (cap : Nat) (f : Nat → Option Nat) (a : Nat) (el : va_W), (r 1, tk_ra ar cap f) ∈ X ∧ k < cap ∧ f k = some a ∧ E k a el ∧ ∀ q ∈ el, q ∈ X := by
  obtain ⟨f, ea, el, rfl, hLS, hall⟩ := h
  obtain ⟨a, h1, h2⟩ := hall k hk
  rcases hLS with ⟨rfl, -⟩ | ⟨cap, rfl, -, hle, -⟩
  · exact absurd hk (Nat.not_lt_zero k)
  · exact ⟨cap, f, a, el, hX _ (List.mem_append_left _ List.mem_cons_self), Nat.lt_of_lt_of_le hk hle, h1, h2, fun q hq => hX q (List.mem_append_right _ hq)⟩
theorem tk_DL.wv {ww : Nat → Nat → Int32} {ad : Nat → Nat → Nat} {ar : Nat → ClassId} {r : Nat → Nat} {n : Int32} {dy X : va_W} (h : tk_DL (tk_EW ww) ad ar r n dy) (hX : ∀ q ∈ dy, q ∈ X) : tk_Fwv ar X r n ww := fun k hk => by
  obtain ⟨cap, f, a, el, h1, h2, h3, h4, h5⟩ := h.get hX hk
  exact ⟨cap, f, a, h1, h2, h3, h5 _ h4⟩
theorem tk_DL.al {ac : Nat → Nat → Int32} {ad : Nat → Nat → Nat} {ar : Nat → ClassId} {r : Nat → Nat} {i : Nat → Int32} {n : Int32} {al : Nat} {dy X : va_W} (h : tk_DL (tk_EA ac) ad ar r n dy) (hi : i 2 = n) (hl : (al, Sum.inr (13, oJ5 r i)) ∈ X) (hX : ∀ q ∈ dy, q ∈ X) : tk_Fal ar X al n ac := ⟨r, i, hi, hl, fun k hk => by
  obtain ⟨cap, f, a, el, h1, h2, h3, h4, h5⟩ := h.get hX hk
  exact ⟨cap, f, a, h1, h2, h3, h5 _ h4⟩⟩
theorem tk_DL.hl {an : Nat → Int32} {av : Nat → Nat → Nat → Int32} {ad : Nat → Nat → Nat} {ar : Nat → ClassId} {r : Nat → Nat} {i : Nat → Int32} {n : Int32} {al : Nat} {dy X : va_W} (h : tk_DL (tk_EH ar an av) ad ar r n dy) (hi : i 2 = n) (hl : (al, Sum.inr (13, oJ5 r i)) ∈ X) (hX : ∀ q ∈ dy, q ∈ X) : tk_Fhl ar X al n an av := ⟨r, i, hi, hl, fun k hk => by
  obtain ⟨cap, f, a, el, h1, h2, h3, ⟨al9, g1, g2⟩, h5⟩ := h.get hX hk
  exact ⟨cap, f, a, al9, h1, h2, h3, h5 _ g1, g2.mono h5⟩⟩
theorem tk_DL.pl {hn : Nat → Int32} {an : Nat → Nat → Int32} {av : Nat → Nat → Nat → Nat → Int32} {ad : Nat → Nat → Nat} {ar : Nat → ClassId} {r : Nat → Nat} {n : Int32} {dy X : va_W} (h : tk_DL (tk_EP ar hn an av) ad ar r n dy) (hX : ∀ q ∈ dy, q ∈ X) : tk_Fpl ar X r n hn an av := fun k hk => by
  obtain ⟨cap, f, a, el, h1, h2, h3, ⟨hl9, g1, g2⟩, h5⟩ := h.get hX hk
  exact ⟨cap, f, a, hl9, h1, h2, h3, h5 _ g1, g2.mono h5⟩
theorem tk_in_s {x : Int32} {n : Nat} (h : tk_in x n) (hn : n < 2 ^ 31) : (x + 1).toNatClampNeg = x.toNatClampNeg + 1 := by
  obtain ⟨h1, h2⟩ := vp_in_iff.mp h
  have e : (x + 1).toInt = x.toInt + 1 := by rw [Int32.toInt_add]; show Int.bmod (x.toInt + 1) _ = _; exact Int.bmod_eq_of_le (by omega) (by omega)
  show (x + 1).toInt.toNat = x.toInt.toNat + 1
  omega
section TKADD
variable {p : Program} {l : Launch} {e : Env} {R : Room} {s : State} {m : MethodId} {args : Array Value} {below : List Frame} {meth : Method} {c : Code} {H : Heap} {locs : List Loc} {cells slots : Nat} {Q : State → Prop}
variable {cc : ByteArray} {pc nL : Nat} {ls : Array Slot} {rest : List Value} {A : Nat → Prop} {D : va_G} {ar : Nat → ClassId} {ad : Nat → Nat → Nat} {ws rs xs : va_W}
/-- list.add(v), in all its cases -/
theorem tk_addW {own : String} {index : Nat} (S9 : CallFix p m c cc nL s args lw_all own) (hlsz : ls.size = nL) (hlk : Cond.methodLink own index yJ5_add ∈ lw_all) (hdg : decode cc pc = .ok (.invokevirtual index, 3)) {v h0 : Nat} (hroom : 2 * (F0 m pc ls (.ref v :: .ref h0 :: rest)).monitorRoom + (rest.map fun v => v.category).sum ≤ 8) (hfr : 7 ≤ R.frames) (hlo : 321 ≤ R.locals) (hce : cells + 1 ≤ R.cells) (hsl : slots + 15 ≤ R.slots)
    (hP : va_P D tkCl ws H) (hD : va_D A ws) (hS : va_S A s.heap H locs) (hA : ∀ q, s.heap.size ≤ q → A q) (hE : tk_E D ar ad A s s.heap) (hR : tk_R D A rs s.heap) (hX : tk_R D A xs s.heap)
    {r0 : Nat → Nat} {i0 : Nat → Int32} {dy els wu : va_W} {E E' : Nat → Nat → va_W → Prop} (hw : List.Perm ws (((h0, .inr (13, oJ5 r0 i0)) :: dy) ++ (els ++ wu))) (hDL : tk_DL E ad ar r0 (i0 2) dy) (hin : tk_in (i0 2) 15)
    (hten : i0 2 = 10 → ∀ (k a : Nat) (el : va_W), k < 10 → E k a el → ∃ (ci9 : Nat) (fs9 : List Value) (C8 : String) (T8 : u_T) (N8 : Nat), (a, Sum.inr (ci9, fs9)) ∈ el ∧ tkCl[ci9]? = some (C8, T8, N8) ∧ Cond.castable C8 "java/lang/Object" ∈ lw_tbl)
    {ci : Nat} {vfs : List Value} {C9 : String} {T9 : u_T} {N9 : Nat} (hv : (v, Sum.inr (ci, vfs)) ∈ els) (hc9 : tkCl[ci]? = some (C9, T9, N9)) (hca : Cond.castable C9 "java/lang/Object" ∈ lw_tbl)
    (hE1 : ∀ (k a : Nat) (el : va_W), E k a el → k < (i0 2).toNatClampNeg → E' k a (el ++ els)) (hE2 : ∀ el : va_W, E' (i0 2).toNatClampNeg v (el ++ els))
    (kk : ∀ (H1 : Heap) (locs1 : List Loc) (z : Nat) (dy' : va_W), tk_DL E' ad ar (tur r0 1 z) (i0 2 + 1) dy' → va_P D tkCl (((h0, .inr (13, oJ5 (tur r0 1 z) (tu (tu i0 0 (i0 0 + 1)) 2 (i0 2 + 1)))) :: dy') ++ wu) H1 → va_D A (((h0, .inr (13, oJ5 (tur r0 1 z) (tu (tu i0 0 (i0 0 + 1)) 2 (i0 2 + 1)))) :: dy') ++ wu) → va_S A s.heap H1 locs1 → W p l e R s m args below meth c H1 locs1 (cells + 1) (slots + 15) Q (F0 m (pc + 3) ls (.int 1 :: rest))) :
    W p l e R s m args below meth c H locs cells slots Q (F0 m pc ls (.ref v :: .ref h0 :: rest)) := by
  obtain ⟨hx, hb, hml, hown, hts⟩ := id S9
  obtain ⟨f, ea, el, rfl, hLS, hall⟩ := hDL
  have hK := hE.1
  have hsc := tk_in_s hin (by decide)
  have fam : ∀ k : Nat, k < (i0 2 + 1).toNatClampNeg → ∃ a : Nat, va_up f (i0 2).toNatClampNeg (some v) k = some a ∧ E' k a (el ++ els) := by
    intro k hk
    rw [hsc] at hk
    by_cases hkn : k < (i0 2).toNatClampNeg
    · obtain ⟨a, h1, h2⟩ := hall k hkn
      exact ⟨a, by rw [va_up_ne f _ (by omega)]; exact h1, hE1 k a el h2 hkn⟩
    · have hk9 : k = (i0 2).toNatClampNeg := by omega
      subst hk9
      exact ⟨v, va_up_self f _ _, hE2 el⟩
  have cw : ∀ rm : Room, rm.cells = 1 → rm.slots = 15 → rm.frames = 6 → rm.locals = 300 → CallW R s args own "java/util/ArrayList" index yJ5_add cJ5_add 2 (some .boolean) (ws_ yJ5_add cJ5_add 2 (some .boolean)) rm 1 15 1 := fun rm h1 h2 h3 h4 =>
    cwV 1 hts (lw_V hlk q827 q828 q98 q829) rfl h1 h2 (by decide +kernel) ⟨by omega, by omega⟩
  have hv9 : ∀ q ∈ [((v, Sum.inr (ci, vfs)) : Nat × va_E)], q ∈ els := List.forall_mem_cons.mpr ⟨hv, fun _ h => absurd h List.not_mem_nil⟩
  rcases hLS with ⟨hn0, rfl, hr1, hf0⟩ | ⟨cap, rfl, hcap, hle, hneg⟩
  · have hw' : List.Perm ws ([(h0, Sum.inr (13, oJ5 r0 i0))] ++ (el ++ (els ++ wu))) := by simpa using hw
    have fr := tk_frM hD hS hA hw'
    have hre : ∃ cell : Cell, H[h0]? = some cell ∧ cell.vm.isStatics = false ∧ s.vm.findClass "java/util/ArrayList" = some cell.cls := va_recv hK (tk_Pp hw' hP) (ci := 13) (q0 := 0) rfl rfl
    refine va_calli (va_runV (As := [.ref v]) (rest := rest) S9 (mJ5_add_A (l := l) (D := D) (ar := ar) (ad := ad) (xs := xs) (sz := H.size) (h0 := h0) (r0 := r0) (i0 := i0) (f := f) (v := v) (ci := ci) (vfs := vfs) (C9 := C9) (T9 := T9) (N9 := N9) (hc9 := hc9) (hca := hca) (hr1 := hr1) (hi2 := hn0) (hf0 := hf0)) (cw _ rfl rfl rfl rfl) ⟨tk_blind, hre, fun U hU hW => ⟨rfl, tk_mkM hP hD hS hA hE hR hX hw' (fun q hq => Or.inl (List.mem_append_right _ (List.mem_append_left _ (hv9 q hq)))) (fun q hq => Or.inr (Or.inr hq)) U hU hW⟩⟩ rfl rfl hlsz rfl hroom hdg ⟨hce, hsl⟩) hS (fun q _ h => fr q h) fr (fun zr zu zt H1 zl zht zvm zw zB zz zk zS => ?_)
    obtain ⟨rfl, hLS'⟩ := zw
    obtain ⟨hP2, hD2⟩ := tk_joinM hP hD hw' zk fr (zht ▸ zB.1) zB.2
    have hp2 : List.Perm (([(h0, Sum.inr (13, oJ5 (tur r0 1 zu.1) (tu (tu i0 0 (i0 0 + 1)) 2 (i0 2 + 1))))] ++ zu.2) ++ (el ++ (els ++ wu))) (((h0, Sum.inr (13, oJ5 (tur r0 1 zu.1) (tu (tu i0 0 (i0 0 + 1)) 2 (i0 2 + 1)))) :: (zu.2 ++ (el ++ els))) ++ wu) := by
      simp only [List.cons_append, List.nil_append, List.append_assoc]
      exact List.Perm.refl _
    exact kk H1 _ zu.1 (zu.2 ++ (el ++ els)) ⟨_, zu.2, el ++ els, rfl, hLS', fam⟩ (tk_Pp hp2 hP2) (tk_Dp hp2 hD2) zS
  · have hw' : List.Perm ws ([(h0, Sum.inr (13, oJ5 r0 i0)), (r0 1, tk_ra ar cap f)] ++ (el ++ (els ++ wu))) := by simpa using hw
    have fr := tk_frM hD hS hA hw'
    have hre : ∃ cell : Cell, H[h0]? = some cell ∧ cell.vm.isStatics = false ∧ s.vm.findClass "java/util/ArrayList" = some cell.cls := va_recv hK (tk_Pp hw' hP) (ci := 13) (q0 := 0) rfl rfl
    by_cases hfull : tk_in (i0 2) cap
    · refine va_calli (va_runV (As := [.ref v]) (rest := rest) S9 (mJ5_add_B (l := l) (D := D) (ar := ar) (ad := ad) (xs := xs) (sz := H.size) (h0 := h0) (r0 := r0) (i0 := i0) (f := f) (cap := cap) (v := v) (ci := ci) (vfs := vfs) (C9 := C9) (T9 := T9) (N9 := N9) (hc9 := hc9) (hca := hca) (hin9 := hfull) (hcap := by rcases hcap with h | h <;> omega) (hc15 := hcap)) (cw _ rfl rfl rfl rfl) ⟨tk_blind, hre, fun U hU hW => ⟨rfl, tk_mkM hP hD hS hA hE hR hX hw' (fun q hq => Or.inl (List.mem_append_right _ (List.mem_append_left _ (hv9 q hq)))) (fun q hq => Or.inr (Or.inr hq)) U hU hW⟩⟩ rfl rfl hlsz rfl hroom hdg ⟨hce, hsl⟩) hS (fun q _ h => fr q h) fr (fun zr zu zt H1 zl zht zvm zw zB zz zk zS => ?_)
      obtain ⟨rfl, hLS'⟩ := zw
      obtain ⟨hP2, hD2⟩ := tk_joinM hP hD hw' zk fr (zht ▸ zB.1) zB.2
      have hp2 : List.Perm (([(h0, Sum.inr (13, oJ5 (tur r0 1 zu.1) (tu (tu i0 0 (i0 0 + 1)) 2 (i0 2 + 1))))] ++ zu.2) ++ (el ++ (els ++ wu))) (((h0, Sum.inr (13, oJ5 (tur r0 1 zu.1) (tu (tu i0 0 (i0 0 + 1)) 2 (i0 2 + 1)))) :: (zu.2 ++ (el ++ els))) ++ wu) := by
        simp only [List.cons_append, List.nil_append, List.append_assoc]
        exact List.Perm.refl _
      exact kk H1 _ zu.1 (zu.2 ++ (el ++ els)) ⟨_, zu.2, el ++ els, rfl, hLS', fam⟩ (tk_Pp hp2 hP2) (tk_Dp hp2 hD2) zS
    · have hnn := tk_in_n hin
      have hten9 : cap = 10 ∧ i0 2 = 10 := by
        have h1 : ¬ (i0 2).toNatClampNeg < cap := fun h => hfull (fun q => by rcases q with q | q; exact hneg q; omega)
        have h2 : (i0 2).toNatClampNeg = cap := by omega
        have h3 : cap = 10 := by rcases hcap with h | h <;> omega
        refine ⟨h3, ?_⟩
        have h4 := (vp_in_iff.mp hin).1
        have h5 : (i0 2).toNatClampNeg = (i0 2).toInt.toNat := rfl
        refine Int32.toInt_inj.mp ?_
        show (i0 2).toInt = 10
        omega
      obtain ⟨rfl, hi2⟩ := hten9
      have hel : ∀ k : Nat, k < 10 → ∃ (a9 ci9 : Nat) (fs9 : List Value) (C8 : String) (T8 : u_T) (N8 : Nat), f k = some a9 ∧ (a9, Sum.inr (ci9, fs9)) ∈ el ∧ tkCl[ci9]? = some (C8, T8, N8) ∧ Cond.castable C8 "java/lang/Object" ∈ lw_tbl := by
        intro k hk
        obtain ⟨a, h1, h2⟩ := hall k (by rw [hi2]; exact hk)
        obtain ⟨ci9, fs9, C8, T8, N8, g1, g2, g3⟩ := hten hi2 k a el hk h2
        exact ⟨a, ci9, fs9, C8, T8, N8, h1, g1, g2, g3⟩
      refine va_calli (va_runV (As := [.ref v]) (rest := rest) S9 (mJ5_add_C (l := l) (D := D) (ar := ar) (ad := ad) (xs := el) (sz := H.size) (h0 := h0) (r0 := r0) (i0 := i0) (f := f) (v := v) (ci := ci) (vfs := vfs) (C9 := C9) (T9 := T9) (N9 := N9) (hc9 := hc9) (hca := hca) (hi2 := hi2) (hel := hel)) (cw _ rfl rfl rfl rfl) ⟨tk_blind, hre, fun U hU hW => ⟨rfl, tk_mkM hP hD hS hA hE hR hX hw' (fun q hq => Or.inl (List.mem_append_right _ (List.mem_append_left _ (hv9 q hq)))) (fun q hq => Or.inl (List.mem_append_left _ hq)) U hU hW⟩⟩ rfl rfl hlsz rfl hroom hdg ⟨hce, hsl⟩) hS (fun q _ h => fr q h) fr (fun zr zu zt H1 zl zht zvm zw zB zz zk zS => ?_)
      subst zw
      obtain ⟨hP2, hD2⟩ := tk_joinM hP hD hw' zk fr (zht ▸ zB.1) zB.2
      have e10 : (10 : Int32).toNatClampNeg = 10 := by decide
      have e0 : (0 : Int32).toNatClampNeg = 0 := by decide
      have hcp : ∀ k : Nat, k < (i0 2 + 1).toNatClampNeg → ∃ a : Nat, va_up (va_cpy f (fun _ => none) (0 : Int32).toNatClampNeg (0 : Int32).toNatClampNeg (10 : Int32).toNatClampNeg) (10 : Int32).toNatClampNeg (some v) k = some a ∧ E' k a (el ++ els) := by
        intro k hk
        obtain ⟨a, h1, h2⟩ := fam k hk
        refine ⟨a, ?_, h2⟩
        rw [← h1, hi2, e10, e0]
        by_cases hk9 : k = 10
        · rw [hk9, va_up_self, va_up_self]
        · rw [va_up_ne _ _ hk9, va_up_ne _ _ hk9]
          rw [hi2] at hk
          have hk8 : k < 11 := hk
          unfold va_cpy
          rw [if_pos (by omega)]
          exact congrArg f (by omega)
      have hi9 : (tu (tu i0 0 (i0 0 + 1)) 2 (i0 2 + 1)) = (tu (tu i0 0 (i0 0 + 1)) 2 11) := by rw [hi2]; rfl
      have hs9 : List.Sublist (((h0, Sum.inr (13, oJ5 (tur r0 1 zu) (tu (tu i0 0 (i0 0 + 1)) 2 (i0 2 + 1)))) :: ([(zu, tk_ra ar 15 (va_up (va_cpy f (fun _ => none) (0 : Int32).toNatClampNeg (0 : Int32).toNatClampNeg (10 : Int32).toNatClampNeg) (10 : Int32).toNatClampNeg (some v)))] ++ (el ++ els))) ++ wu) ([(h0, Sum.inr (13, oJ5 (tur r0 1 zu) (tu (tu i0 0 (i0 0 + 1)) 2 11))), (r0 1, tk_ra ar 10 f), (zu, tk_ra ar 15 (va_up (va_cpy f (fun _ => none) (0 : Int32).toNatClampNeg (0 : Int32).toNatClampNeg (10 : Int32).toNatClampNeg) (10 : Int32).toNatClampNeg (some v)))] ++ (el ++ (els ++ wu))) := by
        rw [hi9]
        simp only [List.cons_append, List.nil_append, List.append_assoc]
        exact List.Sublist.cons_cons _ (List.Sublist.cons _ (List.Sublist.refl _))
      exact kk H1 _ zu _ ⟨_, [(zu, tk_ra ar 15 _)], el ++ els, rfl, Or.inr ⟨15, rfl, Or.inr rfl, by rw [hi2]; decide, by rw [hi2]; decide⟩, hcp⟩ (tk_Psub hs9 hP2) (tk_Dsub hs9 hD2) zS
end TKADD
set_option maxHeartbeats 4000000 in
theorem mJ5_clear_A (l : Launch) (D : va_G) (ar : Nat → ClassId) (ad : Nat → Nat → Nat) (xs : va_W) (sz : Nat) (h0 : Nat) (r0 : Nat → Nat) (i0 : Nat → Int32) (hi2 : i0 2 = 0) : Met l yJ5_clear (ws_ yJ5_clear cJ5_clear 4 none) ({ frames := 0, cells := 0, slots := 0, locals := 0 }) (va_Pc [.ref h0] (tk_Pre D ar ad [(h0, .inr (13, oJ5 r0 i0))] [] xs sz)) (va_Qv (fun _ : Unit => True) (fun _ t => tk_Post D (va_A [(h0, .inr (13, oJ5 r0 i0))] sz) [(h0, .inr (13, oJ5 r0 (tu (tu i0 0 (i0 0 + 1)) 2 0)))] t) (va_A [(h0, .inr (13, oJ5 r0 i0))] sz)) 0 0 (va_A [(h0, .inr (13, oJ5 r0 i0))] sz) := by
  refine Met.ofW (cc := cJ5_clear) (maxL := 4) (ret := none) (by decide) rfl ?_
  intro p e s m args below meth c s₁ B hml hv
  obtain ⟨rfl, hsz, hP, hD0, hR, hX, hE⟩ := hv
  have hx := B.exec
  have hb := B.bytes
  have hr := B.returns
  have hts := atoms_spec (ws := (ws_ yJ5_clear cJ5_clear 4 none)) B.pre
  have hts : ∀ w ∈ lw_all, w.before _ s = true := fun w h => hts w (List.mem_cons_of_mem _ h)
  have hown : s.vm.findClass RJ5 = some m.cls := findClass_of_methodNamed B.named
  have hlocks := B.notSynchronized
  subst hsz
  have hD := hD0.self (sz := s.heap.size)
  generalize hAe : va_A [(h0, .inr (13, oJ5 r0 i0))] s.heap.size = A at hD hR hX hE ⊢
  have hA : ∀ q : Nat, s.heap.size ≤ q → A q := fun q h => by rw [← hAe]; exact Or.inr h
  have hS : va_S A s.heap s.heap [] := va_S.rf
  have hK := hE.1
  have hl := lv_entry ([.ref h0]) (n := 4) (Nat.le_of_ble_eq_true rfl)
  rw [lg_entry_eq]
  generalize (lg_sl ([.ref h0]) ++ List.replicate (4 - (lg_sl ([.ref h0])).length) Slot.unset).toArray = ls at hl ⊢
  have hl : lv_has ls 4 [(0, .ref h0)] := hl
  refine lv_aload_n hx hb dJ5_clear_0 rfl (lv_at hl 0 rfl) ?_
  refine lv_dup hx hb dJ5_clear_1 rfl ?_
  refine va_get (D := D) (ci := 13) (v := .int (i0 0)) (C := RJ5) (T := TJ5) (N := 3) hx hb hts in_J5 hown hK hP 0 rfl rfl 0 (by decide) (hts _ q303) (fun x9 h9 => u_same (hts _ q304) x9 h9) rfl dJ5_clear_2 ?_
  refine lv_iconst (v := 1) hx hb dJ5_clear_5 (by decide) ?_
  refine lv_iadd hx hb dJ5_clear_6 ?_
  refine va_put (D := D) (ci := 13) (v := .int (i0 0 + 1)) (ty := .int) (C := RJ5) (T := TJ5) (N := 3) hx hb hts in_J5 tyJ5 tyJ5_ok nmJ5 hown hK hP hD hS 0 rfl rfl 0 (by decide) (hts _ q303) (fun x9 h9 => u_same (hts _ q304) x9 h9) rfl (by decide +kernel) rfl rfl (Nat.le_of_ble_eq_true rfl) dJ5_clear_7 (fun H locs hP hD hS => ?_)
  have hP : va_P D tkCl [(h0, .inr (13, oJ5 r0 (tu i0 0 (i0 0 + 1))))] H := hP
  have hD : va_D A [(h0, .inr (13, oJ5 r0 (tu i0 0 (i0 0 + 1))))] := hD
  refine lv_aload_n hx hb dJ5_clear_10 rfl (lv_at hl 0 rfl) ?_
  refine va_get (D := D) (ci := 13) (v := .ref (r0 1)) (C := RJ5) (T := TJ5) (N := 3) hx hb hts in_J5 hown hK hP 0 rfl rfl 1 (by decide) (hts _ q300) (fun _ h9 => h9) rfl dJ5_clear_11 ?_
  refine lv_astore_n (lv' := [(1, .ref (r0 1)), (0, .ref h0)]) hx hb dJ5_clear_14 rfl hl (Nat.le_of_ble_eq_true rfl) rfl (fun ls hl => ?_)
  refine lv_aload_n hx hb dJ5_clear_15 rfl (lv_at hl 1 rfl) ?_
  refine va_get (D := D) (ci := 13) (v := .int (i0 2)) (C := RJ5) (T := TJ5) (N := 3) hx hb hts in_J5 hown hK hP 0 rfl rfl 2 (by decide) (hts _ q301) (fun _ h9 => h9) rfl dJ5_clear_16 ?_
  refine lv_istore_n (lv' := [(2, .int (i0 2)), (1, .ref (r0 1)), (0, .ref h0)]) hx hb dJ5_clear_19 rfl hl (Nat.le_of_ble_eq_true rfl) rfl (fun ls hl => ?_)
  refine lv_aload_n hx hb dJ5_clear_20 rfl (lv_at hl 2 rfl) ?_
  refine lv_iconst (v := 0) hx hb dJ5_clear_21 (by decide) ?_
  refine lv_dup_x1 hx hb dJ5_clear_22 rfl rfl ?_
  refine va_put (D := D) (ci := 13) (v := .int 0) (ty := .int) (C := RJ5) (T := TJ5) (N := 3) hx hb hts in_J5 tyJ5 tyJ5_ok nmJ5 hown hK hP hD hS 0 rfl rfl 2 (by decide) (hts _ q301) (fun _ h9 => h9) rfl (by decide +kernel) rfl rfl (Nat.le_of_ble_eq_true rfl) dJ5_clear_23 (fun H locs hP hD hS => ?_)
  have hP : va_P D tkCl [(h0, .inr (13, oJ5 r0 (tu (tu i0 0 (i0 0 + 1)) 2 0)))] H := hP
  have hD : va_D A [(h0, .inr (13, oJ5 r0 (tu (tu i0 0 (i0 0 + 1)) 2 0)))] := hD
  refine lv_istore_n (lv' := [(3, .int 0), (2, .int (i0 2)), (1, .ref (r0 1)), (0, .ref h0)]) hx hb dJ5_clear_26 rfl hl (Nat.le_of_ble_eq_true rfl) rfl (fun ls hl => ?_)
  refine lv_iload_n hx hb dJ5_clear_27 rfl (lv_at hl 0 rfl) ?_
  refine lv_iload_n hx hb dJ5_clear_28 rfl (lv_at hl 1 rfl) ?_
  refine lv_icmp_ge (tgt := 42) hx hb dJ5_clear_29 (by decide) (fun _ => ?_) (fun c => absurd (by rw [hi2]; decide) c)
  exact W.vret hx hb hr (fun t ht hW => ⟨⟨(), rfl, trivial, tk_pst ht hP hD⟩, hS.F ht⟩) hS.2.2 dJ5_clear_42
set_option maxHeartbeats 4000000 in
theorem mJ5_clear_B (l : Launch) (D : va_G) (ar : Nat → ClassId) (ad : Nat → Nat → Nat) (xs : va_W) (sz : Nat) (h0 : Nat) (r0 : Nat → Nat) (i0 : Nat → Int32) (cap : Nat) (f : Nat → Option Nat) (hn0 : (i0 2).toNatClampNeg ≤ cap) (hcap : cap < 2 ^ 31) (hnn : ¬ i0 2 < 0) : Met l yJ5_clear (ws_ yJ5_clear cJ5_clear 4 none) ({ frames := 0, cells := 0, slots := 0, locals := 0 }) (va_Pc [.ref h0] (tk_Pre D ar ad [(h0, .inr (13, oJ5 r0 i0)), ((r0 1), tk_ra ar cap f)] [] xs sz)) (va_Qv (fun _ : Nat → Option Nat => True) (fun g t => tk_Post D (va_A [(h0, .inr (13, oJ5 r0 i0)), ((r0 1), tk_ra ar cap f)] sz) [(h0, .inr (13, oJ5 r0 (tu (tu i0 0 (i0 0 + 1)) 2 0))), ((r0 1), tk_ra ar cap g)] t) (va_A [(h0, .inr (13, oJ5 r0 i0)), ((r0 1), tk_ra ar cap f)] sz)) 0 0 (va_A [(h0, .inr (13, oJ5 r0 i0)), ((r0 1), tk_ra ar cap f)] sz) := by
  refine Met.ofW (cc := cJ5_clear) (maxL := 4) (ret := none) (by decide) rfl ?_
  intro p e s m args below meth c s₁ B hml hv
  obtain ⟨rfl, hsz, hP, hD0, hR, hX, hE⟩ := hv
  have hx := B.exec
  have hb := B.bytes
  have hr := B.returns
  have hts := atoms_spec (ws := (ws_ yJ5_clear cJ5_clear 4 none)) B.pre
  have hts : ∀ w ∈ lw_all, w.before _ s = true := fun w h => hts w (List.mem_cons_of_mem _ h)
  have hown : s.vm.findClass RJ5 = some m.cls := findClass_of_methodNamed B.named
  have hlocks := B.notSynchronized
  subst hsz
  have hD := hD0.self (sz := s.heap.size)
  generalize hAe : va_A [(h0, .inr (13, oJ5 r0 i0)), ((r0 1), tk_ra ar cap f)] s.heap.size = A at hD hR hX hE ⊢
  have hA : ∀ q : Nat, s.heap.size ≤ q → A q := fun q h => by rw [← hAe]; exact Or.inr h
  have hS : va_S A s.heap s.heap [] := va_S.rf
  have hK := hE.1
  have hl := lv_entry ([.ref h0]) (n := 4) (Nat.le_of_ble_eq_true rfl)
  rw [lg_entry_eq]
  generalize (lg_sl ([.ref h0]) ++ List.replicate (4 - (lg_sl ([.ref h0])).length) Slot.unset).toArray = ls at hl ⊢
  have hl : lv_has ls 4 [(0, .ref h0)] := hl
  refine lv_aload_n hx hb dJ5_clear_0 rfl (lv_at hl 0 rfl) ?_
  refine lv_dup hx hb dJ5_clear_1 rfl ?_
  refine va_get (D := D) (ci := 13) (v := .int (i0 0)) (C := RJ5) (T := TJ5) (N := 3) hx hb hts in_J5 hown hK hP 0 rfl rfl 0 (by decide) (hts _ q303) (fun x9 h9 => u_same (hts _ q304) x9 h9) rfl dJ5_clear_2 ?_
  refine lv_iconst (v := 1) hx hb dJ5_clear_5 (by decide) ?_
  refine lv_iadd hx hb dJ5_clear_6 ?_
  refine va_put (D := D) (ci := 13) (v := .int (i0 0 + 1)) (ty := .int) (C := RJ5) (T := TJ5) (N := 3) hx hb hts in_J5 tyJ5 tyJ5_ok nmJ5 hown hK hP hD hS 0 rfl rfl 0 (by decide) (hts _ q303) (fun x9 h9 => u_same (hts _ q304) x9 h9) rfl (by decide +kernel) rfl rfl (Nat.le_of_ble_eq_true rfl) dJ5_clear_7 (fun H locs hP hD hS => ?_)
  have hP : va_P D tkCl [(h0, .inr (13, oJ5 r0 (tu i0 0 (i0 0 + 1)))), ((r0 1), tk_ra ar cap f)] H := hP
  have hD : va_D A [(h0, .inr (13, oJ5 r0 (tu i0 0 (i0 0 + 1)))), ((r0 1), tk_ra ar cap f)] := hD
  refine lv_aload_n hx hb dJ5_clear_10 rfl (lv_at hl 0 rfl) ?_
  refine va_get (D := D) (ci := 13) (v := .ref (r0 1)) (C := RJ5) (T := TJ5) (N := 3) hx hb hts in_J5 hown hK hP 0 rfl rfl 1 (by decide) (hts _ q300) (fun _ h9 => h9) rfl dJ5_clear_11 ?_
  refine lv_astore_n (lv' := [(1, .ref (r0 1)), (0, .ref h0)]) hx hb dJ5_clear_14 rfl hl (Nat.le_of_ble_eq_true rfl) rfl (fun ls hl => ?_)
  refine lv_aload_n hx hb dJ5_clear_15 rfl (lv_at hl 1 rfl) ?_
  refine va_get (D := D) (ci := 13) (v := .int (i0 2)) (C := RJ5) (T := TJ5) (N := 3) hx hb hts in_J5 hown hK hP 0 rfl rfl 2 (by decide) (hts _ q301) (fun _ h9 => h9) rfl dJ5_clear_16 ?_
  refine lv_istore_n (lv' := [(2, .int (i0 2)), (1, .ref (r0 1)), (0, .ref h0)]) hx hb dJ5_clear_19 rfl hl (Nat.le_of_ble_eq_true rfl) rfl (fun ls hl => ?_)
  refine lv_aload_n hx hb dJ5_clear_20 rfl (lv_at hl 2 rfl) ?_
  refine lv_iconst (v := 0) hx hb dJ5_clear_21 (by decide) ?_
  refine lv_dup_x1 hx hb dJ5_clear_22 rfl rfl ?_
  refine va_put (D := D) (ci := 13) (v := .int 0) (ty := .int) (C := RJ5) (T := TJ5) (N := 3) hx hb hts in_J5 tyJ5 tyJ5_ok nmJ5 hown hK hP hD hS 0 rfl rfl 2 (by decide) (hts _ q301) (fun _ h9 => h9) rfl (by decide +kernel) rfl rfl (Nat.le_of_ble_eq_true rfl) dJ5_clear_23 (fun H locs hP hD hS => ?_)
  have hP : va_P D tkCl [(h0, .inr (13, oJ5 r0 (tu (tu i0 0 (i0 0 + 1)) 2 0))), ((r0 1), tk_ra ar cap f)] H := hP
  have hD : va_D A [(h0, .inr (13, oJ5 r0 (tu (tu i0 0 (i0 0 + 1)) 2 0))), ((r0 1), tk_ra ar cap f)] := hD
  refine lv_istore_n (lv' := [(3, .int 0), (2, .int (i0 2)), (1, .ref (r0 1)), (0, .ref h0)]) hx hb dJ5_clear_26 rfl hl (Nat.le_of_ble_eq_true rfl) rfl (fun ls hl => ?_)
  have key : ∀ (k : Nat) (i : Int32) (g : Nat → Option Nat) (H : Heap) (locs : List Loc) (ls : Array Slot), (i0 2).toInt - i.toInt ≤ k → 0 ≤ i.toInt → va_P D tkCl [(h0, .inr (13, oJ5 r0 (tu (tu i0 0 (i0 0 + 1)) 2 0))), ((r0 1), tk_ra ar cap g)] H → va_D A [(h0, .inr (13, oJ5 r0 (tu (tu i0 0 (i0 0 + 1)) 2 0))), ((r0 1), tk_ra ar cap g)] → va_S A s.heap H locs → lv_has ls 4 [(3, .int i), (2, .int (i0 2)), (1, .ref (r0 1)), (0, .ref h0)] → W p l e (headSpec (ws_ yJ5_clear cJ5_clear 4 none) ({ frames := 0, cells := 0, slots := 0, locals := 0 })).room s m ([.ref h0] : List Value).toArray below meth c H locs 0 0 (MQ below (va_Qv (fun _ : Nat → Option Nat => True) (fun g t => tk_Post D A [(h0, .inr (13, oJ5 r0 (tu (tu i0 0 (i0 0 + 1)) 2 0))), ((r0 1), tk_ra ar cap g)] t) A) ([.ref h0] : List Value).toArray s 0 0 A) (F0 m 27 ls []) := by
    intro k
    induction k with
    | zero =>
      intro i g H locs ls hk hi0 hP hD hS hl
      refine lv_iload_n hx hb dJ5_clear_27 rfl (lv_at hl 0 rfl) ?_
      refine lv_iload_n hx hb dJ5_clear_28 rfl (lv_at hl 1 rfl) ?_
      refine lv_icmp_ge (tgt := 42) hx hb dJ5_clear_29 (by decide) (fun _ => ?_) (fun c => absurd (Int32.le_iff_toInt_le.mpr (by omega)) c)
      exact W.vret hx hb hr (fun t ht hW => ⟨⟨g, rfl, trivial, tk_pst ht hP hD⟩, hS.F ht⟩) hS.2.2 dJ5_clear_42
    | succ k ih =>
      intro i g H locs ls hk hi0 hP hD hS hl
      refine lv_iload_n hx hb dJ5_clear_27 rfl (lv_at hl 0 rfl) ?_
      refine lv_iload_n hx hb dJ5_clear_28 rfl (lv_at hl 1 rfl) ?_
      refine lv_icmp_ge (tgt := 42) hx hb dJ5_clear_29 (by decide) (fun _ => ?_) (fun c => ?_)
      · exact W.vret hx hb hr (fun t ht hW => ⟨⟨g, rfl, trivial, tk_pst ht hP hD⟩, hS.F ht⟩) hS.2.2 dJ5_clear_42
      · have c9 : i.toInt < (i0 2).toInt := Int.not_le.mp (fun q => c (Int32.le_iff_toInt_le.mpr q))
        have hin : tk_in i cap := vp_in_iff.mpr ⟨hi0, by have : (i0 2).toNatClampNeg = (i0 2).toInt.toNat := rfl; omega⟩
        have h9 := (vp_in_iff.mp hin).2
        have es : (i + 1).toInt = i.toInt + 1 := by rw [Int32.toInt_add]; show Int.bmod (i.toInt + 1) _ = _; exact Int.bmod_eq_of_le (by omega) (by omega)
        refine lv_aload_n hx hb dJ5_clear_32 rfl (lv_at hl 2 rfl) ?_
        refine lv_iload_n hx hb dJ5_clear_33 rfl (lv_at hl 0 rfl) ?_
        refine lv_null hx hb dJ5_clear_34 ?_
        refine va_astqN hx hb hK hP hD hS 1 3 rfl rfl hin dJ5_clear_35 (fun H locs hP hD hS => ?_)
        have hP : va_P D tkCl [(h0, .inr (13, oJ5 r0 (tu (tu i0 0 (i0 0 + 1)) 2 0))), ((r0 1), tk_ra ar cap (va_up g i.toNatClampNeg none))] H := hP
        have hD : va_D A [(h0, .inr (13, oJ5 r0 (tu (tu i0 0 (i0 0 + 1)) 2 0))), ((r0 1), tk_ra ar cap (va_up g i.toNatClampNeg none))] := hD
        refine lv_iinc (v := i + 1) (lv' := [(3, .int (i + 1)), (2, .int (i0 2)), (1, .ref (r0 1)), (0, .ref h0)]) hx hb dJ5_clear_36 hl (k := 0) rfl (congrArg (fun z => i + z) (show Int32.ofInt 1 = 1 by decide)) (Nat.le_of_ble_eq_true rfl) rfl (fun ls hl => ?_)
        refine lv_goto (tgt := 27) hx hb dJ5_clear_39 (by decide) ?_
        exact ih (i + 1) _ H locs ls (by rw [es]; omega) (by rw [es]; omega) hP hD hS hl
  exact key _ 0 f _ _ ls (Int.self_le_toNat _) (by decide) hP hD hS hl
section TKCLR
variable {p : Program} {l : Launch} {e : Env} {R : Room} {s : State} {m : MethodId} {args : Array Value} {below : List Frame} {meth : Method} {c : Code} {H : Heap} {locs : List Loc} {cells slots : Nat} {Q : State → Prop}
variable {cc : ByteArray} {pc nL : Nat} {ls : Array Slot} {rest : List Value} {A : Nat → Prop} {D : va_G} {ar : Nat → ClassId} {ad : Nat → Nat → Nat} {ws rs xs : va_W}
/-- list.clear() -/
theorem tk_clearW {own : String} {index : Nat} (S9 : CallFix p m c cc nL s args lw_all own) (hlsz : ls.size = nL) (hlk : Cond.methodLink own index yJ5_clear ∈ lw_all) (hdg : decode cc pc = .ok (.invokevirtual index, 3)) {h0 : Nat} (hroom : 2 * (F0 m pc ls (.ref h0 :: rest)).monitorRoom + (rest.map fun v => v.category).sum ≤ 8) (hfr : 1 ≤ R.frames) (hlo : 23 ≤ R.locals) (hce : cells ≤ R.cells) (hsl : slots ≤ R.slots)
    (hP : va_P D tkCl ws H) (hD : va_D A ws) (hS : va_S A s.heap H locs) (hA : ∀ q, s.heap.size ≤ q → A q) (hE : tk_E D ar ad A s s.heap) (hR : tk_R D A rs s.heap) (hX : tk_R D A xs s.heap)
    {r0 : Nat → Nat} {i0 : Nat → Int32} {dy wu : va_W} {E : Nat → Nat → va_W → Prop} (hw : List.Perm ws (((h0, .inr (13, oJ5 r0 i0)) :: dy) ++ wu)) (hDL : tk_DL E ad ar r0 (i0 2) dy)
    (kk : ∀ (H1 : Heap) (locs1 : List Loc) (dy' : va_W), (∀ E' : Nat → Nat → va_W → Prop, tk_DL E' ad ar r0 0 dy') → va_P D tkCl (((h0, .inr (13, oJ5 r0 (tu (tu i0 0 (i0 0 + 1)) 2 0))) :: dy') ++ wu) H1 → va_D A (((h0, .inr (13, oJ5 r0 (tu (tu i0 0 (i0 0 + 1)) 2 0))) :: dy') ++ wu) → va_S A s.heap H1 locs1 → W p l e R s m args below meth c H1 locs1 cells slots Q (F0 m (pc + 3) ls rest)) :
    W p l e R s m args below meth c H locs cells slots Q (F0 m pc ls (.ref h0 :: rest)) := by
  obtain ⟨hx, hb, hml, hown, hts⟩ := id S9
  obtain ⟨f, ea, el, rfl, hLS, hall⟩ := hDL
  have hK := hE.1
  have cw : ∀ rm : Room, rm.cells = 0 → rm.slots = 0 → rm.frames = 0 → rm.locals = 0 → CallW R s args own "java/util/ArrayList" index yJ5_clear cJ5_clear 4 none (ws_ yJ5_clear cJ5_clear 4 none) rm 0 0 0 := fun rm h1 h2 h3 h4 =>
    cwV 0 hts (lw_V hlk q946 q947 q98 q948) rfl h1 h2 (by decide +kernel) ⟨by omega, by omega⟩
  rcases hLS with ⟨hn0, rfl, hr1, hf0⟩ | ⟨cap, rfl, hcap, hle, hneg⟩
  · have hw' : List.Perm ws ([(h0, Sum.inr (13, oJ5 r0 i0))] ++ (el ++ wu)) := by simpa using hw
    have fr := tk_frM hD hS hA hw'
    have hre : ∃ cell : Cell, H[h0]? = some cell ∧ cell.vm.isStatics = false ∧ s.vm.findClass "java/util/ArrayList" = some cell.cls := va_recv hK (tk_Pp hw' hP) (ci := 13) (q0 := 0) rfl rfl
    refine va_callv (va_runV (As := []) (rest := rest) S9 (mJ5_clear_A (l := l) (D := D) (ar := ar) (ad := ad) (xs := xs) (sz := H.size) (h0 := h0) (r0 := r0) (i0 := i0) (hi2 := hn0)) (cw _ rfl rfl rfl rfl) ⟨tk_blind, hre, fun U hU hW => ⟨rfl, tk_mkM hP hD hS hA hE hR hX hw' (fun q hq => absurd hq List.not_mem_nil) (fun q hq => Or.inr (Or.inr hq)) U hU hW⟩⟩ rfl rfl hlsz rfl hroom hdg ⟨hce, hsl⟩) hS (fun q _ h => fr q h) fr (fun zu zt H1 zl zht zvm zw zB zz zk zS => ?_)
    obtain ⟨hP2, hD2⟩ := tk_joinM hP hD hw' zk fr (zht ▸ zB.1) zB.2
    exact kk H1 _ ([] ++ el) (fun E' => ⟨fun _ => none, [], el, rfl, Or.inl ⟨rfl, rfl, hr1, rfl⟩, fun k hk => absurd hk (Nat.not_lt_zero k)⟩) (by simpa using hP2) (by simpa using hD2) zS
  · have hw' : List.Perm ws ([(h0, Sum.inr (13, oJ5 r0 i0)), (r0 1, tk_ra ar cap f)] ++ (el ++ wu)) := by simpa using hw
    have fr := tk_frM hD hS hA hw'
    have hre : ∃ cell : Cell, H[h0]? = some cell ∧ cell.vm.isStatics = false ∧ s.vm.findClass "java/util/ArrayList" = some cell.cls := va_recv hK (tk_Pp hw' hP) (ci := 13) (q0 := 0) rfl rfl
    refine va_callv (va_runV (As := []) (rest := rest) S9 (mJ5_clear_B (l := l) (D := D) (ar := ar) (ad := ad) (xs := xs) (sz := H.size) (h0 := h0) (r0 := r0) (i0 := i0) (cap := cap) (f := f) (hn0 := hle) (hcap := by rcases hcap with h | h <;> omega) (hnn := hneg)) (cw _ rfl rfl rfl rfl) ⟨tk_blind, hre, fun U hU hW => ⟨rfl, tk_mkM hP hD hS hA hE hR hX hw' (fun q hq => absurd hq List.not_mem_nil) (fun q hq => Or.inr (Or.inr hq)) U hU hW⟩⟩ rfl rfl hlsz rfl hroom hdg ⟨hce, hsl⟩) hS (fun q _ h => fr q h) fr (fun zu zt H1 zl zht zvm zw zB zz zk zS => ?_)
    obtain ⟨hP2, hD2⟩ := tk_joinM hP hD hw' zk fr (zht ▸ zB.1) zB.2
    exact kk H1 _ ([(r0 1, tk_ra ar cap zu)] ++ el) (fun E' => ⟨zu, [(r0 1, tk_ra ar cap zu)], el, rfl, Or.inr ⟨cap, rfl, hcap, Nat.zero_le _, by decide⟩, fun k hk => absurd hk (Nat.not_lt_zero k)⟩) (by simpa using hP2) (by simpa using hD2) zS
end TKCLR
