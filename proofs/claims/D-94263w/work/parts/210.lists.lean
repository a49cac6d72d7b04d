set_option maxRecDepth 100000
/-- a list's array: none yet, or one of its own -/
def tk_LS (ad : Nat → Nat → Nat) (ar : Nat → ClassId) (r : Nat → Nat) (n : Int32) (ea : va_W) (f : Nat → Option Nat) : Prop := (n = 0 ∧ ea = [] ∧ r 1 = ad 3 0 ∧ f = fun _ => none) ∨ ∃ cap : Nat, ea = [(r 1, tk_ra ar cap f)] ∧ (cap = 10 ∨ cap = 15) ∧ n.toNatClampNeg ≤ cap ∧ ¬ n < 0
theorem tk_asg {C E : String} {s : State} {args : Array Value} (h : (Cond.castable C E).before args s = true) : ∀ comp c0 : ClassId, s.vm.findClass E = some comp → s.vm.findClass C = some c0 → s.vm.assignable c0 comp = true := by
  obtain ⟨a, b, h1, h2, h3⟩ := Cond.castable_spec h
  intro comp c0 e1 e2
  cases h1.symm.trans e2
  cases h2.symm.trans e1
  exact h3
theorem tk_in_s0 {x : Int32} {n : Nat} (h : tk_in x n) (hn : n < 2 ^ 31) : ¬ x + 1 < 0 := by
  obtain ⟨h1, h2⟩ := vp_in_iff.mp h
  have e : (x + 1).toInt = x.toInt + 1 := by rw [Int32.toInt_add]; show Int.bmod (x.toInt + 1) _ = _; exact Int.bmod_eq_of_le (by omega) (by omega)
  rw [Int32.lt_iff_toInt_lt, e]
  show ¬ (x.toInt + 1 < (0 : Int32).toInt)
  have : (0 : Int32).toInt = 0 := rfl
  omega
theorem tk_in_s1 {x : Int32} {n : Nat} (h : tk_in x n) (hn : n < 2 ^ 31) : (x + 1).toNatClampNeg ≤ n := by
  obtain ⟨h1, h2⟩ := vp_in_iff.mp h
  have e : (x + 1).toInt = x.toInt + 1 := by rw [Int32.toInt_add]; show Int.bmod (x.toInt + 1) _ = _; exact Int.bmod_eq_of_le (by omega) (by omega)
  show (x + 1).toInt.toNat ≤ n
  omega
theorem tk_in_ne {x : Int32} {n : Nat} (h : tk_in x n) (hn : n < 2 ^ 31) : ¬ x = Int32.ofNat n := by
  intro e
  have h2 := (tk_in_lt h hn).2
  rw [e] at h2
  exact absurd h2 (by rw [Int32.lt_iff_toInt_lt]; omega)

set_option maxHeartbeats 4000000 in
theorem mJ5_grow_2_A (l : Launch) (D : va_G) (ar : Nat → ClassId) (ad : Nat → Nat → Nat) (xs : va_W) (sz : Nat) (h0 : Nat) (r0 : Nat → Nat) (i0 : Nat → Int32) (hr1 : r0 1 = ad 3 0) : Met l yJ5_grow_2 (ws_ yJ5_grow_2 cJ5_grow_2 4 (some (.array (.object "java/lang/Object")))) ({ frames := 3, cells := 1, slots := 15, locals := 120 }) (va_Pc [.ref h0, .int 1] (tk_Pre D ar ad [(h0, .inr (13, oJ5 r0 i0))] [] xs sz)) (va_Qr (fun _ : Nat => True) (fun z ra t => ra = z ∧ tk_Post D (va_A [(h0, .inr (13, oJ5 r0 i0))] sz) [(h0, .inr (13, oJ5 (tur r0 1 z) i0)), (z, tk_ra ar 10 (fun _ => none))] t) (va_A [(h0, .inr (13, oJ5 r0 i0))] sz)) 1 15 (va_A [(h0, .inr (13, oJ5 r0 i0))] sz) := by
  refine Met.ofW (cc := cJ5_grow_2) (maxL := 4) (ret := (some (.array (.object "java/lang/Object")))) (by decide) rfl ?_
  intro p e s m args below meth c s₁ B hml hv
  obtain ⟨rfl, hsz, hP, hD0, hR, hX, hE⟩ := hv
  have hx := B.exec
  have hb := B.bytes
  have hr := B.returns
  have hts := atoms_spec (ws := (ws_ yJ5_grow_2 cJ5_grow_2 4 (some (.array (.object "java/lang/Object"))))) B.pre
  have hts : ∀ w ∈ lw_all, w.before _ s = true := fun w h => hts w (List.mem_cons_of_mem _ h)
  have hown : s.vm.findClass RJ5 = some m.cls := findClass_of_methodNamed B.named
  have hlocks := B.notSynchronized
  subst hsz
  have hD := hD0.self (sz := s.heap.size)
  generalize hAe : va_A [(h0, .inr (13, oJ5 r0 i0))] s.heap.size = A at hD hR hX hE ⊢
  have hA : ∀ q : Nat, s.heap.size ≤ q → A q := fun q h => by rw [← hAe]; exact Or.inr h
  have hS : va_S A s.heap s.heap [] := va_S.rf
  have hK := hE.1
  have hl := lv_entry ([.ref h0, .int 1]) (n := 4) (Nat.le_of_ble_eq_true rfl)
  rw [lg_entry_eq]
  generalize (lg_sl ([.ref h0, .int 1]) ++ List.replicate (4 - (lg_sl ([.ref h0, .int 1])).length) Slot.unset).toArray = ls at hl ⊢
  have hl : lv_has ls 4 [(0, .ref h0), (1, .int 1)] := hl
  refine lv_aload_n hx hb dJ5_grow_2_0 rfl (lv_at hl 0 rfl) ?_
  refine va_get (D := D) (ci := 13) (v := .ref (r0 1)) (C := RJ5) (T := TJ5) (N := 3) hx hb hts in_J5 hown hK hP 0 rfl rfl 1 (by decide) (hts _ q300) (fun _ h9 => h9) rfl dJ5_grow_2_1 ?_
  refine W.eq (g2 := F0 m 4 ls [.ref (ad 3 0)]) (by rw [hr1]) ?_
  refine va_tlen (v := 0) hx hb hE.2.2.2.2.2.2.2.2.1 hS rfl dJ5_grow_2_4 ?_
  refine lv_istore_n (lv' := [(2, .int 0), (0, .ref h0), (1, .int 1)]) hx hb dJ5_grow_2_5 rfl hl (Nat.le_of_ble_eq_true rfl) rfl (fun ls hl => ?_)
  refine lv_iload_n hx hb dJ5_grow_2_6 rfl (lv_at hl 0 rfl) ?_
  refine lv_if_gt (tgt := 20) hx hb dJ5_grow_2_7 (by decide) (fun c => absurd c (by decide)) (fun _ => ?_)
  refine lv_aload_n hx hb dJ5_grow_2_10 rfl (lv_at hl 1 rfl) ?_
  refine va_get (D := D) (ci := 13) (v := .ref (r0 1)) (C := RJ5) (T := TJ5) (N := 3) hx hb hts in_J5 hown hK hP 0 rfl rfl 1 (by decide) (hts _ q300) (fun _ h9 => h9) rfl dJ5_grow_2_11 ?_
  refine W.eq (g2 := F0 m 14 ls [.ref (ad 3 0)]) (by rw [hr1]) ?_
  refine va_gets (n := "DEFAULTCAPACITY_EMPTY_ELEMENTDATA") hx hb hE.2.2.2.2.2.2.2.1 hS hown (hts _ q298) (fun _ h9 => h9) dJ5_grow_2_14 ?_
  refine W.eq (g2 := F0 m 17 ls [va_rf (some (ad 3 0)), va_rf (some (ad 3 0))]) rfl ?_
  refine lv_acmp_eq (tgt := 45) hx hb dJ5_grow_2_17 (by decide) (fun _ => ?_) (fun c => absurd rfl c)
  refine lv_aload_n hx hb dJ5_grow_2_45 rfl (lv_at hl 1 rfl) ?_
  refine lv_bipush (v := 10) hx hb dJ5_grow_2_46 (by decide) ?_
  refine lv_iload_n hx hb dJ5_grow_2_48 rfl (lv_at hl 2 rfl) ?_
  refine va_mmax hx hb (hml.trans hl.1.symm) hown (hts _ q886) (hts _ q846) (hts _ q111) (hts _ q847) (Nat.le_of_ble_eq_true rfl) (Nat.le_of_ble_eq_true rfl) (Nat.le_of_ble_eq_true rfl) (Nat.le_of_ble_eq_true rfl) dJ5_grow_2_49 ?_
  refine W.eq (g2 := F0 m 52 ls [.int 10, .ref h0]) (by rw [if_neg (by decide)]) ?_
  refine va_newq (n := 10) (N' := 10) hx hb hown (hts _ q887) hE.2.2.2.2.2.2.2.2.2.2.2.2.2.1.1 hK hP hD hS hA (by decide) (by decide) (by decide) (Nat.le_of_ble_eq_true rfl) (Nat.le_of_ble_eq_true rfl) dJ5_grow_2_52 (fun n52 cA H hK9 hP hD hS => ?_)
  obtain rfl : cA = ar 3 := tk_cAO hK9
  clear hK9
  refine lv_dup_x1 hx hb dJ5_grow_2_55 rfl rfl ?_
  refine va_put (D := D) (ci := 13) (v := .ref n52) (ty := (.array (.object "java/lang/Object"))) (C := RJ5) (T := TJ5) (N := 3) hx hb hts in_J5 tyJ5 tyJ5_ok nmJ5 hown hK hP hD hS 0 rfl rfl 1 (by decide) (hts _ q300) (fun _ h9 => h9) rfl (by decide +kernel) rfl rfl (Nat.le_of_ble_eq_true rfl) dJ5_grow_2_56 (fun H locs hP hD hS => ?_)
  have hP : va_P D tkCl [(h0, .inr (13, oJ5 (tur r0 1 n52) i0)), (n52, tk_ra ar 10 (fun _ => none))] H := hP
  have hD : va_D A [(h0, .inr (13, oJ5 (tur r0 1 n52) i0)), (n52, tk_ra ar 10 (fun _ => none))] := hD
  refine W.widen (k := 1) (n := 15) (Nat.le_of_ble_eq_true rfl) (Nat.le_of_ble_eq_true rfl) ?_
  exact W.aret (v := .ref n52) hx hb hr (Or.inr ⟨_, rfl⟩) (Or.inr ⟨_, rfl⟩) (fun t ht hW => ⟨⟨n52, _, rfl, trivial, rfl, tk_pst ht hP hD⟩, hS.F ht⟩) hS.2.2 dJ5_grow_2_59
set_option maxHeartbeats 4000000 in
theorem mJ5_grow_A (l : Launch) (D : va_G) (ar : Nat → ClassId) (ad : Nat → Nat → Nat) (xs : va_W) (sz : Nat) (h0 : Nat) (r0 : Nat → Nat) (i0 : Nat → Int32) (hr1 : r0 1 = ad 3 0) (hi2 : i0 2 = 0) : Met l yJ5_grow (ws_ yJ5_grow cJ5_grow 1 (some (.array (.object "java/lang/Object")))) ({ frames := 4, cells := 1, slots := 15, locals := 160 }) (va_Pc [.ref h0] (tk_Pre D ar ad [(h0, .inr (13, oJ5 r0 i0))] [] xs sz)) (va_Qr (fun _ : Nat => True) (fun z ra t => ra = z ∧ tk_Post D (va_A [(h0, .inr (13, oJ5 r0 i0))] sz) [(h0, .inr (13, oJ5 (tur r0 1 z) i0)), (z, tk_ra ar 10 (fun _ => none))] t) (va_A [(h0, .inr (13, oJ5 r0 i0))] sz)) 1 15 (va_A [(h0, .inr (13, oJ5 r0 i0))] sz) := by
  refine Met.ofW (cc := cJ5_grow) (maxL := 1) (ret := (some (.array (.object "java/lang/Object")))) (by decide) rfl ?_
  intro p e s m args below meth c s₁ B hml hv
  obtain ⟨rfl, hsz, hP, hD0, hR, hX, hE⟩ := hv
  have hx := B.exec
  have hb := B.bytes
  have hr := B.returns
  have hts := atoms_spec (ws := (ws_ yJ5_grow cJ5_grow 1 (some (.array (.object "java/lang/Object"))))) B.pre
  have hts : ∀ w ∈ lw_all, w.before _ s = true := fun w h => hts w (List.mem_cons_of_mem _ h)
  have hown : s.vm.findClass RJ5 = some m.cls := findClass_of_methodNamed B.named
  have hlocks := B.notSynchronized
  subst hsz
  have hD := hD0.self (sz := s.heap.size)
  generalize hAe : va_A [(h0, .inr (13, oJ5 r0 i0))] s.heap.size = A at hD hR hX hE ⊢
  have hA : ∀ q : Nat, s.heap.size ≤ q → A q := fun q h => by rw [← hAe]; exact Or.inr h
  have hS : va_S A s.heap s.heap [] := va_S.rf
  have hK := hE.1
  have hl := lv_entry ([.ref h0]) (n := 1) (Nat.le_of_ble_eq_true rfl)
  rw [lg_entry_eq]
  generalize (lg_sl ([.ref h0]) ++ List.replicate (1 - (lg_sl ([.ref h0])).length) Slot.unset).toArray = ls at hl ⊢
  have hl : lv_has ls 1 [(0, .ref h0)] := hl
  refine lv_aload_n hx hb dJ5_grow_0 rfl (lv_at hl 0 rfl) ?_
  refine lv_aload_n hx hb dJ5_grow_1 rfl (lv_at hl 0 rfl) ?_
  refine va_get (D := D) (ci := 13) (v := .int (i0 2)) (C := RJ5) (T := TJ5) (N := 3) hx hb hts in_J5 hown hK hP 0 rfl rfl 2 (by decide) (hts _ q301) (fun _ h9 => h9) rfl dJ5_grow_2 ?_
  refine lv_iconst (v := 1) hx hb dJ5_grow_5 (by decide) ?_
  refine lv_iadd hx hb dJ5_grow_6 ?_
  refine W.eq (g2 := F0 m 7 ls [.int 1, .ref h0]) (by rw [hi2]; rfl) ?_
  refine va_callr (va_runV (As := [.int 1]) (rest := []) ⟨hx, hb, hml, hown, hts⟩ (mJ5_grow_2_A (l := l) (D := D) (ar := ar) (ad := ad) (xs := xs) (sz := s.heap.size) (h0 := h0) (r0 := r0) (i0 := i0) (hr1 := hr1)) (cwV 1 hts (lw_V q838 q840 qs10 q98 q841) rfl rfl rfl (by decide +kernel) ⟨(Nat.le_of_ble_eq_true rfl), (Nat.le_of_ble_eq_true rfl)⟩) ⟨tk_blind, va_recv hK hP (ci := 13) (q0 := 0) rfl rfl, fun U hU hW => ⟨rfl, tk_mk hP hD hS hA hE hR hX [0] [] rfl rfl rfl rfl U hU hW⟩⟩ rfl rfl hl.1 rfl (lv_room (Nat.le_of_ble_eq_true rfl)) dJ5_grow_7 ⟨(Nat.le_of_ble_eq_true rfl), (Nat.le_of_ble_eq_true rfl)⟩) hS (fun q _ h => (va_free hD hS hA [0] rfl) q h) (va_free hD hS hA [0] rfl) (fun zu zr zt H1 zl zht zvm zw zB zz zk zS => ?_)
  obtain ⟨zr9, zB⟩ := zB
  have zr9 := Eq.symm zr9
  subst zr9
  obtain ⟨hP, hD⟩ := tk_join hP hD zk [0] rfl rfl (va_free hD hS hA [0] rfl) (zht ▸ zB.1) zB.2 (Nat.le_of_ble_eq_true rfl)
  have hS := zS
  generalize H1 = H at hP hS ⊢
  exact W.aret (v := .ref zu) hx hb hr (Or.inr ⟨_, rfl⟩) (Or.inr ⟨_, rfl⟩) (fun t ht hW => ⟨⟨zu, _, rfl, trivial, rfl, tk_pst ht hP hD⟩, hS.F ht⟩) hS.2.2 dJ5_grow_10
set_option maxHeartbeats 4000000 in
theorem mJ5_add_2_A (l : Launch) (D : va_G) (ar : Nat → ClassId) (ad : Nat → Nat → Nat) (xs : va_W) (sz : Nat) (h0 : Nat) (r0 : Nat → Nat) (i0 : Nat → Int32) (v ci : Nat) (vfs : List Value) (C9 : String) (T9 : u_T) (N9 : Nat)  (hc9 : tkCl[ci]? = some (C9, T9, N9)) (hca : Cond.castable C9 "java/lang/Object" ∈ lw_tbl) (hr1 : r0 1 = ad 3 0) (hi2 : i0 2 = 0) : Met l yJ5_add_2 (ws_ yJ5_add_2 cJ5_add_2 4 none) ({ frames := 5, cells := 1, slots := 15, locals := 200 }) (va_Pc [.ref h0, .ref v, .ref (ad 3 0), .int 0] (tk_Pre D ar ad [(h0, .inr (13, oJ5 r0 i0))] [(v, .inr (ci, vfs))] xs sz)) (va_Qv (fun _ : Nat => True) (fun z t => tk_Post D (va_A [(h0, .inr (13, oJ5 r0 i0))] sz) [(h0, .inr (13, oJ5 (tur r0 1 z) (tu i0 2 1))), (z, tk_ra ar 10 (va_up (fun _ => none) (0 : Int32).toNatClampNeg (some v)))] t) (va_A [(h0, .inr (13, oJ5 r0 i0))] sz)) 1 15 (va_A [(h0, .inr (13, oJ5 r0 i0))] sz) := by
  refine Met.ofW (cc := cJ5_add_2) (maxL := 4) (ret := none) (by decide) rfl ?_
  intro p e s m args below meth c s₁ B hml hv
  obtain ⟨rfl, hsz, hP, hD0, hR, hX, hE⟩ := hv
  have hx := B.exec
  have hb := B.bytes
  have hr := B.returns
  have hts := atoms_spec (ws := (ws_ yJ5_add_2 cJ5_add_2 4 none)) B.pre
  have hts : ∀ w ∈ lw_all, w.before _ s = true := fun w h => hts w (List.mem_cons_of_mem _ h)
  have hown : s.vm.findClass RJ5 = some m.cls := findClass_of_methodNamed B.named
  have hlocks := B.notSynchronized
  subst hsz
  have hD := hD0.self (sz := s.heap.size)
  generalize hAe : va_A [(h0, .inr (13, oJ5 r0 i0))] s.heap.size = A at hD hR hX hE ⊢
  have hA : ∀ q : Nat, s.heap.size ≤ q → A q := fun q h => by rw [← hAe]; exact Or.inr h
  have hS : va_S A s.heap s.heap [] := va_S.rf
  have hK := hE.1
  have hl := lv_entry ([.ref h0, .ref v, .ref (ad 3 0), .int 0]) (n := 4) (Nat.le_of_ble_eq_true rfl)
  rw [lg_entry_eq]
  generalize (lg_sl ([.ref h0, .ref v, .ref (ad 3 0), .int 0]) ++ List.replicate (4 - (lg_sl ([.ref h0, .ref v, .ref (ad 3 0), .int 0])).length) Slot.unset).toArray = ls at hl ⊢
  have hl : lv_has ls 4 [(0, .ref h0), (1, .ref v), (2, .ref (ad 3 0)), (3, .int 0)] := hl
  refine lv_iload_n hx hb dJ5_add_2_0 rfl (lv_at hl 3 rfl) ?_
  refine lv_aload_n hx hb dJ5_add_2_1 rfl (lv_at hl 2 rfl) ?_
  refine va_tlen (v := 0) hx hb hE.2.2.2.2.2.2.2.2.1 hS rfl dJ5_add_2_2 ?_
  refine lv_icmp_ne (tgt := 11) hx hb dJ5_add_2_3 (by decide) (fun c => absurd rfl c) (fun _ => ?_)
  refine lv_aload_n hx hb dJ5_add_2_6 rfl (lv_at hl 0 rfl) ?_
  refine va_callr (va_runV (As := []) (rest := []) ⟨hx, hb, hml, hown, hts⟩ (mJ5_grow_A (l := l) (D := D) (ar := ar) (ad := ad) (xs := xs) (sz := s.heap.size) (h0 := h0) (r0 := r0) (i0 := i0) (hr1 := hr1) (hi2 := hi2)) (cwV 0 hts (lw_V q834 q836 qs9 q98 q837) rfl rfl rfl (by decide +kernel) ⟨(Nat.le_of_ble_eq_true rfl), (Nat.le_of_ble_eq_true rfl)⟩) ⟨tk_blind, va_recv hK hP (ci := 13) (q0 := 0) rfl rfl, fun U hU hW => ⟨rfl, tk_mk hP hD hS hA hE hR hX [0] [] rfl rfl rfl rfl U hU hW⟩⟩ rfl rfl hl.1 rfl (lv_room (Nat.le_of_ble_eq_true rfl)) dJ5_add_2_7 ⟨(Nat.le_of_ble_eq_true rfl), (Nat.le_of_ble_eq_true rfl)⟩) hS (fun q _ h => (va_free hD hS hA [0] rfl) q h) (va_free hD hS hA [0] rfl) (fun zu zr zt H1 zl zht zvm zw zB zz zk zS => ?_)
  obtain ⟨zr9, zB⟩ := zB
  have zr9 := Eq.symm zr9
  subst zr9
  obtain ⟨hP, hD⟩ := tk_join hP hD zk [0] rfl rfl (va_free hD hS hA [0] rfl) (zht ▸ zB.1) zB.2 (Nat.le_of_ble_eq_true rfl)
  have hS := zS
  generalize H1 = H at hP hS ⊢
  obtain ⟨n7, rfl⟩ : ∃ z, z = zu := ⟨_, rfl⟩
  have hP : va_P D tkCl [(h0, .inr (13, oJ5 (tur r0 1 n7) i0)), (n7, tk_ra ar 10 (fun _ => none))] H := hP
  have hD : va_D A [(h0, .inr (13, oJ5 (tur r0 1 n7) i0)), (n7, tk_ra ar 10 (fun _ => none))] := hD
  refine lv_astore_n (lv' := [(2, .ref n7), (0, .ref h0), (1, .ref v), (3, .int 0)]) hx hb dJ5_add_2_10 rfl hl (Nat.le_of_ble_eq_true rfl) rfl (fun ls hl => ?_)
  refine lv_aload_n hx hb dJ5_add_2_11 rfl (lv_at hl 0 rfl) ?_
  refine lv_iload_n hx hb dJ5_add_2_12 rfl (lv_at hl 3 rfl) ?_
  refine lv_aload_n hx hb dJ5_add_2_13 rfl (lv_at hl 2 rfl) ?_
  refine va_astqM hx hb hK hP hD hS 1 3 (E := "java/lang/Object") rfl rfl (va_rAny hK (hR.at hS) (q0 := 0) rfl hc9 (tk_asg (args := #[]) (hE.2.1.use hca rfl rfl))) (show tk_in 0 10 by decide) dJ5_add_2_14 (fun H locs hP hD hS => ?_)
  have hP : va_P D tkCl [(h0, .inr (13, oJ5 (tur r0 1 n7) i0)), (n7, tk_ra ar 10 (va_up (fun _ => none) (0 : Int32).toNatClampNeg (some v)))] H := hP
  have hD : va_D A [(h0, .inr (13, oJ5 (tur r0 1 n7) i0)), (n7, tk_ra ar 10 (va_up (fun _ => none) (0 : Int32).toNatClampNeg (some v)))] := hD
  refine lv_aload_n hx hb dJ5_add_2_15 rfl (lv_at hl 1 rfl) ?_
  refine lv_iload_n hx hb dJ5_add_2_16 rfl (lv_at hl 3 rfl) ?_
  refine lv_iconst (v := 1) hx hb dJ5_add_2_17 (by decide) ?_
  refine lv_iadd hx hb dJ5_add_2_18 ?_
  refine W.eq (g2 := F0 m 19 ls [.int 1, .ref h0]) (by rfl) ?_
  refine va_put (D := D) (ci := 13) (v := .int 1) (ty := .int) (C := RJ5) (T := TJ5) (N := 3) hx hb hts in_J5 tyJ5 tyJ5_ok nmJ5 hown hK hP hD hS 0 rfl rfl 2 (by decide) (hts _ q301) (fun _ h9 => h9) rfl (by decide +kernel) rfl rfl (Nat.le_of_ble_eq_true rfl) dJ5_add_2_19 (fun H locs hP hD hS => ?_)
  have hP : va_P D tkCl [(h0, .inr (13, oJ5 (tur r0 1 n7) (tu i0 2 1))), (n7, tk_ra ar 10 (va_up (fun _ => none) (0 : Int32).toNatClampNeg (some v)))] H := hP
  have hD : va_D A [(h0, .inr (13, oJ5 (tur r0 1 n7) (tu i0 2 1))), (n7, tk_ra ar 10 (va_up (fun _ => none) (0 : Int32).toNatClampNeg (some v)))] := hD
  refine W.widen (k := 1) (n := 15) (Nat.le_of_ble_eq_true rfl) (Nat.le_of_ble_eq_true rfl) ?_
  exact W.vret hx hb hr (fun t ht hW => ⟨⟨n7, rfl, trivial, tk_pst ht hP hD⟩, hS.F ht⟩) hS.2.2 dJ5_add_2_22
set_option maxHeartbeats 4000000 in
theorem mJ5_add_2_B (l : Launch) (D : va_G) (ar : Nat → ClassId) (ad : Nat → Nat → Nat) (xs : va_W) (sz : Nat) (h0 : Nat) (r0 : Nat → Nat) (i0 : Nat → Int32) (cap : Nat) (f : Nat → Option Nat) (p2 : Int32) (v ci : Nat) (vfs : List Value) (C9 : String) (T9 : u_T) (N9 : Nat)  (hc9 : tkCl[ci]? = some (C9, T9, N9)) (hca : Cond.castable C9 "java/lang/Object" ∈ lw_tbl) (hin9 : tk_in p2 cap) (hcap : cap < 2 ^ 31) : Met l yJ5_add_2 (ws_ yJ5_add_2 cJ5_add_2 4 none) ({ frames := 5, cells := 1, slots := 15, locals := 200 }) (va_Pc [.ref h0, .ref v, .ref (r0 1), .int p2] (tk_Pre D ar ad [(h0, .inr (13, oJ5 r0 i0)), ((r0 1), tk_ra ar cap f)] [(v, .inr (ci, vfs))] xs sz)) (va_Qv (fun _ : Unit => True) (fun z t => tk_Post D (va_A [(h0, .inr (13, oJ5 r0 i0)), ((r0 1), tk_ra ar cap f)] sz) [(h0, .inr (13, oJ5 r0 (tu i0 2 (p2 + 1)))), ((r0 1), tk_ra ar cap (va_up f p2.toNatClampNeg (some v)))] t) (va_A [(h0, .inr (13, oJ5 r0 i0)), ((r0 1), tk_ra ar cap f)] sz)) 1 15 (va_A [(h0, .inr (13, oJ5 r0 i0)), ((r0 1), tk_ra ar cap f)] sz) := by
  refine Met.ofW (cc := cJ5_add_2) (maxL := 4) (ret := none) (by decide) rfl ?_
  intro p e s m args below meth c s₁ B hml hv
  obtain ⟨rfl, hsz, hP, hD0, hR, hX, hE⟩ := hv
  have hx := B.exec
  have hb := B.bytes
  have hr := B.returns
  have hts := atoms_spec (ws := (ws_ yJ5_add_2 cJ5_add_2 4 none)) B.pre
  have hts : ∀ w ∈ lw_all, w.before _ s = true := fun w h => hts w (List.mem_cons_of_mem _ h)
  have hown : s.vm.findClass RJ5 = some m.cls := findClass_of_methodNamed B.named
  have hlocks := B.notSynchronized
  subst hsz
  have hD := hD0.self (sz := s.heap.size)
  generalize hAe : va_A [(h0, .inr (13, oJ5 r0 i0)), ((r0 1), tk_ra ar cap f)] s.heap.size = A at hD hR hX hE ⊢
  have hA : ∀ q : Nat, s.heap.size ≤ q → A q := fun q h => by rw [← hAe]; exact Or.inr h
  have hS : va_S A s.heap s.heap [] := va_S.rf
  have hK := hE.1
  have hl := lv_entry ([.ref h0, .ref v, .ref (r0 1), .int p2]) (n := 4) (Nat.le_of_ble_eq_true rfl)
  rw [lg_entry_eq]
  generalize (lg_sl ([.ref h0, .ref v, .ref (r0 1), .int p2]) ++ List.replicate (4 - (lg_sl ([.ref h0, .ref v, .ref (r0 1), .int p2])).length) Slot.unset).toArray = ls at hl ⊢
  have hl : lv_has ls 4 [(0, .ref h0), (1, .ref v), (2, .ref (r0 1)), (3, .int p2)] := hl
  refine lv_iload_n hx hb dJ5_add_2_0 rfl (lv_at hl 3 rfl) ?_
  refine lv_aload_n hx hb dJ5_add_2_1 rfl (lv_at hl 2 rfl) ?_
  refine va_alen (v := Int32.ofNat cap) hx hb hK hP 1 3 rfl rfl rfl dJ5_add_2_2 ?_
  refine lv_icmp_ne (tgt := 11) hx hb dJ5_add_2_3 (by decide) (fun _ => ?_) (fun c => absurd c (tk_in_ne hin9 hcap))
  refine lv_aload_n hx hb dJ5_add_2_11 rfl (lv_at hl 2 rfl) ?_
  refine lv_iload_n hx hb dJ5_add_2_12 rfl (lv_at hl 3 rfl) ?_
  refine lv_aload_n hx hb dJ5_add_2_13 rfl (lv_at hl 1 rfl) ?_
  refine va_astqM hx hb hK hP hD hS 1 3 (E := "java/lang/Object") rfl rfl (va_rAny hK (hR.at hS) (q0 := 0) rfl hc9 (tk_asg (args := #[]) (hE.2.1.use hca rfl rfl))) hin9 dJ5_add_2_14 (fun H locs hP hD hS => ?_)
  have hP : va_P D tkCl [(h0, .inr (13, oJ5 r0 i0)), ((r0 1), tk_ra ar cap (va_up f p2.toNatClampNeg (some v)))] H := hP
  have hD : va_D A [(h0, .inr (13, oJ5 r0 i0)), ((r0 1), tk_ra ar cap (va_up f p2.toNatClampNeg (some v)))] := hD
  refine lv_aload_n hx hb dJ5_add_2_15 rfl (lv_at hl 0 rfl) ?_
  refine lv_iload_n hx hb dJ5_add_2_16 rfl (lv_at hl 3 rfl) ?_
  refine lv_iconst (v := 1) hx hb dJ5_add_2_17 (by decide) ?_
  refine lv_iadd hx hb dJ5_add_2_18 ?_
  refine va_put (D := D) (ci := 13) (v := .int (p2 + 1)) (ty := .int) (C := RJ5) (T := TJ5) (N := 3) hx hb hts in_J5 tyJ5 tyJ5_ok nmJ5 hown hK hP hD hS 0 rfl rfl 2 (by decide) (hts _ q301) (fun _ h9 => h9) rfl (by decide +kernel) rfl rfl (Nat.le_of_ble_eq_true rfl) dJ5_add_2_19 (fun H locs hP hD hS => ?_)
  have hP : va_P D tkCl [(h0, .inr (13, oJ5 r0 (tu i0 2 (p2 + 1)))), ((r0 1), tk_ra ar cap (va_up f p2.toNatClampNeg (some v)))] H := hP
  have hD : va_D A [(h0, .inr (13, oJ5 r0 (tu i0 2 (p2 + 1)))), ((r0 1), tk_ra ar cap (va_up f p2.toNatClampNeg (some v)))] := hD
  refine W.widen (k := 1) (n := 15) (Nat.le_of_ble_eq_true rfl) (Nat.le_of_ble_eq_true rfl) ?_
  exact W.vret hx hb hr (fun t ht hW => ⟨⟨(), rfl, trivial, tk_pst ht hP hD⟩, hS.F ht⟩) hS.2.2 dJ5_add_2_22
set_option maxHeartbeats 4000000 in
theorem mJ5_add_A (l : Launch) (D : va_G) (ar : Nat → ClassId) (ad : Nat → Nat → Nat) (xs : va_W) (sz : Nat) (h0 : Nat) (r0 : Nat → Nat) (i0 : Nat → Int32) (f : Nat → Option Nat) (v ci : Nat) (vfs : List Value) (C9 : String) (T9 : u_T) (N9 : Nat)  (hc9 : tkCl[ci]? = some (C9, T9, N9)) (hca : Cond.castable C9 "java/lang/Object" ∈ lw_tbl) (hr1 : r0 1 = ad 3 0) (hi2 : i0 2 = 0) (hf0 : f = fun _ => none) : Met l yJ5_add (ws_ yJ5_add cJ5_add 2 (some .boolean)) ({ frames := 6, cells := 1, slots := 15, locals := 300 }) (va_Pc [.ref h0, .ref v] (tk_Pre D ar ad [(h0, .inr (13, oJ5 r0 i0))] [(v, .inr (ci, vfs))] xs sz)) (va_Qi (fun (zr : Int32) (z : Nat × va_W) => zr = 1 ∧ tk_LS ad ar (tur r0 1 z.1) (i0 2 + 1) z.2 (va_up f (i0 2).toNatClampNeg (some v))) (fun z t => tk_Post D (va_A [(h0, .inr (13, oJ5 r0 i0))] sz) ([(h0, .inr (13, oJ5 (tur r0 1 z.1) (tu (tu i0 0 (i0 0 + 1)) 2 (i0 2 + 1))))] ++ z.2) t) (va_A [(h0, .inr (13, oJ5 r0 i0))] sz)) 1 15 (va_A [(h0, .inr (13, oJ5 r0 i0))] sz) := by
  refine Met.ofW (cc := cJ5_add) (maxL := 2) (ret := (some .boolean)) (by decide) rfl ?_
  intro p e s m args below meth c s₁ B hml hv
  obtain ⟨rfl, hsz, hP, hD0, hR, hX, hE⟩ := hv
  have hx := B.exec
  have hb := B.bytes
  have hr := B.returns
  have hts := atoms_spec (ws := (ws_ yJ5_add cJ5_add 2 (some .boolean))) B.pre
  have hts : ∀ w ∈ lw_all, w.before _ s = true := fun w h => hts w (List.mem_cons_of_mem _ h)
  have hown : s.vm.findClass RJ5 = some m.cls := findClass_of_methodNamed B.named
  have hlocks := B.notSynchronized
  subst hsz
  have hD := hD0.self (sz := s.heap.size)
  generalize hAe : va_A [(h0, .inr (13, oJ5 r0 i0))] s.heap.size = A at hD hR hX hE ⊢
  have hA : ∀ q : Nat, s.heap.size ≤ q → A q := fun q h => by rw [← hAe]; exact Or.inr h
  have hS : va_S A s.heap s.heap [] := va_S.rf
  have hK := hE.1
  have hl := lv_entry ([.ref h0, .ref v]) (n := 2) (Nat.le_of_ble_eq_true rfl)
  rw [lg_entry_eq]
  generalize (lg_sl ([.ref h0, .ref v]) ++ List.replicate (2 - (lg_sl ([.ref h0, .ref v])).length) Slot.unset).toArray = ls at hl ⊢
  have hl : lv_has ls 2 [(0, .ref h0), (1, .ref v)] := hl
  refine lv_aload_n hx hb dJ5_add_0 rfl (lv_at hl 0 rfl) ?_
  refine lv_dup hx hb dJ5_add_1 rfl ?_
  refine va_get (D := D) (ci := 13) (v := .int (i0 0)) (C := RJ5) (T := TJ5) (N := 3) hx hb hts in_J5 hown hK hP 0 rfl rfl 0 (by decide) (hts _ q303) (fun x9 h9 => u_same (hts _ q304) x9 h9) rfl dJ5_add_2 ?_
  refine lv_iconst (v := 1) hx hb dJ5_add_5 (by decide) ?_
  refine lv_iadd hx hb dJ5_add_6 ?_
  refine va_put (D := D) (ci := 13) (v := .int (i0 0 + 1)) (ty := .int) (C := RJ5) (T := TJ5) (N := 3) hx hb hts in_J5 tyJ5 tyJ5_ok nmJ5 hown hK hP hD hS 0 rfl rfl 0 (by decide) (hts _ q303) (fun x9 h9 => u_same (hts _ q304) x9 h9) rfl (by decide +kernel) rfl rfl (Nat.le_of_ble_eq_true rfl) dJ5_add_7 (fun H locs hP hD hS => ?_)
  have hP : va_P D tkCl [(h0, .inr (13, oJ5 r0 (tu i0 0 (i0 0 + 1))))] H := hP
  have hD : va_D A [(h0, .inr (13, oJ5 r0 (tu i0 0 (i0 0 + 1))))] := hD
  refine lv_aload_n hx hb dJ5_add_10 rfl (lv_at hl 0 rfl) ?_
  refine lv_aload_n hx hb dJ5_add_11 rfl (lv_at hl 1 rfl) ?_
  refine lv_aload_n hx hb dJ5_add_12 rfl (lv_at hl 0 rfl) ?_
  refine va_get (D := D) (ci := 13) (v := .ref (r0 1)) (C := RJ5) (T := TJ5) (N := 3) hx hb hts in_J5 hown hK hP 0 rfl rfl 1 (by decide) (hts _ q300) (fun _ h9 => h9) rfl dJ5_add_13 ?_
  refine lv_aload_n hx hb dJ5_add_16 rfl (lv_at hl 0 rfl) ?_
  refine va_get (D := D) (ci := 13) (v := .int (i0 2)) (C := RJ5) (T := TJ5) (N := 3) hx hb hts in_J5 hown hK hP 0 rfl rfl 2 (by decide) (hts _ q301) (fun _ h9 => h9) rfl dJ5_add_17 ?_
  refine W.eq (g2 := F0 m 20 ls [.int 0, .ref (ad 3 0), .ref v, .ref h0]) (by rw [hi2, hr1]) ?_
  refine va_callv (va_runV (As := [.ref v, .ref (ad 3 0), .int 0]) (rest := []) ⟨hx, hb, hml, hown, hts⟩ (mJ5_add_2_A (l := l) (D := D) (ar := ar) (ad := ad) (xs := xs) (sz := H.size) (h0 := h0) (r0 := r0) (i0 := (tu i0 0 (i0 0 + 1))) (v := v) (ci := ci) (vfs := vfs) (C9 := C9) (T9 := T9) (N9 := N9) (hc9 := hc9) (hca := hca) (hr1 := hr1) (hi2 := hi2)) (cwV 3 hts (lw_V q830 q832 qs8 q98 q833) rfl rfl rfl (by decide +kernel) ⟨(Nat.le_of_ble_eq_true rfl), (Nat.le_of_ble_eq_true rfl)⟩) ⟨tk_blind, va_recv hK hP (ci := 13) (q0 := 0) rfl rfl, fun U hU hW => ⟨rfl, tk_mk hP hD hS hA hE hR hX [0] [1] rfl rfl rfl rfl U hU hW⟩⟩ rfl rfl hl.1 rfl (lv_room (Nat.le_of_ble_eq_true rfl)) dJ5_add_20 ⟨(Nat.le_of_ble_eq_true rfl), (Nat.le_of_ble_eq_true rfl)⟩) hS (fun q _ h => (va_free hD hS hA [0] rfl) q h) (va_free hD hS hA [0] rfl) (fun zu zt H1 zl zht zvm zw zB zz zk zS => ?_)
  obtain ⟨hP, hD⟩ := tk_join hP hD zk [0] rfl rfl (va_free hD hS hA [0] rfl) (zht ▸ zB.1) zB.2 (Nat.le_of_ble_eq_true rfl)
  have hS := zS
  generalize H1 = H at hP hS ⊢
  refine lv_iconst (v := 1) hx hb dJ5_add_23 (by decide) ?_
  have hP : va_P D tkCl ([(h0, .inr (13, oJ5 (tur r0 1 zu) (tu (tu i0 0 (i0 0 + 1)) 2 (i0 2 + 1))))] ++ [(zu, tk_ra ar 10 (va_up f (i0 2).toNatClampNeg (some v)))]) H := by rw [hi2, hf0]; exact hP
  have hD : va_D A ([(h0, .inr (13, oJ5 (tur r0 1 zu) (tu (tu i0 0 (i0 0 + 1)) 2 (i0 2 + 1))))] ++ [(zu, tk_ra ar 10 (va_up f (i0 2).toNatClampNeg (some v)))]) := by rw [hi2, hf0]; exact hD
  exact W.zret (v := 1) hx hb hr (by decide) (fun t ht hW => ⟨⟨_, (zu, _), rfl, ⟨rfl, Or.inr ⟨10, rfl, Or.inl rfl, by rw [hi2]; decide, by rw [hi2]; decide⟩⟩, tk_pst ht hP hD⟩, hS.F ht⟩) hS.2.2 dJ5_add_24
set_option maxHeartbeats 4000000 in
theorem mJ5_add_B (l : Launch) (D : va_G) (ar : Nat → ClassId) (ad : Nat → Nat → Nat) (xs : va_W) (sz : Nat) (h0 : Nat) (r0 : Nat → Nat) (i0 : Nat → Int32) (f : Nat → Option Nat) (v ci : Nat) (vfs : List Value) (C9 : String) (T9 : u_T) (N9 : Nat) (cap : Nat)  (hc9 : tkCl[ci]? = some (C9, T9, N9)) (hca : Cond.castable C9 "java/lang/Object" ∈ lw_tbl) (hin9 : tk_in (i0 2) cap) (hcap : cap < 2 ^ 31) (hc15 : cap = 10 ∨ cap = 15) : Met l yJ5_add (ws_ yJ5_add cJ5_add 2 (some .boolean)) ({ frames := 6, cells := 1, slots := 15, locals := 300 }) (va_Pc [.ref h0, .ref v] (tk_Pre D ar ad [(h0, .inr (13, oJ5 r0 i0)), ((r0 1), tk_ra ar cap f)] [(v, .inr (ci, vfs))] xs sz)) (va_Qi (fun (zr : Int32) (z : Nat × va_W) => zr = 1 ∧ tk_LS ad ar (tur r0 1 z.1) (i0 2 + 1) z.2 (va_up f (i0 2).toNatClampNeg (some v))) (fun z t => tk_Post D (va_A [(h0, .inr (13, oJ5 r0 i0)), ((r0 1), tk_ra ar cap f)] sz) ([(h0, .inr (13, oJ5 (tur r0 1 z.1) (tu (tu i0 0 (i0 0 + 1)) 2 (i0 2 + 1))))] ++ z.2) t) (va_A [(h0, .inr (13, oJ5 r0 i0)), ((r0 1), tk_ra ar cap f)] sz)) 1 15 (va_A [(h0, .inr (13, oJ5 r0 i0)), ((r0 1), tk_ra ar cap f)] sz) := by
  refine Met.ofW (cc := cJ5_add) (maxL := 2) (ret := (some .boolean)) (by decide) rfl ?_
  intro p e s m args below meth c s₁ B hml hv
  obtain ⟨rfl, hsz, hP, hD0, hR, hX, hE⟩ := hv
  have hx := B.exec
  have hb := B.bytes
  have hr := B.returns
  have hts := atoms_spec (ws := (ws_ yJ5_add cJ5_add 2 (some .boolean))) B.pre
  have hts : ∀ w ∈ lw_all, w.before _ s = true := fun w h => hts w (List.mem_cons_of_mem _ h)
  have hown : s.vm.findClass RJ5 = some m.cls := findClass_of_methodNamed B.named
  have hlocks := B.notSynchronized
  subst hsz
  have hD := hD0.self (sz := s.heap.size)
  generalize hAe : va_A [(h0, .inr (13, oJ5 r0 i0)), ((r0 1), tk_ra ar cap f)] s.heap.size = A at hD hR hX hE ⊢
  have hA : ∀ q : Nat, s.heap.size ≤ q → A q := fun q h => by rw [← hAe]; exact Or.inr h
  have hS : va_S A s.heap s.heap [] := va_S.rf
  have hK := hE.1
  have hl := lv_entry ([.ref h0, .ref v]) (n := 2) (Nat.le_of_ble_eq_true rfl)
  rw [lg_entry_eq]
  generalize (lg_sl ([.ref h0, .ref v]) ++ List.replicate (2 - (lg_sl ([.ref h0, .ref v])).length) Slot.unset).toArray = ls at hl ⊢
  have hl : lv_has ls 2 [(0, .ref h0), (1, .ref v)] := hl
  refine lv_aload_n hx hb dJ5_add_0 rfl (lv_at hl 0 rfl) ?_
  refine lv_dup hx hb dJ5_add_1 rfl ?_
  refine va_get (D := D) (ci := 13) (v := .int (i0 0)) (C := RJ5) (T := TJ5) (N := 3) hx hb hts in_J5 hown hK hP 0 rfl rfl 0 (by decide) (hts _ q303) (fun x9 h9 => u_same (hts _ q304) x9 h9) rfl dJ5_add_2 ?_
  refine lv_iconst (v := 1) hx hb dJ5_add_5 (by decide) ?_
  refine lv_iadd hx hb dJ5_add_6 ?_
  refine va_put (D := D) (ci := 13) (v := .int (i0 0 + 1)) (ty := .int) (C := RJ5) (T := TJ5) (N := 3) hx hb hts in_J5 tyJ5 tyJ5_ok nmJ5 hown hK hP hD hS 0 rfl rfl 0 (by decide) (hts _ q303) (fun x9 h9 => u_same (hts _ q304) x9 h9) rfl (by decide +kernel) rfl rfl (Nat.le_of_ble_eq_true rfl) dJ5_add_7 (fun H locs hP hD hS => ?_)
  have hP : va_P D tkCl [(h0, .inr (13, oJ5 r0 (tu i0 0 (i0 0 + 1)))), ((r0 1), tk_ra ar cap f)] H := hP
  have hD : va_D A [(h0, .inr (13, oJ5 r0 (tu i0 0 (i0 0 + 1)))), ((r0 1), tk_ra ar cap f)] := hD
  refine lv_aload_n hx hb dJ5_add_10 rfl (lv_at hl 0 rfl) ?_
  refine lv_aload_n hx hb dJ5_add_11 rfl (lv_at hl 1 rfl) ?_
  refine lv_aload_n hx hb dJ5_add_12 rfl (lv_at hl 0 rfl) ?_
  refine va_get (D := D) (ci := 13) (v := .ref (r0 1)) (C := RJ5) (T := TJ5) (N := 3) hx hb hts in_J5 hown hK hP 0 rfl rfl 1 (by decide) (hts _ q300) (fun _ h9 => h9) rfl dJ5_add_13 ?_
  refine lv_aload_n hx hb dJ5_add_16 rfl (lv_at hl 0 rfl) ?_
  refine va_get (D := D) (ci := 13) (v := .int (i0 2)) (C := RJ5) (T := TJ5) (N := 3) hx hb hts in_J5 hown hK hP 0 rfl rfl 2 (by decide) (hts _ q301) (fun _ h9 => h9) rfl dJ5_add_17 ?_
  refine va_callv (va_runV (As := [.ref v, .ref (r0 1), .int (i0 2)]) (rest := []) ⟨hx, hb, hml, hown, hts⟩ (mJ5_add_2_B (l := l) (D := D) (ar := ar) (ad := ad) (xs := xs) (sz := H.size) (h0 := h0) (r0 := r0) (i0 := (tu i0 0 (i0 0 + 1))) (cap := cap) (f := f) (p2 := i0 2) (v := v) (ci := ci) (vfs := vfs) (C9 := C9) (T9 := T9) (N9 := N9) (hc9 := hc9) (hca := hca) (hin9 := hin9) (hcap := hcap)) (cwV 3 hts (lw_V q830 q832 qs8 q98 q833) rfl rfl rfl (by decide +kernel) ⟨(Nat.le_of_ble_eq_true rfl), (Nat.le_of_ble_eq_true rfl)⟩) ⟨tk_blind, va_recv hK hP (ci := 13) (q0 := 0) rfl rfl, fun U hU hW => ⟨rfl, tk_mk hP hD hS hA hE hR hX [0, 1] [2] rfl rfl rfl rfl U hU hW⟩⟩ rfl rfl hl.1 rfl (lv_room (Nat.le_of_ble_eq_true rfl)) dJ5_add_20 ⟨(Nat.le_of_ble_eq_true rfl), (Nat.le_of_ble_eq_true rfl)⟩) hS (fun q _ h => (va_free hD hS hA [0, 1] rfl) q h) (va_free hD hS hA [0, 1] rfl) (fun zu zt H1 zl zht zvm zw zB zz zk zS => ?_)
  obtain ⟨hP, hD⟩ := tk_join hP hD zk [0, 1] rfl rfl (va_free hD hS hA [0, 1] rfl) (zht ▸ zB.1) zB.2 (Nat.le_of_ble_eq_true rfl)
  have hS := zS
  generalize H1 = H at hP hS ⊢
  refine lv_iconst (v := 1) hx hb dJ5_add_23 (by decide) ?_
  have hP : va_P D tkCl ([(h0, .inr (13, oJ5 (tur r0 1 (r0 1)) (tu (tu i0 0 (i0 0 + 1)) 2 (i0 2 + 1))))] ++ [(r0 1, tk_ra ar cap (va_up f (i0 2).toNatClampNeg (some v)))]) H := hP
  have hD : va_D A ([(h0, .inr (13, oJ5 (tur r0 1 (r0 1)) (tu (tu i0 0 (i0 0 + 1)) 2 (i0 2 + 1))))] ++ [(r0 1, tk_ra ar cap (va_up f (i0 2).toNatClampNeg (some v)))]) := hD
  exact W.zret (v := 1) hx hb hr (by decide) (fun t ht hW => ⟨⟨_, (r0 1, _), rfl, ⟨rfl, Or.inr ⟨cap, rfl, hc15, tk_in_s1 hin9 hcap, tk_in_s0 hin9 hcap⟩⟩, tk_pst ht hP hD⟩, hS.F ht⟩) hS.2.2 dJ5_add_24
set_option maxHeartbeats 4000000 in
theorem mJ11_newLength_C (l : Launch) (D : va_G) (ar : Nat → ClassId) (ad : Nat → Nat → Nat) (xs : va_W) (sz : Nat)   : Met l yJ11_newLength (ws_ yJ11_newLength cJ11_newLength 4 (some .int)) ({ frames := 1, cells := 0, slots := 0, locals := 40 }) (va_Pc [.int 10, .int 1, .int 5] (tk_Pre D ar ad [] [] xs sz)) (va_Qi (fun (zr : Int32) (_ : Unit) => zr = 15) (fun _ t => tk_Post D (va_A [] sz) [] t) (va_A [] sz)) 0 0 (va_A [] sz) := by
  refine Met.ofW (cc := cJ11_newLength) (maxL := 4) (ret := (some .int)) (by decide) rfl ?_
  intro p e s m args below meth c s₁ B hml hv
  obtain ⟨rfl, hsz, hP, hD0, hR, hX, hE⟩ := hv
  have hx := B.exec
  have hb := B.bytes
  have hr := B.returns
  have hts := atoms_spec (ws := (ws_ yJ11_newLength cJ11_newLength 4 (some .int))) B.pre
  have hts : ∀ w ∈ lw_all, w.before _ s = true := fun w h => hts w (List.mem_cons_of_mem _ h)
  have hown : s.vm.findClass RJ11 = some m.cls := findClass_of_methodNamed B.named
  have hlocks := B.notSynchronized
  subst hsz
  have hD := hD0.self (sz := s.heap.size)
  generalize hAe : va_A [] s.heap.size = A at hD hR hX hE ⊢
  have hA : ∀ q : Nat, s.heap.size ≤ q → A q := fun q h => by rw [← hAe]; exact Or.inr h
  have hS : va_S A s.heap s.heap [] := va_S.rf
  have hK := hE.1
  have hl := lv_entry ([.int 10, .int 1, .int 5]) (n := 4) (Nat.le_of_ble_eq_true rfl)
  rw [lg_entry_eq]
  generalize (lg_sl ([.int 10, .int 1, .int 5]) ++ List.replicate (4 - (lg_sl ([.int 10, .int 1, .int 5])).length) Slot.unset).toArray = ls at hl ⊢
  have hl : lv_has ls 4 [(0, .int 10), (1, .int 1), (2, .int 5)] := hl
  refine lv_iload_n hx hb dJ11_newLength_0 rfl (lv_at hl 0 rfl) ?_
  refine lv_iload_n hx hb dJ11_newLength_1 rfl (lv_at hl 1 rfl) ?_
  refine lv_iload_n hx hb dJ11_newLength_2 rfl (lv_at hl 2 rfl) ?_
  refine va_mmax hx hb (hml.trans hl.1.symm) hown (hts _ q845) (hts _ q846) (hts _ q111) (hts _ q847) (Nat.le_of_ble_eq_true rfl) (Nat.le_of_ble_eq_true rfl) (Nat.le_of_ble_eq_true rfl) (Nat.le_of_ble_eq_true rfl) dJ11_newLength_3 ?_
  refine W.eq (g2 := F0 m 6 ls [.int 5, .int 10]) (by rw [if_pos (by decide)]) ?_
  refine lv_iadd hx hb dJ11_newLength_6 ?_
  refine W.eq (g2 := F0 m 7 ls [.int 15]) (by rfl) ?_
  refine lv_istore_n (lv' := [(3, .int 15), (0, .int 10), (1, .int 1), (2, .int 5)]) hx hb dJ11_newLength_7 rfl hl (Nat.le_of_ble_eq_true rfl) rfl (fun ls hl => ?_)
  refine lv_iconst (v := 0) hx hb dJ11_newLength_8 (by decide) ?_
  refine lv_iload_n hx hb dJ11_newLength_9 rfl (lv_at hl 0 rfl) ?_
  refine lv_icmp_ge (tgt := 21) hx hb dJ11_newLength_10 (by decide) (fun c => absurd c (by decide)) (fun _ => ?_)
  refine lv_iload_n hx hb dJ11_newLength_13 rfl (lv_at hl 0 rfl) ?_
  refine lv_ldc (v := 2147483639) hx hb hown (hts _ q848) dJ11_newLength_14 ?_
  refine lv_icmp_gt (tgt := 21) hx hb dJ11_newLength_16 (by decide) (fun c => absurd c (by decide)) (fun _ => ?_)
  refine lv_iload_n hx hb dJ11_newLength_19 rfl (lv_at hl 0 rfl) ?_
  exact W.iret (v := 15) hx hb hr (fun t ht hW => ⟨⟨_, (), rfl, rfl, tk_pst ht hP hD⟩, hS.F ht⟩) hS.2.2 dJ11_newLength_20
set_option maxHeartbeats 4000000 in
theorem mJ6_copyOf_2_C (l : Launch) (D : va_G) (ar : Nat → ClassId) (ad : Nat → Nat → Nat) (xs : va_W) (sz : Nat) (h2 : Nat) (f : Nat → Option Nat) (hel : ∀ k : Nat, k < 10 → ∃ (a9 ci9 : Nat) (fs9 : List Value) (C8 : String) (T8 : u_T) (N8 : Nat), f k = some a9 ∧ (a9, Sum.inr (ci9, fs9)) ∈ xs ∧ tkCl[ci9]? = some (C8, T8, N8) ∧ Cond.castable C8 "java/lang/Object" ∈ lw_tbl) : Met l yJ6_copyOf_2 (ws_ yJ6_copyOf_2 cJ6_copyOf_2 4 (some (.array (.object "java/lang/Object")))) ({ frames := 1, cells := 1, slots := 15, locals := 60 }) (va_Pc [.ref h2, .int 15, .ref (ad 3 2)] (tk_Pre D ar ad [(h2, tk_ra ar 10 f)] [] xs sz)) (va_Qr (fun _ : Nat => True) (fun z ra t => ra = z ∧ tk_Post D (va_A [(h2, tk_ra ar 10 f)] sz) [(h2, tk_ra ar 10 f), (z, tk_ra ar 15 (va_cpy f (fun _ => none) (0 : Int32).toNatClampNeg (0 : Int32).toNatClampNeg (10 : Int32).toNatClampNeg))] t) (va_A [(h2, tk_ra ar 10 f)] sz)) 1 15 (va_A [(h2, tk_ra ar 10 f)] sz) := by
  refine Met.ofW (cc := cJ6_copyOf_2) (maxL := 4) (ret := (some (.array (.object "java/lang/Object")))) (by decide) rfl ?_
  intro p e s m args below meth c s₁ B hml hv
  obtain ⟨rfl, hsz, hP, hD0, hR, hX, hE⟩ := hv
  have hx := B.exec
  have hb := B.bytes
  have hr := B.returns
  have hts := atoms_spec (ws := (ws_ yJ6_copyOf_2 cJ6_copyOf_2 4 (some (.array (.object "java/lang/Object"))))) B.pre
  have hts : ∀ w ∈ lw_all, w.before _ s = true := fun w h => hts w (List.mem_cons_of_mem _ h)
  have hown : s.vm.findClass RJ6 = some m.cls := findClass_of_methodNamed B.named
  have hlocks := B.notSynchronized
  subst hsz
  have hD := hD0.self (sz := s.heap.size)
  generalize hAe : va_A [(h2, tk_ra ar 10 f)] s.heap.size = A at hD hR hX hE ⊢
  have hA : ∀ q : Nat, s.heap.size ≤ q → A q := fun q h => by rw [← hAe]; exact Or.inr h
  have hS : va_S A s.heap s.heap [] := va_S.rf
  have hK := hE.1
  have hl := lv_entry ([.ref h2, .int 15, .ref (ad 3 2)]) (n := 4) (Nat.le_of_ble_eq_true rfl)
  rw [lg_entry_eq]
  generalize (lg_sl ([.ref h2, .int 15, .ref (ad 3 2)]) ++ List.replicate (4 - (lg_sl ([.ref h2, .int 15, .ref (ad 3 2)])).length) Slot.unset).toArray = ls at hl ⊢
  have hl : lv_has ls 4 [(0, .ref h2), (1, .int 15), (2, .ref (ad 3 2))] := hl
  refine lv_aload_n hx hb dJ6_copyOf_2_0 rfl (lv_at hl 2 rfl) ?_
  refine va_ldcM hx hb hown (hts _ q877) hE.2.2.2.2.2.2.2.2.2.2.2.2.2.2.1 dJ6_copyOf_2_1 ?_
  refine W.eq (g2 := F0 m 3 ls [va_rf (some (ad 3 2)), va_rf (some (ad 3 2))]) rfl ?_
  refine lv_acmp_ne (tgt := 13) hx hb dJ6_copyOf_2_3 (by decide) (fun c => absurd rfl c) (fun _ => ?_)
  refine lv_iload_n hx hb dJ6_copyOf_2_6 rfl (lv_at hl 1 rfl) ?_
  refine va_newq (n := 15) (N' := 15) hx hb hown (hts _ q879) hE.2.2.2.2.2.2.2.2.2.2.2.2.2.1.1 hK hP hD hS hA (by decide) (by decide) (by decide) (Nat.le_of_ble_eq_true rfl) (Nat.le_of_ble_eq_true rfl) dJ6_copyOf_2_7 (fun n7 cA H hK9 hP hD hS => ?_)
  obtain rfl : cA = ar 3 := tk_cAO hK9
  clear hK9
  have hP : va_P D tkCl [(h2, tk_ra ar 10 f), (n7, tk_ra ar 15 (fun _ => none))] H := hP
  have hD : va_D A [(h2, tk_ra ar 10 f), (n7, tk_ra ar 15 (fun _ => none))] := hD
  refine lv_goto (tgt := 24) hx hb dJ6_copyOf_2_10 (by decide) ?_
  refine lv_astore_n (lv' := [(3, .ref n7), (0, .ref h2), (1, .int 15), (2, .ref (ad 3 2))]) hx hb dJ6_copyOf_2_24 rfl hl (Nat.le_of_ble_eq_true rfl) rfl (fun ls hl => ?_)
  refine lv_aload_n hx hb dJ6_copyOf_2_25 rfl (lv_at hl 1 rfl) ?_
  refine lv_iconst (v := 0) hx hb dJ6_copyOf_2_26 (by decide) ?_
  refine lv_aload_n hx hb dJ6_copyOf_2_27 rfl (lv_at hl 0 rfl) ?_
  refine lv_iconst (v := 0) hx hb dJ6_copyOf_2_28 (by decide) ?_
  refine lv_aload_n hx hb dJ6_copyOf_2_29 rfl (lv_at hl 1 rfl) ?_
  refine va_alen (v := 10) hx hb hK hP 0 3 rfl rfl rfl dJ6_copyOf_2_30 ?_
  refine lv_iload_n hx hb dJ6_copyOf_2_31 rfl (lv_at hl 2 rfl) ?_
  refine va_mmin hx hb (hml.trans hl.1.symm) hown (hts _ q880) (hts _ q881) (hts _ q111) (hts _ q882) (Nat.le_of_ble_eq_true rfl) (Nat.le_of_ble_eq_true rfl) (Nat.le_of_ble_eq_true rfl) (Nat.le_of_ble_eq_true rfl) dJ6_copyOf_2_32 ?_
  refine W.eq (g2 := F0 m 35 ls [.int 10, .int 0, .ref n7, .int 0, .ref h2]) (by rw [if_neg (by decide)]) ?_
  refine va_copyM hx hb (hml.trans hl.1.symm) hown (hts _ q883) (hts _ q885) (hts _ q884) (hts _ q112) hK hP hD hS 0 1 3 3 (E0 := "java/lang/Object") (E1 := "java/lang/Object") rfl rfl rfl rfl (by decide) (by decide) (by decide) (by decide) (by decide) ?_ (Nat.le_of_ble_eq_true rfl) (Nat.le_of_ble_eq_true rfl) dJ6_copyOf_2_35 (fun H locs hP hD hS => ?_)
  · intro i hi y hy
    obtain ⟨a9, ci9, fs9, C8, T8, N8, e1, e2, e3, e4⟩ := hel i hi
    have hy9 : f i = some y := by rw [← hy]; exact congrArg f (Nat.zero_add i).symm
    cases e1.symm.trans hy9
    obtain ⟨j9, hj9⟩ := List.mem_iff_getElem?.mp e2
    exact va_rAny hK (hX.at hS) hj9 e3 (tk_asg (args := #[]) (hE.2.1.use e4 rfl rfl))
  have hP : va_P D tkCl [(h2, tk_ra ar 10 f), (n7, tk_ra ar 15 (va_cpy f (fun _ => none) (0 : Int32).toNatClampNeg (0 : Int32).toNatClampNeg (10 : Int32).toNatClampNeg))] H := hP
  have hD : va_D A [(h2, tk_ra ar 10 f), (n7, tk_ra ar 15 (va_cpy f (fun _ => none) (0 : Int32).toNatClampNeg (0 : Int32).toNatClampNeg (10 : Int32).toNatClampNeg))] := hD
  refine lv_aload_n hx hb dJ6_copyOf_2_38 rfl (lv_at hl 0 rfl) ?_
  exact W.aret (v := .ref n7) hx hb hr (Or.inr ⟨_, rfl⟩) (Or.inr ⟨_, rfl⟩) (fun t ht hW => ⟨⟨n7, _, rfl, trivial, rfl, tk_pst ht hP hD⟩, hS.F ht⟩) hS.2.2 dJ6_copyOf_2_39
set_option maxHeartbeats 4000000 in
theorem mJ6_copyOf_C (l : Launch) (D : va_G) (ar : Nat → ClassId) (ad : Nat → Nat → Nat) (xs : va_W) (sz : Nat) (h2 : Nat) (f : Nat → Option Nat) (hel : ∀ k : Nat, k < 10 → ∃ (a9 ci9 : Nat) (fs9 : List Value) (C8 : String) (T8 : u_T) (N8 : Nat), f k = some a9 ∧ (a9, Sum.inr (ci9, fs9)) ∈ xs ∧ tkCl[ci9]? = some (C8, T8, N8) ∧ Cond.castable C8 "java/lang/Object" ∈ lw_tbl) : Met l yJ6_copyOf (ws_ yJ6_copyOf cJ6_copyOf 2 (some (.array (.object "java/lang/Object")))) ({ frames := 2, cells := 1, slots := 15, locals := 100 }) (va_Pc [.ref h2, .int 15] (tk_Pre D ar ad [(h2, tk_ra ar 10 f)] [] xs sz)) (va_Qr (fun _ : Nat => True) (fun z ra t => ra = z ∧ tk_Post D (va_A [(h2, tk_ra ar 10 f)] sz) [(h2, tk_ra ar 10 f), (z, tk_ra ar 15 (va_cpy f (fun _ => none) (0 : Int32).toNatClampNeg (0 : Int32).toNatClampNeg (10 : Int32).toNatClampNeg))] t) (va_A [(h2, tk_ra ar 10 f)] sz)) 1 15 (va_A [(h2, tk_ra ar 10 f)] sz) := by
  refine Met.ofW (cc := cJ6_copyOf) (maxL := 2) (ret := (some (.array (.object "java/lang/Object")))) (by decide) rfl ?_
  intro p e s m args below meth c s₁ B hml hv
  obtain ⟨rfl, hsz, hP, hD0, hR, hX, hE⟩ := hv
  have hx := B.exec
  have hb := B.bytes
  have hr := B.returns
  have hts := atoms_spec (ws := (ws_ yJ6_copyOf cJ6_copyOf 2 (some (.array (.object "java/lang/Object"))))) B.pre
  have hts : ∀ w ∈ lw_all, w.before _ s = true := fun w h => hts w (List.mem_cons_of_mem _ h)
  have hown : s.vm.findClass RJ6 = some m.cls := findClass_of_methodNamed B.named
  have hlocks := B.notSynchronized
  subst hsz
  have hD := hD0.self (sz := s.heap.size)
  generalize hAe : va_A [(h2, tk_ra ar 10 f)] s.heap.size = A at hD hR hX hE ⊢
  have hA : ∀ q : Nat, s.heap.size ≤ q → A q := fun q h => by rw [← hAe]; exact Or.inr h
  have hS : va_S A s.heap s.heap [] := va_S.rf
  have hK := hE.1
  have hl := lv_entry ([.ref h2, .int 15]) (n := 2) (Nat.le_of_ble_eq_true rfl)
  rw [lg_entry_eq]
  generalize (lg_sl ([.ref h2, .int 15]) ++ List.replicate (2 - (lg_sl ([.ref h2, .int 15])).length) Slot.unset).toArray = ls at hl ⊢
  have hl : lv_has ls 2 [(0, .ref h2), (1, .int 15)] := hl
  have g7 : s.vm.findClass "[Ljava/lang/Object;" = some (ar 3) := by
    obtain ⟨-, -, -, -, -, a⟩ := (hK.2 3 _ rfl).2
    exact a
  refine lv_aload_n hx hb dJ6_copyOf_0 rfl (lv_at hl 0 rfl) ?_
  refine lv_iload_n hx hb dJ6_copyOf_1 rfl (lv_at hl 1 rfl) ?_
  refine lv_aload_n hx hb dJ6_copyOf_2 rfl (lv_at hl 0 rfl) ?_
  refine va_getC hx hb (hml.trans hl.1.symm) hown (hts _ q855) (hE.2.1.use q2024 rfl rfl) (hts _ q2023) (hts _ q856) (hts _ q873) hE.2.2.2.2.2.2.2.2.2.2.2.2.2.2.1 ⟨_, hP 0 _ rfl, rfl, g7⟩ (Nat.le_of_ble_eq_true rfl) (Nat.le_of_ble_eq_true rfl) dJ6_copyOf_3 ?_
  refine va_callr (va_runS (As := [.ref h2, .int 15, .ref (ad 3 2)]) (rest := []) ⟨hx, hb, hml, hown, hts⟩ (mJ6_copyOf_2_C (l := l) (D := D) (ar := ar) (ad := ad) (xs := xs) (sz := s.heap.size) (h2 := h2) (f := f) (hel := hel)) (va_cwS 3 hts (lw_S q874 q875 q100 q876) rfl rfl rfl (by decide +kernel) ⟨(Nat.le_of_ble_eq_true rfl), (Nat.le_of_ble_eq_true rfl)⟩) ⟨tk_blind, fun U hU hW => ⟨rfl, tk_mk hP hD hS hA hE hR hX [0] [] rfl rfl rfl rfl U hU hW⟩⟩ rfl rfl hl.1 rfl (lv_room (Nat.le_of_ble_eq_true rfl)) dJ6_copyOf_6 ⟨(Nat.le_of_ble_eq_true rfl), (Nat.le_of_ble_eq_true rfl)⟩) hS (fun q _ h => (va_free hD hS hA [0] rfl) q h) (va_free hD hS hA [0] rfl) (fun zu zr zt H1 zl zht zvm zw zB zz zk zS => ?_)
  obtain ⟨zr9, zB⟩ := zB
  have zr9 := Eq.symm zr9
  subst zr9
  obtain ⟨hP, hD⟩ := tk_join hP hD zk [0] rfl rfl (va_free hD hS hA [0] rfl) (zht ▸ zB.1) zB.2 (Nat.le_of_ble_eq_true rfl)
  have hS := zS
  generalize H1 = H at hP hS ⊢
  exact W.aret (v := .ref zu) hx hb hr (Or.inr ⟨_, rfl⟩) (Or.inr ⟨_, rfl⟩) (fun t ht hW => ⟨⟨zu, _, rfl, trivial, rfl, tk_pst ht hP hD⟩, hS.F ht⟩) hS.2.2 dJ6_copyOf_9
set_option maxHeartbeats 4000000 in
theorem mJ5_grow_2_C (l : Launch) (D : va_G) (ar : Nat → ClassId) (ad : Nat → Nat → Nat) (xs : va_W) (sz : Nat) (h0 : Nat) (r0 : Nat → Nat) (i0 : Nat → Int32) (f : Nat → Option Nat) (hel : ∀ k : Nat, k < 10 → ∃ (a9 ci9 : Nat) (fs9 : List Value) (C8 : String) (T8 : u_T) (N8 : Nat), f k = some a9 ∧ (a9, Sum.inr (ci9, fs9)) ∈ xs ∧ tkCl[ci9]? = some (C8, T8, N8) ∧ Cond.castable C8 "java/lang/Object" ∈ lw_tbl) : Met l yJ5_grow_2 (ws_ yJ5_grow_2 cJ5_grow_2 4 (some (.array (.object "java/lang/Object")))) ({ frames := 3, cells := 1, slots := 15, locals := 140 }) (va_Pc [.ref h0, .int 11] (tk_Pre D ar ad [(h0, .inr (13, oJ5 r0 i0)), ((r0 1), tk_ra ar 10 f)] [] xs sz)) (va_Qr (fun _ : Nat => True) (fun z ra t => ra = z ∧ tk_Post D (va_A [(h0, .inr (13, oJ5 r0 i0)), ((r0 1), tk_ra ar 10 f)] sz) [(h0, .inr (13, oJ5 (tur r0 1 z) i0)), (r0 1, tk_ra ar 10 f), (z, tk_ra ar 15 (va_cpy f (fun _ => none) (0 : Int32).toNatClampNeg (0 : Int32).toNatClampNeg (10 : Int32).toNatClampNeg))] t) (va_A [(h0, .inr (13, oJ5 r0 i0)), ((r0 1), tk_ra ar 10 f)] sz)) 1 15 (va_A [(h0, .inr (13, oJ5 r0 i0)), ((r0 1), tk_ra ar 10 f)] sz) := by
  refine Met.ofW (cc := cJ5_grow_2) (maxL := 4) (ret := (some (.array (.object "java/lang/Object")))) (by decide) rfl ?_
  intro p e s m args below meth c s₁ B hml hv
  obtain ⟨rfl, hsz, hP, hD0, hR, hX, hE⟩ := hv
  have hx := B.exec
  have hb := B.bytes
  have hr := B.returns
  have hts := atoms_spec (ws := (ws_ yJ5_grow_2 cJ5_grow_2 4 (some (.array (.object "java/lang/Object"))))) B.pre
  have hts : ∀ w ∈ lw_all, w.before _ s = true := fun w h => hts w (List.mem_cons_of_mem _ h)
  have hown : s.vm.findClass RJ5 = some m.cls := findClass_of_methodNamed B.named
  have hlocks := B.notSynchronized
  subst hsz
  have hD := hD0.self (sz := s.heap.size)
  generalize hAe : va_A [(h0, .inr (13, oJ5 r0 i0)), ((r0 1), tk_ra ar 10 f)] s.heap.size = A at hD hR hX hE ⊢
  have hA : ∀ q : Nat, s.heap.size ≤ q → A q := fun q h => by rw [← hAe]; exact Or.inr h
  have hS : va_S A s.heap s.heap [] := va_S.rf
  have hK := hE.1
  have hl := lv_entry ([.ref h0, .int 11]) (n := 4) (Nat.le_of_ble_eq_true rfl)
  rw [lg_entry_eq]
  generalize (lg_sl ([.ref h0, .int 11]) ++ List.replicate (4 - (lg_sl ([.ref h0, .int 11])).length) Slot.unset).toArray = ls at hl ⊢
  have hl : lv_has ls 4 [(0, .ref h0), (1, .int 11)] := hl
  refine lv_aload_n hx hb dJ5_grow_2_0 rfl (lv_at hl 0 rfl) ?_
  refine va_get (D := D) (ci := 13) (v := .ref (r0 1)) (C := RJ5) (T := TJ5) (N := 3) hx hb hts in_J5 hown hK hP 0 rfl rfl 1 (by decide) (hts _ q300) (fun _ h9 => h9) rfl dJ5_grow_2_1 ?_
  refine va_alen (v := 10) hx hb hK hP 1 3 rfl rfl rfl dJ5_grow_2_4 ?_
  refine lv_istore_n (lv' := [(2, .int 10), (0, .ref h0), (1, .int 11)]) hx hb dJ5_grow_2_5 rfl hl (Nat.le_of_ble_eq_true rfl) rfl (fun ls hl => ?_)
  refine lv_iload_n hx hb dJ5_grow_2_6 rfl (lv_at hl 0 rfl) ?_
  refine lv_if_gt (tgt := 20) hx hb dJ5_grow_2_7 (by decide) (fun _ => ?_) (fun c => absurd (by decide) c)
  refine lv_iload_n hx hb dJ5_grow_2_20 rfl (lv_at hl 0 rfl) ?_
  refine lv_iload_n hx hb dJ5_grow_2_21 rfl (lv_at hl 2 rfl) ?_
  refine lv_iload_n hx hb dJ5_grow_2_22 rfl (lv_at hl 0 rfl) ?_
  refine lv_isub hx hb dJ5_grow_2_23 ?_
  refine lv_iload_n hx hb dJ5_grow_2_24 rfl (lv_at hl 0 rfl) ?_
  refine lv_iconst (v := 1) hx hb dJ5_grow_2_25 (by decide) ?_
  refine lv_ishr hx hb dJ5_grow_2_26 ?_
  refine W.eq (g2 := F0 m 27 ls [.int 5, .int 1, .int 10]) (by rfl) ?_
  refine va_calli (va_runS (As := [.int 10, .int 1, .int 5]) (rest := []) ⟨hx, hb, hml, hown, hts⟩ (mJ11_newLength_C (l := l) (D := D) (ar := ar) (ad := ad) (xs := xs) (sz := s.heap.size) ) (va_cwS 3 hts (lw_S q842 q843 q110 q844) rfl rfl rfl (by decide +kernel) ⟨(Nat.le_of_ble_eq_true rfl), (Nat.le_of_ble_eq_true rfl)⟩) ⟨tk_blind, fun U hU hW => ⟨rfl, tk_mk hP hD hS hA hE hR hX [] [] rfl rfl rfl rfl U hU hW⟩⟩ rfl rfl hl.1 rfl (lv_room (Nat.le_of_ble_eq_true rfl)) dJ5_grow_2_27 ⟨(Nat.le_of_ble_eq_true rfl), (Nat.le_of_ble_eq_true rfl)⟩) hS (fun q _ h => (va_free hD hS hA [] rfl) q h) (va_free hD hS hA [] rfl) (fun zr zu zt H1 zl zht zvm zw zB zz zk zS => ?_)
  have zw := Eq.symm zw
  subst zw
  obtain ⟨hP, hD⟩ := tk_join hP hD zk [] rfl rfl (va_free hD hS hA [] rfl) (zht ▸ zB.1) zB.2 (Nat.le_of_ble_eq_true rfl)
  have hS := zS
  generalize H1 = H at hP hS ⊢
  refine lv_istore_n (lv' := [(3, .int 15), (2, .int 10), (0, .ref h0), (1, .int 11)]) hx hb dJ5_grow_2_30 rfl hl (Nat.le_of_ble_eq_true rfl) rfl (fun ls hl => ?_)
  have hP : va_P D tkCl [(h0, .inr (13, oJ5 r0 i0)), ((r0 1), tk_ra ar 10 f)] H := hP
  have hD : va_D A [(h0, .inr (13, oJ5 r0 i0)), ((r0 1), tk_ra ar 10 f)] := hD
  refine lv_aload_n hx hb dJ5_grow_2_31 rfl (lv_at hl 2 rfl) ?_
  refine lv_aload_n hx hb dJ5_grow_2_32 rfl (lv_at hl 2 rfl) ?_
  refine va_get (D := D) (ci := 13) (v := .ref (r0 1)) (C := RJ5) (T := TJ5) (N := 3) hx hb hts in_J5 hown hK hP 0 rfl rfl 1 (by decide) (hts _ q300) (fun _ h9 => h9) rfl dJ5_grow_2_33 ?_
  refine lv_iload_n hx hb dJ5_grow_2_36 rfl (lv_at hl 0 rfl) ?_
  refine va_callr (va_runS (As := [.ref (r0 1), .int 15]) (rest := [.ref h0]) ⟨hx, hb, hml, hown, hts⟩ (mJ6_copyOf_C (l := l) (D := D) (ar := ar) (ad := ad) (xs := xs) (sz := H.size) (h2 := r0 1) (f := f) (hel := hel)) (va_cwS 2 hts (lw_S q852 q853 q100 q854) rfl rfl rfl (by decide +kernel) ⟨(Nat.le_of_ble_eq_true rfl), (Nat.le_of_ble_eq_true rfl)⟩) ⟨tk_blind, fun U hU hW => ⟨rfl, tk_mk hP hD hS hA hE hR hX [1] [] rfl rfl rfl rfl U hU hW⟩⟩ rfl rfl hl.1 rfl (lv_room (Nat.le_of_ble_eq_true rfl)) dJ5_grow_2_37 ⟨(Nat.le_of_ble_eq_true rfl), (Nat.le_of_ble_eq_true rfl)⟩) hS (fun q _ h => (va_free hD hS hA [1] rfl) q h) (va_free hD hS hA [1] rfl) (fun zu zr zt H1 zl zht zvm zw zB zz zk zS => ?_)
  obtain ⟨zr9, zB⟩ := zB
  have zr9 := Eq.symm zr9
  subst zr9
  obtain ⟨hP, hD⟩ := tk_join hP hD zk [1] rfl rfl (va_free hD hS hA [1] rfl) (zht ▸ zB.1) zB.2 (Nat.le_of_ble_eq_true rfl)
  have hS := zS
  generalize H1 = H at hP hS ⊢
  obtain ⟨n37, rfl⟩ : ∃ z, z = zu := ⟨_, rfl⟩
  have hP : va_P D tkCl [(h0, .inr (13, oJ5 r0 i0)), ((r0 1), tk_ra ar 10 f), (n37, tk_ra ar 15 (va_cpy f (fun _ => none) (0 : Int32).toNatClampNeg (0 : Int32).toNatClampNeg (10 : Int32).toNatClampNeg))] H := hP
  have hD : va_D A [(h0, .inr (13, oJ5 r0 i0)), ((r0 1), tk_ra ar 10 f), (n37, tk_ra ar 15 (va_cpy f (fun _ => none) (0 : Int32).toNatClampNeg (0 : Int32).toNatClampNeg (10 : Int32).toNatClampNeg))] := hD
  refine lv_dup_x1 hx hb dJ5_grow_2_40 rfl rfl ?_
  refine va_put (D := D) (ci := 13) (v := .ref n37) (ty := (.array (.object "java/lang/Object"))) (C := RJ5) (T := TJ5) (N := 3) hx hb hts in_J5 tyJ5 tyJ5_ok nmJ5 hown hK hP hD hS 0 rfl rfl 1 (by decide) (hts _ q300) (fun _ h9 => h9) rfl (by decide +kernel) rfl rfl (Nat.le_of_ble_eq_true rfl) dJ5_grow_2_41 (fun H locs hP hD hS => ?_)
  have hP : va_P D tkCl [(h0, .inr (13, oJ5 (tur r0 1 n37) i0)), (r0 1, tk_ra ar 10 f), (n37, tk_ra ar 15 (va_cpy f (fun _ => none) (0 : Int32).toNatClampNeg (0 : Int32).toNatClampNeg (10 : Int32).toNatClampNeg))] H := hP
  have hD : va_D A [(h0, .inr (13, oJ5 (tur r0 1 n37) i0)), (r0 1, tk_ra ar 10 f), (n37, tk_ra ar 15 (va_cpy f (fun _ => none) (0 : Int32).toNatClampNeg (0 : Int32).toNatClampNeg (10 : Int32).toNatClampNeg))] := hD
  exact W.aret (v := .ref n37) hx hb hr (Or.inr ⟨_, rfl⟩) (Or.inr ⟨_, rfl⟩) (fun t ht hW => ⟨⟨n37, _, rfl, trivial, rfl, tk_pst ht hP hD⟩, hS.F ht⟩) hS.2.2 dJ5_grow_2_44
set_option maxHeartbeats 4000000 in
theorem mJ5_grow_C (l : Launch) (D : va_G) (ar : Nat → ClassId) (ad : Nat → Nat → Nat) (xs : va_W) (sz : Nat) (h0 : Nat) (r0 : Nat → Nat) (i0 : Nat → Int32) (f : Nat → Option Nat) (hi2 : i0 2 = 10) (hel : ∀ k : Nat, k < 10 → ∃ (a9 ci9 : Nat) (fs9 : List Value) (C8 : String) (T8 : u_T) (N8 : Nat), f k = some a9 ∧ (a9, Sum.inr (ci9, fs9)) ∈ xs ∧ tkCl[ci9]? = some (C8, T8, N8) ∧ Cond.castable C8 "java/lang/Object" ∈ lw_tbl) : Met l yJ5_grow (ws_ yJ5_grow cJ5_grow 1 (some (.array (.object "java/lang/Object")))) ({ frames := 4, cells := 1, slots := 15, locals := 180 }) (va_Pc [.ref h0] (tk_Pre D ar ad [(h0, .inr (13, oJ5 r0 i0)), ((r0 1), tk_ra ar 10 f)] [] xs sz)) (va_Qr (fun _ : Nat => True) (fun z ra t => ra = z ∧ tk_Post D (va_A [(h0, .inr (13, oJ5 r0 i0)), ((r0 1), tk_ra ar 10 f)] sz) [(h0, .inr (13, oJ5 (tur r0 1 z) i0)), (r0 1, tk_ra ar 10 f), (z, tk_ra ar 15 (va_cpy f (fun _ => none) (0 : Int32).toNatClampNeg (0 : Int32).toNatClampNeg (10 : Int32).toNatClampNeg))] t) (va_A [(h0, .inr (13, oJ5 r0 i0)), ((r0 1), tk_ra ar 10 f)] sz)) 1 15 (va_A [(h0, .inr (13, oJ5 r0 i0)), ((r0 1), tk_ra ar 10 f)] sz) := by
  refine Met.ofW (cc := cJ5_grow) (maxL := 1) (ret := (some (.array (.object "java/lang/Object")))) (by decide) rfl ?_
  intro p e s m args below meth c s₁ B hml hv
  obtain ⟨rfl, hsz, hP, hD0, hR, hX, hE⟩ := hv
  have hx := B.exec
  have hb := B.bytes
  have hr := B.returns
  have hts := atoms_spec (ws := (ws_ yJ5_grow cJ5_grow 1 (some (.array (.object "java/lang/Object"))))) B.pre
  have hts : ∀ w ∈ lw_all, w.before _ s = true := fun w h => hts w (List.mem_cons_of_mem _ h)
  have hown : s.vm.findClass RJ5 = some m.cls := findClass_of_methodNamed B.named
  have hlocks := B.notSynchronized
  subst hsz
  have hD := hD0.self (sz := s.heap.size)
  generalize hAe : va_A [(h0, .inr (13, oJ5 r0 i0)), ((r0 1), tk_ra ar 10 f)] s.heap.size = A at hD hR hX hE ⊢
  have hA : ∀ q : Nat, s.heap.size ≤ q → A q := fun q h => by rw [← hAe]; exact Or.inr h
  have hS : va_S A s.heap s.heap [] := va_S.rf
  have hK := hE.1
  have hl := lv_entry ([.ref h0]) (n := 1) (Nat.le_of_ble_eq_true rfl)
  rw [lg_entry_eq]
  generalize (lg_sl ([.ref h0]) ++ List.replicate (1 - (lg_sl ([.ref h0])).length) Slot.unset).toArray = ls at hl ⊢
  have hl : lv_has ls 1 [(0, .ref h0)] := hl
  refine lv_aload_n hx hb dJ5_grow_0 rfl (lv_at hl 0 rfl) ?_
  refine lv_aload_n hx hb dJ5_grow_1 rfl (lv_at hl 0 rfl) ?_
  refine va_get (D := D) (ci := 13) (v := .int (i0 2)) (C := RJ5) (T := TJ5) (N := 3) hx hb hts in_J5 hown hK hP 0 rfl rfl 2 (by decide) (hts _ q301) (fun _ h9 => h9) rfl dJ5_grow_2 ?_
  refine lv_iconst (v := 1) hx hb dJ5_grow_5 (by decide) ?_
  refine lv_iadd hx hb dJ5_grow_6 ?_
  refine W.eq (g2 := F0 m 7 ls [.int 11, .ref h0]) (by rw [hi2]; rfl) ?_
  refine va_callr (va_runV (As := [.int 11]) (rest := []) ⟨hx, hb, hml, hown, hts⟩ (mJ5_grow_2_C (l := l) (D := D) (ar := ar) (ad := ad) (xs := xs) (sz := s.heap.size) (h0 := h0) (r0 := r0) (i0 := i0) (f := f) (hel := hel)) (cwV 1 hts (lw_V q838 q840 qs10 q98 q841) rfl rfl rfl (by decide +kernel) ⟨(Nat.le_of_ble_eq_true rfl), (Nat.le_of_ble_eq_true rfl)⟩) ⟨tk_blind, va_recv hK hP (ci := 13) (q0 := 0) rfl rfl, fun U hU hW => ⟨rfl, tk_mk hP hD hS hA hE hR hX [0, 1] [] rfl rfl rfl rfl U hU hW⟩⟩ rfl rfl hl.1 rfl (lv_room (Nat.le_of_ble_eq_true rfl)) dJ5_grow_7 ⟨(Nat.le_of_ble_eq_true rfl), (Nat.le_of_ble_eq_true rfl)⟩) hS (fun q _ h => (va_free hD hS hA [0, 1] rfl) q h) (va_free hD hS hA [0, 1] rfl) (fun zu zr zt H1 zl zht zvm zw zB zz zk zS => ?_)
  obtain ⟨zr9, zB⟩ := zB
  have zr9 := Eq.symm zr9
  subst zr9
  obtain ⟨hP, hD⟩ := tk_join hP hD zk [0, 1] rfl rfl (va_free hD hS hA [0, 1] rfl) (zht ▸ zB.1) zB.2 (Nat.le_of_ble_eq_true rfl)
  have hS := zS
  generalize H1 = H at hP hS ⊢
  exact W.aret (v := .ref zu) hx hb hr (Or.inr ⟨_, rfl⟩) (Or.inr ⟨_, rfl⟩) (fun t ht hW => ⟨⟨zu, _, rfl, trivial, rfl, tk_pst ht hP hD⟩, hS.F ht⟩) hS.2.2 dJ5_grow_10
set_option maxHeartbeats 4000000 in
theorem mJ5_add_2_C (l : Launch) (D : va_G) (ar : Nat → ClassId) (ad : Nat → Nat → Nat) (xs : va_W) (sz : Nat) (h0 : Nat) (r0 : Nat → Nat) (i0 : Nat → Int32) (f : Nat → Option Nat) (v ci : Nat) (vfs : List Value) (C9 : String) (T9 : u_T) (N9 : Nat)  (hc9 : tkCl[ci]? = some (C9, T9, N9)) (hca : Cond.castable C9 "java/lang/Object" ∈ lw_tbl) (hi2 : i0 2 = 10) (hel : ∀ k : Nat, k < 10 → ∃ (a9 ci9 : Nat) (fs9 : List Value) (C8 : String) (T8 : u_T) (N8 : Nat), f k = some a9 ∧ (a9, Sum.inr (ci9, fs9)) ∈ xs ∧ tkCl[ci9]? = some (C8, T8, N8) ∧ Cond.castable C8 "java/lang/Object" ∈ lw_tbl) : Met l yJ5_add_2 (ws_ yJ5_add_2 cJ5_add_2 4 none) ({ frames := 5, cells := 1, slots := 15, locals := 220 }) (va_Pc [.ref h0, .ref v, .ref (r0 1), .int 10] (tk_Pre D ar ad [(h0, .inr (13, oJ5 r0 i0)), ((r0 1), tk_ra ar 10 f)] [(v, .inr (ci, vfs))] xs sz)) (va_Qv (fun _ : Nat => True) (fun z t => tk_Post D (va_A [(h0, .inr (13, oJ5 r0 i0)), ((r0 1), tk_ra ar 10 f)] sz) [(h0, .inr (13, oJ5 (tur r0 1 z) (tu i0 2 11))), (r0 1, tk_ra ar 10 f), (z, tk_ra ar 15 (va_up (va_cpy f (fun _ => none) (0 : Int32).toNatClampNeg (0 : Int32).toNatClampNeg (10 : Int32).toNatClampNeg) (10 : Int32).toNatClampNeg (some v)))] t) (va_A [(h0, .inr (13, oJ5 r0 i0)), ((r0 1), tk_ra ar 10 f)] sz)) 1 15 (va_A [(h0, .inr (13, oJ5 r0 i0)), ((r0 1), tk_ra ar 10 f)] sz) := by
  refine Met.ofW (cc := cJ5_add_2) (maxL := 4) (ret := none) (by decide) rfl ?_
  intro p e s m args below meth c s₁ B hml hv
  obtain ⟨rfl, hsz, hP, hD0, hR, hX, hE⟩ := hv
  have hx := B.exec
  have hb := B.bytes
  have hr := B.returns
  have hts := atoms_spec (ws := (ws_ yJ5_add_2 cJ5_add_2 4 none)) B.pre
  have hts : ∀ w ∈ lw_all, w.before _ s = true := fun w h => hts w (List.mem_cons_of_mem _ h)
  have hown : s.vm.findClass RJ5 = some m.cls := findClass_of_methodNamed B.named
  have hlocks := B.notSynchronized
  subst hsz
  have hD := hD0.self (sz := s.heap.size)
  generalize hAe : va_A [(h0, .inr (13, oJ5 r0 i0)), ((r0 1), tk_ra ar 10 f)] s.heap.size = A at hD hR hX hE ⊢
  have hA : ∀ q : Nat, s.heap.size ≤ q → A q := fun q h => by rw [← hAe]; exact Or.inr h
  have hS : va_S A s.heap s.heap [] := va_S.rf
  have hK := hE.1
  have hl := lv_entry ([.ref h0, .ref v, .ref (r0 1), .int 10]) (n := 4) (Nat.le_of_ble_eq_true rfl)
  rw [lg_entry_eq]
  generalize (lg_sl ([.ref h0, .ref v, .ref (r0 1), .int 10]) ++ List.replicate (4 - (lg_sl ([.ref h0, .ref v, .ref (r0 1), .int 10])).length) Slot.unset).toArray = ls at hl ⊢
  have hl : lv_has ls 4 [(0, .ref h0), (1, .ref v), (2, .ref (r0 1)), (3, .int 10)] := hl
  refine lv_iload_n hx hb dJ5_add_2_0 rfl (lv_at hl 3 rfl) ?_
  refine lv_aload_n hx hb dJ5_add_2_1 rfl (lv_at hl 2 rfl) ?_
  refine va_alen (v := 10) hx hb hK hP 1 3 rfl rfl rfl dJ5_add_2_2 ?_
  refine lv_icmp_ne (tgt := 11) hx hb dJ5_add_2_3 (by decide) (fun c => absurd rfl c) (fun _ => ?_)
  refine lv_aload_n hx hb dJ5_add_2_6 rfl (lv_at hl 0 rfl) ?_
  refine va_callr (va_runV (As := []) (rest := []) ⟨hx, hb, hml, hown, hts⟩ (mJ5_grow_C (l := l) (D := D) (ar := ar) (ad := ad) (xs := xs) (sz := s.heap.size) (h0 := h0) (r0 := r0) (i0 := i0) (f := f) (hi2 := hi2) (hel := hel)) (cwV 0 hts (lw_V q834 q836 qs9 q98 q837) rfl rfl rfl (by decide +kernel) ⟨(Nat.le_of_ble_eq_true rfl), (Nat.le_of_ble_eq_true rfl)⟩) ⟨tk_blind, va_recv hK hP (ci := 13) (q0 := 0) rfl rfl, fun U hU hW => ⟨rfl, tk_mk hP hD hS hA hE hR hX [0, 1] [] rfl rfl rfl rfl U hU hW⟩⟩ rfl rfl hl.1 rfl (lv_room (Nat.le_of_ble_eq_true rfl)) dJ5_add_2_7 ⟨(Nat.le_of_ble_eq_true rfl), (Nat.le_of_ble_eq_true rfl)⟩) hS (fun q _ h => (va_free hD hS hA [0, 1] rfl) q h) (va_free hD hS hA [0, 1] rfl) (fun zu zr zt H1 zl zht zvm zw zB zz zk zS => ?_)
  obtain ⟨zr9, zB⟩ := zB
  have zr9 := Eq.symm zr9
  subst zr9
  obtain ⟨hP, hD⟩ := tk_join hP hD zk [0, 1] rfl rfl (va_free hD hS hA [0, 1] rfl) (zht ▸ zB.1) zB.2 (Nat.le_of_ble_eq_true rfl)
  have hS := zS
  generalize H1 = H at hP hS ⊢
  obtain ⟨n7, rfl⟩ : ∃ z, z = zu := ⟨_, rfl⟩
  have hP : va_P D tkCl [(h0, .inr (13, oJ5 (tur r0 1 n7) i0)), (r0 1, tk_ra ar 10 f), (n7, tk_ra ar 15 (va_cpy f (fun _ => none) (0 : Int32).toNatClampNeg (0 : Int32).toNatClampNeg (10 : Int32).toNatClampNeg))] H := hP
  have hD : va_D A [(h0, .inr (13, oJ5 (tur r0 1 n7) i0)), (r0 1, tk_ra ar 10 f), (n7, tk_ra ar 15 (va_cpy f (fun _ => none) (0 : Int32).toNatClampNeg (0 : Int32).toNatClampNeg (10 : Int32).toNatClampNeg))] := hD
  refine lv_astore_n (lv' := [(2, .ref n7), (0, .ref h0), (1, .ref v), (3, .int 10)]) hx hb dJ5_add_2_10 rfl hl (Nat.le_of_ble_eq_true rfl) rfl (fun ls hl => ?_)
  refine lv_aload_n hx hb dJ5_add_2_11 rfl (lv_at hl 0 rfl) ?_
  refine lv_iload_n hx hb dJ5_add_2_12 rfl (lv_at hl 3 rfl) ?_
  refine lv_aload_n hx hb dJ5_add_2_13 rfl (lv_at hl 2 rfl) ?_
  refine va_astqM hx hb hK hP hD hS 2 3 (E := "java/lang/Object") rfl rfl (va_rAny hK (hR.at hS) (q0 := 0) rfl hc9 (tk_asg (args := #[]) (hE.2.1.use hca rfl rfl))) (show tk_in 10 15 by decide) dJ5_add_2_14 (fun H locs hP hD hS => ?_)
  have hP : va_P D tkCl [(h0, .inr (13, oJ5 (tur r0 1 n7) i0)), (r0 1, tk_ra ar 10 f), (n7, tk_ra ar 15 (va_up (va_cpy f (fun _ => none) (0 : Int32).toNatClampNeg (0 : Int32).toNatClampNeg (10 : Int32).toNatClampNeg) (10 : Int32).toNatClampNeg (some v)))] H := hP
  have hD : va_D A [(h0, .inr (13, oJ5 (tur r0 1 n7) i0)), (r0 1, tk_ra ar 10 f), (n7, tk_ra ar 15 (va_up (va_cpy f (fun _ => none) (0 : Int32).toNatClampNeg (0 : Int32).toNatClampNeg (10 : Int32).toNatClampNeg) (10 : Int32).toNatClampNeg (some v)))] := hD
  refine lv_aload_n hx hb dJ5_add_2_15 rfl (lv_at hl 1 rfl) ?_
  refine lv_iload_n hx hb dJ5_add_2_16 rfl (lv_at hl 3 rfl) ?_
  refine lv_iconst (v := 1) hx hb dJ5_add_2_17 (by decide) ?_
  refine lv_iadd hx hb dJ5_add_2_18 ?_
  refine W.eq (g2 := F0 m 19 ls [.int 11, .ref h0]) (by rfl) ?_
  refine va_put (D := D) (ci := 13) (v := .int 11) (ty := .int) (C := RJ5) (T := TJ5) (N := 3) hx hb hts in_J5 tyJ5 tyJ5_ok nmJ5 hown hK hP hD hS 0 rfl rfl 2 (by decide) (hts _ q301) (fun _ h9 => h9) rfl (by decide +kernel) rfl rfl (Nat.le_of_ble_eq_true rfl) dJ5_add_2_19 (fun H locs hP hD hS => ?_)
  have hP : va_P D tkCl [(h0, .inr (13, oJ5 (tur r0 1 n7) (tu i0 2 11))), (r0 1, tk_ra ar 10 f), (n7, tk_ra ar 15 (va_up (va_cpy f (fun _ => none) (0 : Int32).toNatClampNeg (0 : Int32).toNatClampNeg (10 : Int32).toNatClampNeg) (10 : Int32).toNatClampNeg (some v)))] H := hP
  have hD : va_D A [(h0, .inr (13, oJ5 (tur r0 1 n7) (tu i0 2 11))), (r0 1, tk_ra ar 10 f), (n7, tk_ra ar 15 (va_up (va_cpy f (fun _ => none) (0 : Int32).toNatClampNeg (0 : Int32).toNatClampNeg (10 : Int32).toNatClampNeg) (10 : Int32).toNatClampNeg (some v)))] := hD
  exact W.vret hx hb hr (fun t ht hW => ⟨⟨n7, rfl, trivial, tk_pst ht hP hD⟩, hS.F ht⟩) hS.2.2 dJ5_add_2_22
set_option maxHeartbeats 4000000 in
theorem mJ5_add_C (l : Launch) (D : va_G) (ar : Nat → ClassId) (ad : Nat → Nat → Nat) (xs : va_W) (sz : Nat) (h0 : Nat) (r0 : Nat → Nat) (i0 : Nat → Int32) (f : Nat → Option Nat) (v ci : Nat) (vfs : List Value) (C9 : String) (T9 : u_T) (N9 : Nat)  (hc9 : tkCl[ci]? = some (C9, T9, N9)) (hca : Cond.castable C9 "java/lang/Object" ∈ lw_tbl) (hi2 : i0 2 = 10) (hel : ∀ k : Nat, k < 10 → ∃ (a9 ci9 : Nat) (fs9 : List Value) (C8 : String) (T8 : u_T) (N8 : Nat), f k = some a9 ∧ (a9, Sum.inr (ci9, fs9)) ∈ xs ∧ tkCl[ci9]? = some (C8, T8, N8) ∧ Cond.castable C8 "java/lang/Object" ∈ lw_tbl) : Met l yJ5_add (ws_ yJ5_add cJ5_add 2 (some .boolean)) ({ frames := 6, cells := 1, slots := 15, locals := 300 }) (va_Pc [.ref h0, .ref v] (tk_Pre D ar ad [(h0, .inr (13, oJ5 r0 i0)), ((r0 1), tk_ra ar 10 f)] [(v, .inr (ci, vfs))] xs sz)) (va_Qi (fun (zr : Int32) (z : Nat) => zr = 1) (fun z t => tk_Post D (va_A [(h0, .inr (13, oJ5 r0 i0)), ((r0 1), tk_ra ar 10 f)] sz) [(h0, .inr (13, oJ5 (tur r0 1 z) (tu (tu i0 0 (i0 0 + 1)) 2 11))), (r0 1, tk_ra ar 10 f), (z, tk_ra ar 15 (va_up (va_cpy f (fun _ => none) (0 : Int32).toNatClampNeg (0 : Int32).toNatClampNeg (10 : Int32).toNatClampNeg) (10 : Int32).toNatClampNeg (some v)))] t) (va_A [(h0, .inr (13, oJ5 r0 i0)), ((r0 1), tk_ra ar 10 f)] sz)) 1 15 (va_A [(h0, .inr (13, oJ5 r0 i0)), ((r0 1), tk_ra ar 10 f)] sz) := by
  refine Met.ofW (cc := cJ5_add) (maxL := 2) (ret := (some .boolean)) (by decide) rfl ?_
  intro p e s m args below meth c s₁ B hml hv
  obtain ⟨rfl, hsz, hP, hD0, hR, hX, hE⟩ := hv
  have hx := B.exec
  have hb := B.bytes
  have hr := B.returns
  have hts := atoms_spec (ws := (ws_ yJ5_add cJ5_add 2 (some .boolean))) B.pre
  have hts : ∀ w ∈ lw_all, w.before _ s = true := fun w h => hts w (List.mem_cons_of_mem _ h)
  have hown : s.vm.findClass RJ5 = some m.cls := findClass_of_methodNamed B.named
  have hlocks := B.notSynchronized
  subst hsz
  have hD := hD0.self (sz := s.heap.size)
  generalize hAe : va_A [(h0, .inr (13, oJ5 r0 i0)), ((r0 1), tk_ra ar 10 f)] s.heap.size = A at hD hR hX hE ⊢
  have hA : ∀ q : Nat, s.heap.size ≤ q → A q := fun q h => by rw [← hAe]; exact Or.inr h
  have hS : va_S A s.heap s.heap [] := va_S.rf
  have hK := hE.1
  have hl := lv_entry ([.ref h0, .ref v]) (n := 2) (Nat.le_of_ble_eq_true rfl)
  rw [lg_entry_eq]
  generalize (lg_sl ([.ref h0, .ref v]) ++ List.replicate (2 - (lg_sl ([.ref h0, .ref v])).length) Slot.unset).toArray = ls at hl ⊢
  have hl : lv_has ls 2 [(0, .ref h0), (1, .ref v)] := hl
  refine lv_aload_n hx hb dJ5_add_0 rfl (lv_at hl 0 rfl) ?_
  refine lv_dup hx hb dJ5_add_1 rfl ?_
  refine va_get (D := D) (ci := 13) (v := .int (i0 0)) (C := RJ5) (T := TJ5) (N := 3) hx hb hts in_J5 hown hK hP 0 rfl rfl 0 (by decide) (hts _ q303) (fun x9 h9 => u_same (hts _ q304) x9 h9) rfl dJ5_add_2 ?_
  refine lv_iconst (v := 1) hx hb dJ5_add_5 (by decide) ?_
  refine lv_iadd hx hb dJ5_add_6 ?_
  refine va_put (D := D) (ci := 13) (v := .int (i0 0 + 1)) (ty := .int) (C := RJ5) (T := TJ5) (N := 3) hx hb hts in_J5 tyJ5 tyJ5_ok nmJ5 hown hK hP hD hS 0 rfl rfl 0 (by decide) (hts _ q303) (fun x9 h9 => u_same (hts _ q304) x9 h9) rfl (by decide +kernel) rfl rfl (Nat.le_of_ble_eq_true rfl) dJ5_add_7 (fun H locs hP hD hS => ?_)
  have hP : va_P D tkCl [(h0, .inr (13, oJ5 r0 (tu i0 0 (i0 0 + 1)))), ((r0 1), tk_ra ar 10 f)] H := hP
  have hD : va_D A [(h0, .inr (13, oJ5 r0 (tu i0 0 (i0 0 + 1)))), ((r0 1), tk_ra ar 10 f)] := hD
  refine lv_aload_n hx hb dJ5_add_10 rfl (lv_at hl 0 rfl) ?_
  refine lv_aload_n hx hb dJ5_add_11 rfl (lv_at hl 1 rfl) ?_
  refine lv_aload_n hx hb dJ5_add_12 rfl (lv_at hl 0 rfl) ?_
  refine va_get (D := D) (ci := 13) (v := .ref (r0 1)) (C := RJ5) (T := TJ5) (N := 3) hx hb hts in_J5 hown hK hP 0 rfl rfl 1 (by decide) (hts _ q300) (fun _ h9 => h9) rfl dJ5_add_13 ?_
  refine lv_aload_n hx hb dJ5_add_16 rfl (lv_at hl 0 rfl) ?_
  refine va_get (D := D) (ci := 13) (v := .int (i0 2)) (C := RJ5) (T := TJ5) (N := 3) hx hb hts in_J5 hown hK hP 0 rfl rfl 2 (by decide) (hts _ q301) (fun _ h9 => h9) rfl dJ5_add_17 ?_
  refine W.eq (g2 := F0 m 20 ls [.int 10, .ref (r0 1), .ref v, .ref h0]) (by rw [hi2]) ?_
  refine va_callv (va_runV (As := [.ref v, .ref (r0 1), .int 10]) (rest := []) ⟨hx, hb, hml, hown, hts⟩ (mJ5_add_2_C (l := l) (D := D) (ar := ar) (ad := ad) (xs := xs) (sz := H.size) (h0 := h0) (r0 := r0) (i0 := (tu i0 0 (i0 0 + 1))) (f := f) (v := v) (ci := ci) (vfs := vfs) (C9 := C9) (T9 := T9) (N9 := N9) (hc9 := hc9) (hca := hca) (hi2 := hi2) (hel := hel)) (cwV 3 hts (lw_V q830 q832 qs8 q98 q833) rfl rfl rfl (by decide +kernel) ⟨(Nat.le_of_ble_eq_true rfl), (Nat.le_of_ble_eq_true rfl)⟩) ⟨tk_blind, va_recv hK hP (ci := 13) (q0 := 0) rfl rfl, fun U hU hW => ⟨rfl, tk_mk hP hD hS hA hE hR hX [0, 1] [2] rfl rfl rfl rfl U hU hW⟩⟩ rfl rfl hl.1 rfl (lv_room (Nat.le_of_ble_eq_true rfl)) dJ5_add_20 ⟨(Nat.le_of_ble_eq_true rfl), (Nat.le_of_ble_eq_true rfl)⟩) hS (fun q _ h => (va_free hD hS hA [0, 1] rfl) q h) (va_free hD hS hA [0, 1] rfl) (fun zu zt H1 zl zht zvm zw zB zz zk zS => ?_)
  obtain ⟨hP, hD⟩ := tk_join hP hD zk [0, 1] rfl rfl (va_free hD hS hA [0, 1] rfl) (zht ▸ zB.1) zB.2 (Nat.le_of_ble_eq_true rfl)
  have hS := zS
  generalize H1 = H at hP hS ⊢
  refine lv_iconst (v := 1) hx hb dJ5_add_23 (by decide) ?_
  exact W.zret (v := 1) hx hb hr (by decide) (fun t ht hW => ⟨⟨_, zu, rfl, rfl, tk_pst ht hP hD⟩, hS.F ht⟩) hS.2.2 dJ5_add_24