set_option maxRecDepth 100000
noncomputable def fJ5_size (size : Int32) : Option (Int32) := some size
abbrev VX6_is : Type := Int32 × Int32 × Int32
abbrev OX6_is : Type := Int32
noncomputable def bX6_is_1 (v_from behind v_hand : Int32) (tape : Nat → Int32) (p0 : Nat) : Option ((Nat × VX6_is) ⊕ OX6_is) := some (.inl (2, (0, 0, 0)))
noncomputable def bX6_is_2 (v_from behind v_hand : Int32) (tape : Nat → Int32) (p0 : Nat) (s0 : Int32) : Option ((Nat × VX6_is) ⊕ OX6_is) := some (.inl (3, (0, s0, 0)))
noncomputable def bX6_is_3 (v_from behind v_hand : Int32) (tape : Nat → Int32) (p0 : Nat) (x2 x3 : Int32) : Option ((Nat × VX6_is) ⊕ OX6_is) := if (Int32.ofNat (tk_sq p0).length) ≤ x3 then (if vp_nar .boolean x2 = x2 then (some (.inr x2)) else none) else (if x2 = 0 then (if vp_nar .boolean x2 = x2 then (some (.inr x2)) else none) else (if tk_in (v_from + x3) 900 then (if tk_in x3 (tk_sq p0).length then (if (tape (v_from + x3).toNatClampNeg) = ((tk_sq p0).getD x3.toNatClampNeg 0) then (some (.inl (4, (1, 0, x3)))) else (some (.inl (4, (0, 0, x3))))) else none) else none))
noncomputable def bX6_is_4 (v_from behind v_hand : Int32) (tape : Nat → Int32) (p0 : Nat) (x3 s0 : Int32) : Option ((Nat × VX6_is) ⊕ OX6_is) := some (.inl (3, (0, s0, x3 + 1)))
noncomputable def bX6_is_0 (v_from behind v_hand : Int32) (tape : Nat → Int32) (p0 : Nat) : Option ((Nat × VX6_is) ⊕ OX6_is) := if v_hand = 1 then (if (behind - v_from) = (Int32.ofNat (tk_sq p0).length) then (some (.inl (2, (1, 0, 0)))) else (some (.inl (1, (0, 0, 0))))) else (some (.inl (1, (0, 0, 0))))
noncomputable def stX6_is (v_from behind v_hand : Int32) (tape : Nat → Int32) (p0 : Nat) (z : Nat × VX6_is) : Option ((Nat × VX6_is) ⊕ OX6_is) := match z.1 with
  | 1 => bX6_is_1 v_from behind v_hand tape p0
  | 2 => bX6_is_2 v_from behind v_hand tape p0 z.2.1
  | 3 => bX6_is_3 v_from behind v_hand tape p0 z.2.2.1 z.2.2.2
  | 4 => bX6_is_4 v_from behind v_hand tape p0 z.2.2.2 z.2.1
  | _ => none
noncomputable def fX6_is_1 (v_from behind v_hand : Int32) (tape : Nat → Int32) (p0 : Nat) : Option OX6_is := tk_lp (stX6_is v_from behind v_hand tape p0) (1, (0, 0, 0))
noncomputable def fX6_is_2 (v_from behind v_hand : Int32) (tape : Nat → Int32) (p0 : Nat) (s0 : Int32) : Option OX6_is := tk_lp (stX6_is v_from behind v_hand tape p0) (2, (s0, 0, 0))
noncomputable def fX6_is_3 (v_from behind v_hand : Int32) (tape : Nat → Int32) (p0 : Nat) (x2 x3 : Int32) : Option OX6_is := tk_lp (stX6_is v_from behind v_hand tape p0) (3, (0, x2, x3))
noncomputable def fX6_is_4 (v_from behind v_hand : Int32) (tape : Nat → Int32) (p0 : Nat) (x3 s0 : Int32) : Option OX6_is := tk_lp (stX6_is v_from behind v_hand tape p0) (4, (s0, 0, x3))
noncomputable def fX6_is (v_from behind v_hand : Int32) (tape : Nat → Int32) (p0 : Nat) : Option OX6_is := tk_fin (stX6_is v_from behind v_hand tape p0) (bX6_is_0 v_from behind v_hand tape p0)
theorem fX6_is_1_eq (v_from behind v_hand : Int32) (tape : Nat → Int32) (p0 : Nat) : fX6_is_1 v_from behind v_hand tape p0 = fX6_is_2 v_from behind v_hand tape p0 0 := by
  unfold fX6_is_1
  rw [tk_lp_eq]
  show tk_fin _ (bX6_is_1 v_from behind v_hand tape p0) = _
  unfold bX6_is_1
  simp only [tk_fin_t, tk_fin_b, tk_fin_l, tk_fin_n, tk_fin_i, tk_fin_r, fX6_is_2]
  try rfl
theorem fX6_is_2_eq (v_from behind v_hand : Int32) (tape : Nat → Int32) (p0 : Nat) (s0 : Int32) : fX6_is_2 v_from behind v_hand tape p0 s0 = fX6_is_3 v_from behind v_hand tape p0 s0 0 := by
  unfold fX6_is_2
  rw [tk_lp_eq]
  show tk_fin _ (bX6_is_2 v_from behind v_hand tape p0 s0) = _
  unfold bX6_is_2
  simp only [tk_fin_t, tk_fin_b, tk_fin_l, tk_fin_n, tk_fin_i, tk_fin_r, fX6_is_3]
  try rfl
theorem fX6_is_3_eq (v_from behind v_hand : Int32) (tape : Nat → Int32) (p0 : Nat) (x2 x3 : Int32) : fX6_is_3 v_from behind v_hand tape p0 x2 x3 = if (Int32.ofNat (tk_sq p0).length) ≤ x3 then (if vp_nar .boolean x2 = x2 then (some x2) else none) else (if x2 = 0 then (if vp_nar .boolean x2 = x2 then (some x2) else none) else (if tk_in (v_from + x3) 900 then (if tk_in x3 (tk_sq p0).length then (if (tape (v_from + x3).toNatClampNeg) = ((tk_sq p0).getD x3.toNatClampNeg 0) then (fX6_is_4 v_from behind v_hand tape p0 x3 1) else (fX6_is_4 v_from behind v_hand tape p0 x3 0)) else none) else none)) := by
  unfold fX6_is_3
  rw [tk_lp_eq]
  show tk_fin _ (bX6_is_3 v_from behind v_hand tape p0 x2 x3) = _
  unfold bX6_is_3
  simp only [tk_fin_t, tk_fin_b, tk_fin_l, tk_fin_n, tk_fin_i, tk_fin_r, fX6_is_4]
  try rfl
theorem fX6_is_4_eq (v_from behind v_hand : Int32) (tape : Nat → Int32) (p0 : Nat) (x3 s0 : Int32) : fX6_is_4 v_from behind v_hand tape p0 x3 s0 = fX6_is_3 v_from behind v_hand tape p0 s0 (x3 + 1) := by
  unfold fX6_is_4
  rw [tk_lp_eq]
  show tk_fin _ (bX6_is_4 v_from behind v_hand tape p0 x3 s0) = _
  unfold bX6_is_4
  simp only [tk_fin_t, tk_fin_b, tk_fin_l, tk_fin_n, tk_fin_i, tk_fin_r, fX6_is_3]
  try rfl
theorem fX6_is_eq (v_from behind v_hand : Int32) (tape : Nat → Int32) (p0 : Nat) : fX6_is v_from behind v_hand tape p0 = if v_hand = 1 then (if (behind - v_from) = (Int32.ofNat (tk_sq p0).length) then (fX6_is_2 v_from behind v_hand tape p0 1) else (fX6_is_1 v_from behind v_hand tape p0)) else (fX6_is_1 v_from behind v_hand tape p0) := by
  unfold fX6_is bX6_is_0
  simp only [tk_fin_t, tk_fin_b, tk_fin_l, tk_fin_n, tk_fin_i, tk_fin_r, fX6_is_1, fX6_is_2]
  try rfl
noncomputable def fX0_in (p0 p1 p2 : Int32) : Option (Int32) := if p0 < p1 then (some 0) else (if p2 < p0 then (some 0) else (some 1))
noncomputable def fX4_isDue (tide : Nat → Int32) (p0 : Int32) : Option (Int32) := if (tide (0 : Int32).toNatClampNeg) = (-1) then (some 0) else ((fX0_in p0 (tide (0 : Int32).toNatClampNeg) (tide (1 : Int32).toNatClampNeg)).bind (fun u2 => if u2 = 0 then (some 0) else (tk_l (p0 - (tide (0 : Int32).toNatClampNeg)) (fun y4 => if ¬ (tide (2 : Int32).toNatClampNeg) = 0 then (if (y4 - y4 / (tide (2 : Int32).toNatClampNeg) * (tide (2 : Int32).toNatClampNeg)) = 0 then (some 1) else (some 0)) else none))))
abbrev VX5_waves : Type := Int32 × Int32 × Int32 × Int64 × (Nat → Int32) × (Nat → Int32)
abbrev OX5_waves : Type := Int32 × Int32 × Int64 × (Nat → Int32) × (Nat → Int32)
noncomputable def bX5_waves_1 (minute cut : Int32) (wv : Nat → Nat → Int32) (size : Int32) (tide reach level : Nat → Int32) (columns rows : Int32) (stone : Nat → Int32) (x1 v_lost came : Int32) (chance : Int64) (wet height : Nat → Int32) : Option ((Nat × VX5_waves) ⊕ OX5_waves) := (fJ5_size size).bind (fun u1 => if u1 ≤ x1 then ((fX4_isDue tide minute).bind (fun u3 => if u3 = 0 then (some (.inr (v_lost, came, chance, wet, height))) else ((fX5_draw 100 chance).bind (fun u5 => if u5.1 < (tide (3 : Int32).toNatClampNeg) then ((fX5_draw (((reach (1 : Int32).toNatClampNeg) - (reach (0 : Int32).toNatClampNeg)) + 1) u5.2).bind (fun u7 => (fX5_draw (((level (1 : Int32).toNatClampNeg) - (level (0 : Int32).toNatClampNeg)) + 1) u7.2).bind (fun u8 => (fX5_wave columns rows stone cut ((reach (0 : Int32).toNatClampNeg) + u7.1) ((level (0 : Int32).toNatClampNeg) + u8.1) v_lost came wet height).bind (fun u9 => some (.inr (u9.1, u9.2.1, u8.2, u9.2.2.1, u9.2.2.2)))))) else (some (.inr (v_lost, came, u5.2, wet, height))))))) else (if tk_in x1 size.toNatClampNeg then (if (wv x1.toNatClampNeg 0) = minute then ((fX5_wave columns rows stone cut (wv x1.toNatClampNeg 1) (wv x1.toNatClampNeg 2) v_lost came wet height).bind (fun u16 => some (.inl (1, (x1 + 1, u16.1, u16.2.1, chance, u16.2.2.1, u16.2.2.2))))) else (some (.inl (1, (x1 + 1, v_lost, came, chance, wet, height))))) else none))
noncomputable def bX5_waves_0 (minute cut : Int32) (wv : Nat → Nat → Int32) (size : Int32) (tide reach level : Nat → Int32) (columns rows : Int32) (stone : Nat → Int32) (v_lost came : Int32) (chance : Int64) (wet height : Nat → Int32) : Option ((Nat × VX5_waves) ⊕ OX5_waves) := some (.inl (1, (0, v_lost, came, chance, wet, height)))
noncomputable def stX5_waves (minute cut : Int32) (wv : Nat → Nat → Int32) (size : Int32) (tide reach level : Nat → Int32) (columns rows : Int32) (stone : Nat → Int32) (z : Nat × VX5_waves) : Option ((Nat × VX5_waves) ⊕ OX5_waves) := match z.1 with
  | 1 => bX5_waves_1 minute cut wv size tide reach level columns rows stone z.2.1 z.2.2.1 z.2.2.2.1 z.2.2.2.2.1 z.2.2.2.2.2.1 z.2.2.2.2.2.2
  | _ => none
noncomputable def fX5_waves_1 (minute cut : Int32) (wv : Nat → Nat → Int32) (size : Int32) (tide reach level : Nat → Int32) (columns rows : Int32) (stone : Nat → Int32) (x1 v_lost came : Int32) (chance : Int64) (wet height : Nat → Int32) : Option OX5_waves := tk_lp (stX5_waves minute cut wv size tide reach level columns rows stone) (1, (x1, v_lost, came, chance, wet, height))
noncomputable def fX5_waves (minute cut : Int32) (wv : Nat → Nat → Int32) (size : Int32) (tide reach level : Nat → Int32) (columns rows : Int32) (stone : Nat → Int32) (v_lost came : Int32) (chance : Int64) (wet height : Nat → Int32) : Option OX5_waves := tk_fin (stX5_waves minute cut wv size tide reach level columns rows stone) (bX5_waves_0 minute cut wv size tide reach level columns rows stone v_lost came chance wet height)
theorem fX5_waves_1_eq (minute cut : Int32) (wv : Nat → Nat → Int32) (size : Int32) (tide reach level : Nat → Int32) (columns rows : Int32) (stone : Nat → Int32) (x1 v_lost came : Int32) (chance : Int64) (wet height : Nat → Int32) : fX5_waves_1 minute cut wv size tide reach level columns rows stone x1 v_lost came chance wet height = (fJ5_size size).bind (fun u1 => if u1 ≤ x1 then ((fX4_isDue tide minute).bind (fun u3 => if u3 = 0 then (some (v_lost, came, chance, wet, height)) else ((fX5_draw 100 chance).bind (fun u5 => if u5.1 < (tide (3 : Int32).toNatClampNeg) then ((fX5_draw (((reach (1 : Int32).toNatClampNeg) - (reach (0 : Int32).toNatClampNeg)) + 1) u5.2).bind (fun u7 => (fX5_draw (((level (1 : Int32).toNatClampNeg) - (level (0 : Int32).toNatClampNeg)) + 1) u7.2).bind (fun u8 => (fX5_wave columns rows stone cut ((reach (0 : Int32).toNatClampNeg) + u7.1) ((level (0 : Int32).toNatClampNeg) + u8.1) v_lost came wet height).bind (fun u9 => some (u9.1, u9.2.1, u8.2, u9.2.2.1, u9.2.2.2))))) else (some (v_lost, came, u5.2, wet, height)))))) else (if tk_in x1 size.toNatClampNeg then (if (wv x1.toNatClampNeg 0) = minute then ((fX5_wave columns rows stone cut (wv x1.toNatClampNeg 1) (wv x1.toNatClampNeg 2) v_lost came wet height).bind (fun u16 => fX5_waves_1 minute cut wv size tide reach level columns rows stone (x1 + 1) u16.1 u16.2.1 chance u16.2.2.1 u16.2.2.2)) else (fX5_waves_1 minute cut wv size tide reach level columns rows stone (x1 + 1) v_lost came chance wet height)) else none)) := by
  unfold fX5_waves_1
  rw [tk_lp_eq]
  show tk_fin _ (bX5_waves_1 minute cut wv size tide reach level columns rows stone x1 v_lost came chance wet height) = _
  unfold bX5_waves_1
  simp only [tk_fin_t, tk_fin_b, tk_fin_l, tk_fin_n, tk_fin_i, tk_fin_r, fX5_waves_1]
  try rfl
theorem fX5_waves_eq (minute cut : Int32) (wv : Nat → Nat → Int32) (size : Int32) (tide reach level : Nat → Int32) (columns rows : Int32) (stone : Nat → Int32) (v_lost came : Int32) (chance : Int64) (wet height : Nat → Int32) : fX5_waves minute cut wv size tide reach level columns rows stone v_lost came chance wet height = fX5_waves_1 minute cut wv size tide reach level columns rows stone 0 v_lost came chance wet height := by
  unfold fX5_waves bX5_waves_0
  simp only [tk_fin_t, tk_fin_b, tk_fin_l, tk_fin_n, tk_fin_i, tk_fin_r, fX5_waves_1]
  try rfl
abbrev VX5_work : Type := Int32 × Int32 × Int32 × Int32 × (Nat → Int32) × (Nat → Int32) × (Nat → Int32) × (Nat → Int32) × (Nat → Int32) × (Nat → Int32) × (Nat → Int32)
abbrev OX5_work : Type := (Nat → Int32) × (Nat → Int32) × (Nat → Int32) × (Nat → Int32) × (Nat → Int32) × (Nat → Int32) × (Nat → Int32)
noncomputable def bX5_work_1 (plan : Int32) (hn : Nat → Int32) (an : Nat → Nat → Int32) (av : Nat → Nat → Nat → Nat → Int32) (size : Int32) (numbers : Nat → Int32) (x2 x3 : Int32) (isResting nextAct height stone wet pack done : Nat → Int32) : Option ((Nat × VX5_work) ⊕ OX5_work) := if (hn plan.toNatClampNeg) ≤ x3 then (some (.inr (isResting, nextAct, height, stone, wet, pack, done))) else (if tk_in x3 4 then (if (isResting x3.toNatClampNeg) = 0 then (if tk_in x3 (hn plan.toNatClampNeg).toNatClampNeg then (if tk_in (nextAct x3.toNatClampNeg) (an plan.toNatClampNeg x3.toNatClampNeg).toNatClampNeg then ((fX5_act (av plan.toNatClampNeg x3.toNatClampNeg (nextAct x3.toNatClampNeg).toNatClampNeg 0) (av plan.toNatClampNeg x3.toNatClampNeg (nextAct x3.toNatClampNeg).toNatClampNeg 1) (av plan.toNatClampNeg x3.toNatClampNeg (nextAct x3.toNatClampNeg).toNatClampNeg 2) height stone wet pack).bind (fun u19 => if ¬ (an plan.toNatClampNeg x3.toNatClampNeg) = 0 then (tk_l (upd nextAct x3.toNatClampNeg (((nextAct x3.toNatClampNeg) + 1) - ((nextAct x3.toNatClampNeg) + 1) / (an plan.toNatClampNeg x3.toNatClampNeg) * (an plan.toNatClampNeg x3.toNatClampNeg))) (fun y21 => if x2 ≤ 0 then (some (.inl (2, (x2, x3, x3, 0, isResting, y21, u19.1, u19.2.1, u19.2.2.1, u19.2.2.2, upd done x3.toNatClampNeg ((done x3.toNatClampNeg) + 1))))) else (tk_l ((upd done x3.toNatClampNeg ((done x3.toNatClampNeg) + 1)) x3.toNatClampNeg) (fun y23 => if ¬ x2 = 0 then (if (y23 - y23 / x2 * x2) = 0 then (some (.inl (3, (x2, x3, x3, 1, isResting, y21, u19.1, u19.2.1, u19.2.2.1, u19.2.2.2, upd done x3.toNatClampNeg ((done x3.toNatClampNeg) + 1))))) else (some (.inl (2, (x2, x3, x3, 0, isResting, y21, u19.1, u19.2.1, u19.2.2.1, u19.2.2.2, upd done x3.toNatClampNeg ((done x3.toNatClampNeg) + 1)))))) else none)))) else none)) else none) else none) else (some (.inl (1, (x2, x3 + 1, 0, 0, upd isResting x3.toNatClampNeg 0, nextAct, height, stone, wet, pack, done))))) else none)
noncomputable def bX5_work_2 (plan : Int32) (hn : Nat → Int32) (an : Nat → Nat → Int32) (av : Nat → Nat → Nat → Nat → Int32) (size : Int32) (numbers : Nat → Int32) (x2 x3 s1 : Int32) (isResting nextAct height stone wet pack done : Nat → Int32) : Option ((Nat × VX5_work) ⊕ OX5_work) := some (.inl (3, (x2, x3, s1, 0, isResting, nextAct, height, stone, wet, pack, done)))
noncomputable def bX5_work_3 (plan : Int32) (hn : Nat → Int32) (an : Nat → Nat → Int32) (av : Nat → Nat → Nat → Nat → Int32) (size : Int32) (numbers : Nat → Int32) (x2 x3 s1 s2 : Int32) (isResting nextAct height stone wet pack done : Nat → Int32) : Option ((Nat × VX5_work) ⊕ OX5_work) := if tk_in s1 4 then (some (.inl (1, (x2, x3 + 1, 0, 0, upd isResting s1.toNatClampNeg (vp_nar .boolean s2), nextAct, height, stone, wet, pack, done)))) else none
noncomputable def bX5_work_0 (plan : Int32) (hn : Nat → Int32) (an : Nat → Nat → Int32) (av : Nat → Nat → Nat → Nat → Int32) (size : Int32) (numbers isResting nextAct height stone wet pack done : Nat → Int32) : Option ((Nat × VX5_work) ⊕ OX5_work) := if plan = (-1) then (some (.inr (isResting, nextAct, height, stone, wet, pack, done))) else (if tk_in plan size.toNatClampNeg then ((fX2_of numbers 5).bind (fun u5 => some (.inl (1, (u5, 0, 0, 0, isResting, nextAct, height, stone, wet, pack, done))))) else none)
noncomputable def stX5_work (plan : Int32) (hn : Nat → Int32) (an : Nat → Nat → Int32) (av : Nat → Nat → Nat → Nat → Int32) (size : Int32) (numbers : Nat → Int32) (z : Nat × VX5_work) : Option ((Nat × VX5_work) ⊕ OX5_work) := match z.1 with
  | 1 => bX5_work_1 plan hn an av size numbers z.2.1 z.2.2.1 z.2.2.2.2.2.1 z.2.2.2.2.2.2.1 z.2.2.2.2.2.2.2.1 z.2.2.2.2.2.2.2.2.1 z.2.2.2.2.2.2.2.2.2.1 z.2.2.2.2.2.2.2.2.2.2.1 z.2.2.2.2.2.2.2.2.2.2.2
  | 2 => bX5_work_2 plan hn an av size numbers z.2.1 z.2.2.1 z.2.2.2.1 z.2.2.2.2.2.1 z.2.2.2.2.2.2.1 z.2.2.2.2.2.2.2.1 z.2.2.2.2.2.2.2.2.1 z.2.2.2.2.2.2.2.2.2.1 z.2.2.2.2.2.2.2.2.2.2.1 z.2.2.2.2.2.2.2.2.2.2.2
  | 3 => bX5_work_3 plan hn an av size numbers z.2.1 z.2.2.1 z.2.2.2.1 z.2.2.2.2.1 z.2.2.2.2.2.1 z.2.2.2.2.2.2.1 z.2.2.2.2.2.2.2.1 z.2.2.2.2.2.2.2.2.1 z.2.2.2.2.2.2.2.2.2.1 z.2.2.2.2.2.2.2.2.2.2.1 z.2.2.2.2.2.2.2.2.2.2.2
  | _ => none
noncomputable def fX5_work_1 (plan : Int32) (hn : Nat → Int32) (an : Nat → Nat → Int32) (av : Nat → Nat → Nat → Nat → Int32) (size : Int32) (numbers : Nat → Int32) (x2 x3 : Int32) (isResting nextAct height stone wet pack done : Nat → Int32) : Option OX5_work := tk_lp (stX5_work plan hn an av size numbers) (1, (x2, x3, 0, 0, isResting, nextAct, height, stone, wet, pack, done))
noncomputable def fX5_work_2 (plan : Int32) (hn : Nat → Int32) (an : Nat → Nat → Int32) (av : Nat → Nat → Nat → Nat → Int32) (size : Int32) (numbers : Nat → Int32) (x2 x3 s1 : Int32) (isResting nextAct height stone wet pack done : Nat → Int32) : Option OX5_work := tk_lp (stX5_work plan hn an av size numbers) (2, (x2, x3, s1, 0, isResting, nextAct, height, stone, wet, pack, done))
noncomputable def fX5_work_3 (plan : Int32) (hn : Nat → Int32) (an : Nat → Nat → Int32) (av : Nat → Nat → Nat → Nat → Int32) (size : Int32) (numbers : Nat → Int32) (x2 x3 s1 s2 : Int32) (isResting nextAct height stone wet pack done : Nat → Int32) : Option OX5_work := tk_lp (stX5_work plan hn an av size numbers) (3, (x2, x3, s1, s2, isResting, nextAct, height, stone, wet, pack, done))
noncomputable def fX5_work (plan : Int32) (hn : Nat → Int32) (an : Nat → Nat → Int32) (av : Nat → Nat → Nat → Nat → Int32) (size : Int32) (numbers isResting nextAct height stone wet pack done : Nat → Int32) : Option OX5_work := tk_fin (stX5_work plan hn an av size numbers) (bX5_work_0 plan hn an av size numbers isResting nextAct height stone wet pack done)
theorem fX5_work_1_eq (plan : Int32) (hn : Nat → Int32) (an : Nat → Nat → Int32) (av : Nat → Nat → Nat → Nat → Int32) (size : Int32) (numbers : Nat → Int32) (x2 x3 : Int32) (isResting nextAct height stone wet pack done : Nat → Int32) : fX5_work_1 plan hn an av size numbers x2 x3 isResting nextAct height stone wet pack done = if (hn plan.toNatClampNeg) ≤ x3 then (some (isResting, nextAct, height, stone, wet, pack, done)) else (if tk_in x3 4 then (if (isResting x3.toNatClampNeg) = 0 then (if tk_in x3 (hn plan.toNatClampNeg).toNatClampNeg then (if tk_in (nextAct x3.toNatClampNeg) (an plan.toNatClampNeg x3.toNatClampNeg).toNatClampNeg then ((fX5_act (av plan.toNatClampNeg x3.toNatClampNeg (nextAct x3.toNatClampNeg).toNatClampNeg 0) (av plan.toNatClampNeg x3.toNatClampNeg (nextAct x3.toNatClampNeg).toNatClampNeg 1) (av plan.toNatClampNeg x3.toNatClampNeg (nextAct x3.toNatClampNeg).toNatClampNeg 2) height stone wet pack).bind (fun u19 => if ¬ (an plan.toNatClampNeg x3.toNatClampNeg) = 0 then (tk_l (upd nextAct x3.toNatClampNeg (((nextAct x3.toNatClampNeg) + 1) - ((nextAct x3.toNatClampNeg) + 1) / (an plan.toNatClampNeg x3.toNatClampNeg) * (an plan.toNatClampNeg x3.toNatClampNeg))) (fun y21 => if x2 ≤ 0 then (fX5_work_2 plan hn an av size numbers x2 x3 x3 isResting y21 u19.1 u19.2.1 u19.2.2.1 u19.2.2.2 (upd done x3.toNatClampNeg ((done x3.toNatClampNeg) + 1))) else (tk_l ((upd done x3.toNatClampNeg ((done x3.toNatClampNeg) + 1)) x3.toNatClampNeg) (fun y23 => if ¬ x2 = 0 then (if (y23 - y23 / x2 * x2) = 0 then (fX5_work_3 plan hn an av size numbers x2 x3 x3 1 isResting y21 u19.1 u19.2.1 u19.2.2.1 u19.2.2.2 (upd done x3.toNatClampNeg ((done x3.toNatClampNeg) + 1))) else (fX5_work_2 plan hn an av size numbers x2 x3 x3 isResting y21 u19.1 u19.2.1 u19.2.2.1 u19.2.2.2 (upd done x3.toNatClampNeg ((done x3.toNatClampNeg) + 1)))) else none)))) else none)) else none) else none) else (fX5_work_1 plan hn an av size numbers x2 (x3 + 1) (upd isResting x3.toNatClampNeg 0) nextAct height stone wet pack done)) else none) := by
  unfold fX5_work_1
  rw [tk_lp_eq]
  show tk_fin _ (bX5_work_1 plan hn an av size numbers x2 x3 isResting nextAct height stone wet pack done) = _
  unfold bX5_work_1
  simp only [tk_fin_t, tk_fin_b, tk_fin_l, tk_fin_n, tk_fin_i, tk_fin_r, fX5_work_1, fX5_work_2, fX5_work_3]
  try rfl
theorem fX5_work_2_eq (plan : Int32) (hn : Nat → Int32) (an : Nat → Nat → Int32) (av : Nat → Nat → Nat → Nat → Int32) (size : Int32) (numbers : Nat → Int32) (x2 x3 s1 : Int32) (isResting nextAct height stone wet pack done : Nat → Int32) : fX5_work_2 plan hn an av size numbers x2 x3 s1 isResting nextAct height stone wet pack done = fX5_work_3 plan hn an av size numbers x2 x3 s1 0 isResting nextAct height stone wet pack done := by
  unfold fX5_work_2
  rw [tk_lp_eq]
  show tk_fin _ (bX5_work_2 plan hn an av size numbers x2 x3 s1 isResting nextAct height stone wet pack done) = _
  unfold bX5_work_2
  simp only [tk_fin_t, tk_fin_b, tk_fin_l, tk_fin_n, tk_fin_i, tk_fin_r, fX5_work_3]
  try rfl
theorem fX5_work_3_eq (plan : Int32) (hn : Nat → Int32) (an : Nat → Nat → Int32) (av : Nat → Nat → Nat → Nat → Int32) (size : Int32) (numbers : Nat → Int32) (x2 x3 s1 s2 : Int32) (isResting nextAct height stone wet pack done : Nat → Int32) : fX5_work_3 plan hn an av size numbers x2 x3 s1 s2 isResting nextAct height stone wet pack done = if tk_in s1 4 then (fX5_work_1 plan hn an av size numbers x2 (x3 + 1) (upd isResting s1.toNatClampNeg (vp_nar .boolean s2)) nextAct height stone wet pack done) else none := by
  unfold fX5_work_3
  rw [tk_lp_eq]
  show tk_fin _ (bX5_work_3 plan hn an av size numbers x2 x3 s1 s2 isResting nextAct height stone wet pack done) = _
  unfold bX5_work_3
  simp only [tk_fin_t, tk_fin_b, tk_fin_l, tk_fin_n, tk_fin_i, tk_fin_r, fX5_work_1]
  try rfl
theorem fX5_work_eq (plan : Int32) (hn : Nat → Int32) (an : Nat → Nat → Int32) (av : Nat → Nat → Nat → Nat → Int32) (size : Int32) (numbers isResting nextAct height stone wet pack done : Nat → Int32) : fX5_work plan hn an av size numbers isResting nextAct height stone wet pack done = if plan = (-1) then (some (isResting, nextAct, height, stone, wet, pack, done)) else (if tk_in plan size.toNatClampNeg then ((fX2_of numbers 5).bind (fun u5 => fX5_work_1 plan hn an av size numbers u5 0 isResting nextAct height stone wet pack done)) else none) := by
  unfold fX5_work bX5_work_0
  simp only [tk_fin_t, tk_fin_b, tk_fin_l, tk_fin_n, tk_fin_i, tk_fin_r, fX5_work_1]
  try rfl
noncomputable def fX5_comeOn (cut : Int32) (wv : Nat → Nat → Int32) (size : Int32) (tide reach level : Nat → Int32) (columns rows best top loss flags : Int32) (stone numbers flagCell putUp : Nat → Int32) (minute v_lost slid slidNow rounds came : Int32) (chance : Int64) (wet height pack fell : Nat → Int32) : Option (Int32 × Int32 × Int32 × Int32 × Int32 × Int32 × Int64 × (Nat → Int32) × (Nat → Int32) × (Nat → Int32) × (Nat → Int32)) := (fX5_waves minute cut wv size tide reach level columns rows stone v_lost came chance wet height).bind (fun u1 => (fX5_sun minute columns rows numbers u1.2.2.2.2 u1.2.2.2.1).bind (fun u2 => (fX5_slides columns rows best top loss stone numbers slid slidNow rounds u1.2.2.2.2 u2 pack).bind (fun u3 => (fX5_lookAtFlags minute flags flagCell u3.2.2.2.1 putUp numbers fell).bind (fun u4 => some (minute + 1, u1.1, u3.1, u3.2.1, u3.2.2.1, u1.2.1, u1.2.2.1, u3.2.2.2.2.1, u3.2.2.2.1, u3.2.2.2.2.2, u4)))))
noncomputable def fX5_minute (plan : Int32) (hn : Nat → Int32) (an : Nat → Nat → Int32) (av : Nat → Nat → Nat → Nat → Int32) (size columns rows best top loss flags : Int32) (numbers : Nat → Int32) (cut : Int32) (wv : Nat → Nat → Int32) (size_2 : Int32) (tide reach level flagCell putUp : Nat → Int32) (minute v_lost slid slidNow rounds came : Int32) (chance : Int64) (isResting nextAct height stone wet pack done fell : Nat → Int32) : Option (Int32 × Int32 × Int32 × Int32 × Int32 × Int32 × Int64 × (Nat → Int32) × (Nat → Int32) × (Nat → Int32) × (Nat → Int32) × (Nat → Int32) × (Nat → Int32) × (Nat → Int32) × (Nat → Int32)) := (fX5_work plan hn an av size numbers isResting nextAct height stone wet pack done).bind (fun u1 => (fX5_comeOn cut wv size_2 tide reach level columns rows best top loss flags u1.2.2.2.1 numbers flagCell putUp minute v_lost slid slidNow rounds came chance u1.2.2.2.2.1 u1.2.2.1 u1.2.2.2.2.2.1 fell).bind (fun u2 => some (u2.1, u2.2.1, u2.2.2.1, u2.2.2.2.1, u2.2.2.2.2.1, u2.2.2.2.2.2.1, u2.2.2.2.2.2.2.1, u1.1, u1.2.1, u2.2.2.2.2.2.2.2.2.1, u1.2.2.2.1, u2.2.2.2.2.2.2.2.1, u2.2.2.2.2.2.2.2.2.2.1, u1.2.2.2.2.2.2, u2.2.2.2.2.2.2.2.2.2.2)))
set_option maxHeartbeats 4000000 in
theorem mJ5_size (l : Launch) (D : va_G) (ar : Nat → ClassId) (ad : Nat → Nat → Nat) (xs : va_W) (sz : Nat) (h0 : Nat) (r0 : Nat → Nat) (i0 : Nat → Int32) (size : Int32) (o : Int32) (hF : fJ5_size size = some o) : Met l yJ5_size (ws_ yJ5_size cJ5_size 1 (some .int)) ({ frames := 0, cells := 0, slots := 0, locals := 0 }) (va_Pc [.ref h0] (tk_Pre D ar ad [] [(h0, .inr (13, oJ5 r0 (tu i0 2 size)))] xs sz)) (va_Qi (fun (zr : Int32) (_ : Unit) => zr = o) (fun _ t => tk_Post D (va_A [] sz) [] t) (va_A [] sz)) 0 0 (va_A [] sz) := by
  refine Met.ofW (cc := cJ5_size) (maxL := 1) (ret := (some .int)) (by decide) rfl ?_
  intro p e s m args below meth c s₁ B hml hv
  obtain ⟨rfl, hsz, hP, hD0, hR, hX, hE⟩ := hv
  have hx := B.exec
  have hb := B.bytes
  have hr := B.returns
  have hts := atoms_spec (ws := (ws_ yJ5_size cJ5_size 1 (some .int))) B.pre
  have hts : ∀ w ∈ lw_all, w.before _ s = true := fun w h => hts w (List.mem_cons_of_mem _ h)
  have hown : s.vm.findClass RJ5 = some m.cls := findClass_of_methodNamed B.named
  have hlocks := B.notSynchronized
  subst hsz
  have hD := hD0.self (sz := s.heap.size)
  generalize hAe : va_A [] s.heap.size = A at hD hR hX hE ⊢
  have hA : ∀ q : Nat, s.heap.size ≤ q → A q := fun q h => by rw [← hAe]; exact Or.inr h
  have hS : va_S A s.heap s.heap [] := va_S.rf
  have hK := hE.1
  have hl := lv_entry ([.ref h0]) (n := 1) (Nat.le_of_ble_eq_true rfl)
  rw [lg_entry_eq]
  generalize (lg_sl ([.ref h0]) ++ List.replicate (1 - (lg_sl ([.ref h0])).length) Slot.unset).toArray = ls at hl ⊢
  have hl : lv_has ls 1 [(0, .ref h0)] := hl
  have hP : va_P D tkCl [] s.heap := hP
  unfold fJ5_size at hF
  refine lv_aload_n hx hb dJ5_size_0 rfl (lv_at hl 0 rfl) ?_
  refine va_get (D := D) (ci := 13) (v := .int size) (C := RJ5) (T := TJ5) (N := 3) hx hb hts in_J5 hown hK (hR.at hS) 0 rfl rfl 2 (by decide) (hts _ q301) (fun _ h9 => h9) rfl dJ5_size_1 ?_
  have eo := tk_pr hF
  subst eo
  exact W.iret (v := size) hx hb hr (fun t ht hW => ⟨⟨_, (), rfl, rfl, tk_pst ht hP hD⟩, hS.F ht⟩) hS.2.2 dJ5_size_4
set_option maxHeartbeats 4000000 in
theorem mX6_is (l : Launch) (D : va_G) (ar : Nat → ClassId) (ad : Nat → Nat → Nat) (xs : va_W) (sz : Nat) (h0 : Nat) (r0 : Nat → Nat) (i0 : Nat → Int32) (v_from behind v_hand : Int32) (tape : Nat → Int32) (p0 : Nat) (hk_p0 : p0 < 43) (o : Int32) (hF : fX6_is v_from behind v_hand tape p0 = some o) : Met l yX6_is (ws_ yX6_is cX6_is 4 (some .boolean)) ({ frames := 4, cells := 0, slots := 0, locals := 85 }) (va_Pc [.ref h0, .ref (ad 0 p0)] (tk_Pre D ar ad [] [(h0, .inr (5, oX6 r0 (tu (tu (tu i0 3 v_from) 4 behind) 5 v_hand))), ((r0 0), .inl (ar 1, 900, .inl tape))] xs sz)) (va_Qi (fun (zr : Int32) (_ : Unit) => zr = o) (fun _ t => tk_Post D (va_A [] sz) [] t) (va_A [] sz)) 0 0 (va_A [] sz) := by
  refine Met.ofW (cc := cX6_is) (maxL := 4) (ret := (some .boolean)) (by decide) rfl ?_
  intro p e s m args below meth c s₁ B hml hv
  obtain ⟨rfl, hsz, hP, hD0, hR, hX, hE⟩ := hv
  have hx := B.exec
  have hb := B.bytes
  have hr := B.returns
  have hts := atoms_spec (ws := (ws_ yX6_is cX6_is 4 (some .boolean))) B.pre
  have hts : ∀ w ∈ lw_all, w.before _ s = true := fun w h => hts w (List.mem_cons_of_mem _ h)
  have hown : s.vm.findClass RX6 = some m.cls := findClass_of_methodNamed B.named
  have hlocks := B.notSynchronized
  subst hsz
  have hD := hD0.self (sz := s.heap.size)
  generalize hAe : va_A [] s.heap.size = A at hD hR hX hE ⊢
  have hA : ∀ q : Nat, s.heap.size ≤ q → A q := fun q h => by rw [← hAe]; exact Or.inr h
  have hS : va_S A s.heap s.heap [] := va_S.rf
  have hK := hE.1
  have hl := lv_entry ([.ref h0, .ref (ad 0 p0)]) (n := 4) (Nat.le_of_ble_eq_true rfl)
  rw [lg_entry_eq]
  generalize (lg_sl ([.ref h0, .ref (ad 0 p0)]) ++ List.replicate (4 - (lg_sl ([.ref h0, .ref (ad 0 p0)])).length) Slot.unset).toArray = ls at hl ⊢
  have hl : lv_has ls 4 [(0, .ref h0), (1, .ref (ad 0 p0))] := hl
  have hP : va_P D tkCl [] s.heap := hP
  obtain ⟨n0, hF⟩ : ∃ n, tk_k (stX6_is v_from behind v_hand tape p0) n (bX6_is_0 v_from behind v_hand tape p0) = some o := tk_fin_it hF
  have key : ∀ n : Nat, (∀  (H : Heap) (locs : List Loc) (ls : Array Slot), tk_it (stX6_is v_from behind v_hand tape p0) n (1, (0, 0, 0)) = some o → va_P D tkCl [] H → va_D A [] → va_S A s.heap H locs → lv_has ls 4 [(0, .ref h0), (1, .ref (ad 0 p0))] → W p l e (headSpec (ws_ yX6_is cX6_is 4 (some .boolean)) ({ frames := 4, cells := 0, slots := 0, locals := 85 })).room s m ([.ref h0, .ref (ad 0 p0)] : List Value).toArray below meth c H locs 0 0 (MQ below (va_Qi (fun (zr : Int32) (_ : Unit) => zr = o) (fun _ t => tk_Post D A [] t) A) ([.ref h0, .ref (ad 0 p0)] : List Value).toArray s 0 0 A) (F0 m 28 ls [])) ∧ (∀ (s0 : Int32) (H : Heap) (locs : List Loc) (ls : Array Slot), tk_it (stX6_is v_from behind v_hand tape p0) n (2, (s0, 0, 0)) = some o → va_P D tkCl [] H → va_D A [] → va_S A s.heap H locs → lv_has ls 4 [(0, .ref h0), (1, .ref (ad 0 p0))] → W p l e (headSpec (ws_ yX6_is cX6_is 4 (some .boolean)) ({ frames := 4, cells := 0, slots := 0, locals := 85 })).room s m ([.ref h0, .ref (ad 0 p0)] : List Value).toArray below meth c H locs 0 0 (MQ below (va_Qi (fun (zr : Int32) (_ : Unit) => zr = o) (fun _ t => tk_Post D A [] t) A) ([.ref h0, .ref (ad 0 p0)] : List Value).toArray s 0 0 A) (F0 m 29 ls [.int s0])) ∧ (∀ (x2 x3 : Int32) (H : Heap) (locs : List Loc) (ls : Array Slot), tk_it (stX6_is v_from behind v_hand tape p0) n (3, (0, x2, x3)) = some o → va_P D tkCl [] H → va_D A [] → va_S A s.heap H locs → lv_has ls 4 [(0, .ref h0), (1, .ref (ad 0 p0)), (2, .int x2), (3, .int x3)] → W p l e (headSpec (ws_ yX6_is cX6_is 4 (some .boolean)) ({ frames := 4, cells := 0, slots := 0, locals := 85 })).room s m ([.ref h0, .ref (ad 0 p0)] : List Value).toArray below meth c H locs 0 0 (MQ below (va_Qi (fun (zr : Int32) (_ : Unit) => zr = o) (fun _ t => tk_Post D A [] t) A) ([.ref h0, .ref (ad 0 p0)] : List Value).toArray s 0 0 A) (F0 m 32 ls [])) ∧ (∀ (x3 s0 : Int32) (H : Heap) (locs : List Loc) (ls : Array Slot), tk_it (stX6_is v_from behind v_hand tape p0) n (4, (s0, 0, x3)) = some o → va_P D tkCl [] H → va_D A [] → va_S A s.heap H locs → lv_has ls 4 [(0, .ref h0), (1, .ref (ad 0 p0)), (3, .int x3)] → W p l e (headSpec (ws_ yX6_is cX6_is 4 (some .boolean)) ({ frames := 4, cells := 0, slots := 0, locals := 85 })).room s m ([.ref h0, .ref (ad 0 p0)] : List Value).toArray below meth c H locs 0 0 (MQ below (va_Qi (fun (zr : Int32) (_ : Unit) => zr = o) (fun _ t => tk_Post D A [] t) A) ([.ref h0, .ref (ad 0 p0)] : List Value).toArray s 0 0 A) (F0 m 68 ls [.int s0])) := by
    intro n
    induction n with
    | zero => exact ⟨(by intros; rename_i hF _ _ _ _; cases hF), (by intros; rename_i hF _ _ _ _; cases hF), (by intros; rename_i hF _ _ _ _; cases hF), (by intros; rename_i hF _ _ _ _; cases hF)⟩
    | succ n ih =>
      obtain ⟨ih28, ih29, ih32, ih68⟩ := ih
      refine ⟨?_, ?_, ?_, ?_⟩
      · intro  H locs ls hF hP hD hS hl
        have hF : tk_k (stX6_is v_from behind v_hand tape p0) n (bX6_is_1 v_from behind v_hand tape p0 ) = some o := hF
        unfold bX6_is_1 at hF
        refine lv_iconst (v := 0) hx hb dX6_is_28 (by decide) ?_
        exact ih29 0 _ _ _ hF hP hD hS (lv_sub hl [0, 1] rfl)
      · intro s0 H locs ls hF hP hD hS hl
        have hF : tk_k (stX6_is v_from behind v_hand tape p0) n (bX6_is_2 v_from behind v_hand tape p0 s0) = some o := hF
        unfold bX6_is_2 at hF
        refine lv_istore_n (lv' := [(2, .int s0), (0, .ref h0), (1, .ref (ad 0 p0))]) hx hb dX6_is_29 rfl hl (Nat.le_of_ble_eq_true rfl) rfl (fun ls hl => ?_)
        refine lv_iconst (v := 0) hx hb dX6_is_30 (by decide) ?_
        refine lv_istore_n (lv' := [(3, .int 0), (2, .int s0), (0, .ref h0), (1, .ref (ad 0 p0))]) hx hb dX6_is_31 rfl hl (Nat.le_of_ble_eq_true rfl) rfl (fun ls hl => ?_)
        exact ih32 s0 0 _ _ _ hF hP hD hS (lv_sub hl [2, 3, 1, 0] rfl)
      · intro x2 x3 H locs ls hF hP hD hS hl
        have hF : tk_k (stX6_is v_from behind v_hand tape p0) n (bX6_is_3 v_from behind v_hand tape p0 x2 x3) = some o := hF
        unfold bX6_is_3 at hF
        refine lv_iload_n hx hb dX6_is_32 rfl (lv_at hl 3 rfl) ?_
        refine lv_aload_n hx hb dX6_is_33 rfl (lv_at hl 1 rfl) ?_
        refine va_calli (va_runV (As := []) (rest := [.int x3]) ⟨hx, hb, hml, hown, hts⟩ (mJ7_length (l := l) (D := D) (ar := ar) (ad := ad) (xs := xs) (sz := H.size) (k := p0) (hk := hk_p0)) (cwV 0 hts (lw_V q1606 q657 q658 q104 q659) rfl rfl rfl (by decide +kernel) ⟨(Nat.le_of_ble_eq_true rfl), (Nat.le_of_ble_eq_true rfl)⟩) ⟨tk_blind, tk_recvO (let ⟨_, hq⟩ := tk_str_at hk_p0; (hE.2.2.2.1 _ _ hq).2.1) hS, fun U hU hW => ⟨rfl, tk_mk hP hD hS hA hE hR hX [] [] rfl rfl rfl rfl U hU hW⟩⟩ rfl rfl hl.1 rfl (lv_room (Nat.le_of_ble_eq_true rfl)) dX6_is_34 ⟨(Nat.le_of_ble_eq_true rfl), (Nat.le_of_ble_eq_true rfl)⟩) hS (fun q _ h => (va_free hD hS hA [] rfl) q h) (va_free hD hS hA [] rfl) (fun zr zu zt H1 zl zht zvm zw zB zz zk zS => ?_)
        have zw := Eq.symm zw
        subst zw
        obtain ⟨hP, hD⟩ := tk_join hP hD zk [] rfl rfl (va_free hD hS hA [] rfl) (zht ▸ zB.1) zB.2 (Nat.le_of_ble_eq_true rfl)
        have hS := zS
        generalize H1 = H at hP hS ⊢
        have hP : va_P D tkCl [] H := hP
        have hD : va_D A [] := hD
        refine lv_icmp_ge (tgt := 75) hx hb dX6_is_37 (by decide) (fun c3 => ?_) (fun c3 => ?_)
        · have hF := tk_kt hF c3
          refine lv_iload_n hx hb dX6_is_75 rfl (lv_at hl 2 rfl) ?_
          obtain ⟨gd4, hF⟩ := tk_kg hF
          have eo := tk_kr hF
          subst eo
          exact W.zret (v := x2) hx hb hr (tk_nb gd4) (fun t ht hW => ⟨⟨_, (), rfl, rfl, tk_pst ht hP hD⟩, hS.F ht⟩) hS.2.2 dX6_is_76
        · have hF := tk_kf hF c3
          refine lv_iload_n hx hb dX6_is_40 rfl (lv_at hl 2 rfl) ?_
          refine lv_if_eq (tgt := 75) hx hb dX6_is_41 (by decide) (fun c5 => ?_) (fun c5 => ?_)
          · have hF := tk_kt hF c5
            refine lv_iload_n hx hb dX6_is_75 rfl (lv_at hl 2 rfl) ?_
            obtain ⟨gd6, hF⟩ := tk_kg hF
            have eo := tk_kr hF
            subst eo
            exact W.zret (v := x2) hx hb hr (tk_nb gd6) (fun t ht hW => ⟨⟨_, (), rfl, rfl, tk_pst ht hP hD⟩, hS.F ht⟩) hS.2.2 dX6_is_76
          · have hF := tk_kf hF c5
            refine lv_aload_n hx hb dX6_is_44 rfl (lv_at hl 0 rfl) ?_
            refine va_get (D := D) (ci := 5) (v := .ref (r0 0)) (C := RX6) (T := TX6) (N := 62) hx hb hts in_X6 hown hK (hR.at hS) 0 rfl rfl 0 (by decide) (hts _ q1370) (fun _ h9 => h9) rfl dX6_is_45 ?_
            refine lv_aload_n hx hb dX6_is_48 rfl (lv_at hl 0 rfl) ?_
            refine va_get (D := D) (ci := 5) (v := .int v_from) (C := RX6) (T := TX6) (N := 62) hx hb hts in_X6 hown hK (hR.at hS) 0 rfl rfl 3 (by decide) (hts _ q1373) (fun _ h9 => h9) rfl dX6_is_49 ?_
            refine lv_iload_n hx hb dX6_is_52 rfl (lv_at hl 3 rfl) ?_
            refine lv_iadd hx hb dX6_is_53 ?_
            obtain ⟨gd7, hF⟩ := tk_kg hF
            refine va_bald hx hb hK (hR.at hS) 1 1 rfl rfl gd7 dX6_is_54 ?_
            refine lv_aload_n hx hb dX6_is_55 rfl (lv_at hl 1 rfl) ?_
            refine lv_iload_n hx hb dX6_is_56 rfl (lv_at hl 3 rfl) ?_
            obtain ⟨gd8, hF⟩ := tk_kg hF
            refine va_calli (va_runV (As := [.int x3]) (rest := [.int (tape (v_from + x3).toNatClampNeg)]) ⟨hx, hb, hml, hown, hts⟩ (mJ7_charAt (l := l) (D := D) (ar := ar) (ad := ad) (xs := xs) (sz := H.size) (k := p0) (p0 := x3) (hk := hk_p0) (hg := gd8)) (cwV 1 hts (lw_V q1607 q667 q668 q104 q669) rfl rfl rfl (by decide +kernel) ⟨(Nat.le_of_ble_eq_true rfl), (Nat.le_of_ble_eq_true rfl)⟩) ⟨tk_blind, tk_recvO (let ⟨_, hq⟩ := tk_str_at hk_p0; (hE.2.2.2.1 _ _ hq).2.1) hS, fun U hU hW => ⟨rfl, tk_mk hP hD hS hA hE hR hX [] [] rfl rfl rfl rfl U hU hW⟩⟩ rfl rfl hl.1 rfl (lv_room (Nat.le_of_ble_eq_true rfl)) dX6_is_57 ⟨(Nat.le_of_ble_eq_true rfl), (Nat.le_of_ble_eq_true rfl)⟩) hS (fun q _ h => (va_free hD hS hA [] rfl) q h) (va_free hD hS hA [] rfl) (fun zr zu zt H1 zl zht zvm zw zB zz zk zS => ?_)
            have zw := Eq.symm zw
            subst zw
            obtain ⟨hP, hD⟩ := tk_join hP hD zk [] rfl rfl (va_free hD hS hA [] rfl) (zht ▸ zB.1) zB.2 (Nat.le_of_ble_eq_true rfl)
            have hS := zS
            generalize H1 = H at hP hS ⊢
            have hP : va_P D tkCl [] H := hP
            have hD : va_D A [] := hD
            refine lv_icmp_ne (tgt := 67) hx hb dX6_is_60 (by decide) (fun c9 => ?_) (fun c9 => ?_)
            · have hF := tk_kf hF c9
              refine lv_iconst (v := 0) hx hb dX6_is_67 (by decide) ?_
              exact ih68 x3 0 _ _ _ hF hP hD hS (lv_sub hl [0, 1, 3] rfl)
            · have hF := tk_kt hF c9
              refine lv_iconst (v := 1) hx hb dX6_is_63 (by decide) ?_
              refine lv_goto (tgt := 68) hx hb dX6_is_64 (by decide) ?_
              exact ih68 x3 1 _ _ _ hF hP hD hS (lv_sub hl [0, 1, 3] rfl)
      · intro x3 s0 H locs ls hF hP hD hS hl
        have hF : tk_k (stX6_is v_from behind v_hand tape p0) n (bX6_is_4 v_from behind v_hand tape p0 x3 s0) = some o := hF
        unfold bX6_is_4 at hF
        refine lv_istore_n (lv' := [(2, .int s0), (0, .ref h0), (1, .ref (ad 0 p0)), (3, .int x3)]) hx hb dX6_is_68 rfl hl (Nat.le_of_ble_eq_true rfl) rfl (fun ls hl => ?_)
        refine lv_iinc (v := x3 + 1) (lv' := [(3, .int (x3 + 1)), (2, .int s0), (0, .ref h0), (1, .ref (ad 0 p0))]) hx hb dX6_is_69 hl (k := 3) rfl (congrArg (fun z => x3 + z) (show Int32.ofInt 1 = 1 by decide)) (Nat.le_of_ble_eq_true rfl) rfl (fun ls hl => ?_)
        refine lv_goto (tgt := 32) hx hb dX6_is_72 (by decide) ?_
        exact ih32 s0 (x3 + 1) _ _ _ hF hP hD hS (lv_sub hl [2, 3, 1, 0] rfl)
  obtain ⟨ih28, ih29, ih32, ih68⟩ := key n0
  clear key
  unfold bX6_is_0 at hF
  have hF : tk_k (stX6_is v_from behind v_hand tape p0) n0 _ = some o := hF
  refine lv_aload_n hx hb dX6_is_0 rfl (lv_at hl 0 rfl) ?_
  refine va_get (D := D) (ci := 5) (v := .int v_hand) (C := RX6) (T := TX6) (N := 62) hx hb hts in_X6 hown hK (hR.at hS) 0 rfl rfl 5 (by decide) (hts _ q1375) (fun _ h9 => h9) rfl dX6_is_1 ?_
  refine lv_iconst (v := 1) hx hb dX6_is_4 (by decide) ?_
  refine lv_icmp_ne (tgt := 28) hx hb dX6_is_5 (by decide) (fun c1 => ?_) (fun c1 => ?_)
  · have hF := tk_kf hF c1
    exact ih28  _ _ _ hF hP hD hS (lv_sub hl [0, 1] rfl)
  · have hF := tk_kt hF c1
    refine lv_aload_n hx hb dX6_is_8 rfl (lv_at hl 0 rfl) ?_
    refine va_get (D := D) (ci := 5) (v := .int behind) (C := RX6) (T := TX6) (N := 62) hx hb hts in_X6 hown hK (hR.at hS) 0 rfl rfl 4 (by decide) (hts _ q1374) (fun _ h9 => h9) rfl dX6_is_9 ?_
    refine lv_aload_n hx hb dX6_is_12 rfl (lv_at hl 0 rfl) ?_
    refine va_get (D := D) (ci := 5) (v := .int v_from) (C := RX6) (T := TX6) (N := 62) hx hb hts in_X6 hown hK (hR.at hS) 0 rfl rfl 3 (by decide) (hts _ q1373) (fun _ h9 => h9) rfl dX6_is_13 ?_
    refine lv_isub hx hb dX6_is_16 ?_
    refine lv_aload_n hx hb dX6_is_17 rfl (lv_at hl 1 rfl) ?_
    refine va_calli (va_runV (As := []) (rest := [.int (behind - v_from)]) ⟨hx, hb, hml, hown, hts⟩ (mJ7_length (l := l) (D := D) (ar := ar) (ad := ad) (xs := xs) (sz := s.heap.size) (k := p0) (hk := hk_p0)) (cwV 0 hts (lw_V q1606 q657 q658 q104 q659) rfl rfl rfl (by decide +kernel) ⟨(Nat.le_of_ble_eq_true rfl), (Nat.le_of_ble_eq_true rfl)⟩) ⟨tk_blind, tk_recvO (let ⟨_, hq⟩ := tk_str_at hk_p0; (hE.2.2.2.1 _ _ hq).2.1) hS, fun U hU hW => ⟨rfl, tk_mk hP hD hS hA hE hR hX [] [] rfl rfl rfl rfl U hU hW⟩⟩ rfl rfl hl.1 rfl (lv_room (Nat.le_of_ble_eq_true rfl)) dX6_is_18 ⟨(Nat.le_of_ble_eq_true rfl), (Nat.le_of_ble_eq_true rfl)⟩) hS (fun q _ h => (va_free hD hS hA [] rfl) q h) (va_free hD hS hA [] rfl) (fun zr zu zt H1 zl zht zvm zw zB zz zk zS => ?_)
    have zw := Eq.symm zw
    subst zw
    obtain ⟨hP, hD⟩ := tk_join hP hD zk [] rfl rfl (va_free hD hS hA [] rfl) (zht ▸ zB.1) zB.2 (Nat.le_of_ble_eq_true rfl)
    have hS := zS
    generalize H1 = H at hP hS ⊢
    have hP : va_P D tkCl [] H := hP
    have hD : va_D A [] := hD
    refine lv_icmp_ne (tgt := 28) hx hb dX6_is_21 (by decide) (fun c2 => ?_) (fun c2 => ?_)
    · have hF := tk_kf hF c2
      exact ih28  _ _ _ hF hP hD hS (lv_sub hl [0, 1] rfl)
    · have hF := tk_kt hF c2
      refine lv_iconst (v := 1) hx hb dX6_is_24 (by decide) ?_
      refine lv_goto (tgt := 29) hx hb dX6_is_25 (by decide) ?_
      exact ih29 1 _ _ _ hF hP hD hS (lv_sub hl [0, 1] rfl)
set_option maxHeartbeats 4000000 in
theorem mX0_in (l : Launch) (D : va_G) (ar : Nat → ClassId) (ad : Nat → Nat → Nat) (xs : va_W) (sz : Nat) (p0 p1 p2 : Int32) (o : Int32) (hF : fX0_in p0 p1 p2 = some o) : Met l yX0_in (ws_ yX0_in cX0_in 3 (some .boolean)) ({ frames := 0, cells := 0, slots := 0, locals := 0 }) (va_Pc [.int p0, .int p1, .int p2] (tk_Pre D ar ad [] [] xs sz)) (va_Qi (fun (zr : Int32) (_ : Unit) => zr = o) (fun _ t => tk_Post D (va_A [] sz) [] t) (va_A [] sz)) 0 0 (va_A [] sz) := by
  refine Met.ofW (cc := cX0_in) (maxL := 3) (ret := (some .boolean)) (by decide) rfl ?_
  intro p e s m args below meth c s₁ B hml hv
  obtain ⟨rfl, hsz, hP, hD0, hR, hX, hE⟩ := hv
  have hx := B.exec
  have hb := B.bytes
  have hr := B.returns
  have hts := atoms_spec (ws := (ws_ yX0_in cX0_in 3 (some .boolean))) B.pre
  have hts : ∀ w ∈ lw_all, w.before _ s = true := fun w h => hts w (List.mem_cons_of_mem _ h)
  have hown : s.vm.findClass RX0 = some m.cls := findClass_of_methodNamed B.named
  have hlocks := B.notSynchronized
  subst hsz
  have hD := hD0.self (sz := s.heap.size)
  generalize hAe : va_A [] s.heap.size = A at hD hR hX hE ⊢
  have hA : ∀ q : Nat, s.heap.size ≤ q → A q := fun q h => by rw [← hAe]; exact Or.inr h
  have hS : va_S A s.heap s.heap [] := va_S.rf
  have hK := hE.1
  have hl := lv_entry ([.int p0, .int p1, .int p2]) (n := 3) (Nat.le_of_ble_eq_true rfl)
  rw [lg_entry_eq]
  generalize (lg_sl ([.int p0, .int p1, .int p2]) ++ List.replicate (3 - (lg_sl ([.int p0, .int p1, .int p2])).length) Slot.unset).toArray = ls at hl ⊢
  have hl : lv_has ls 3 [(0, .int p0), (1, .int p1), (2, .int p2)] := hl
  have hP : va_P D tkCl [] s.heap := hP
  unfold fX0_in at hF
  refine lv_iload_n hx hb dX0_in_0 rfl (lv_at hl 0 rfl) ?_
  refine lv_iload_n hx hb dX0_in_1 rfl (lv_at hl 1 rfl) ?_
  refine lv_icmp_lt (tgt := 14) hx hb dX0_in_2 (by decide) (fun c1 => ?_) (fun c1 => ?_)
  · have hF := tk_pt hF c1
    refine lv_iconst (v := 0) hx hb dX0_in_14 (by decide) ?_
    have eo := tk_pr hF
    subst eo
    exact W.zret (v := 0) hx hb hr (by decide) (fun t ht hW => ⟨⟨_, (), rfl, rfl, tk_pst ht hP hD⟩, hS.F ht⟩) hS.2.2 dX0_in_15
  · have hF := tk_pf hF c1
    refine lv_iload_n hx hb dX0_in_5 rfl (lv_at hl 0 rfl) ?_
    refine lv_iload_n hx hb dX0_in_6 rfl (lv_at hl 2 rfl) ?_
    refine lv_icmp_gt (tgt := 14) hx hb dX0_in_7 (by decide) (fun c2 => ?_) (fun c2 => ?_)
    · have hF := tk_pt hF c2
      refine lv_iconst (v := 0) hx hb dX0_in_14 (by decide) ?_
      have eo := tk_pr hF
      subst eo
      exact W.zret (v := 0) hx hb hr (by decide) (fun t ht hW => ⟨⟨_, (), rfl, rfl, tk_pst ht hP hD⟩, hS.F ht⟩) hS.2.2 dX0_in_15
    · have hF := tk_pf hF c2
      refine lv_iconst (v := 1) hx hb dX0_in_10 (by decide) ?_
      refine lv_goto (tgt := 15) hx hb dX0_in_11 (by decide) ?_
      have eo := tk_pr hF
      subst eo
      exact W.zret (v := 1) hx hb hr (by decide) (fun t ht hW => ⟨⟨_, (), rfl, rfl, tk_pst ht hP hD⟩, hS.F ht⟩) hS.2.2 dX0_in_15
set_option maxHeartbeats 4000000 in
theorem mX4_isDue (l : Launch) (D : va_G) (ar : Nat → ClassId) (ad : Nat → Nat → Nat) (xs : va_W) (sz : Nat) (h0 : Nat) (r0 : Nat → Nat) (i0 tide : Nat → Int32) (p0 : Int32) (o : Int32) (hF : fX4_isDue tide p0 = some o) : Met l yX4_isDue (ws_ yX4_isDue cX4_isDue 2 (some .boolean)) ({ frames := 1, cells := 0, slots := 0, locals := 22 }) (va_Pc [.ref h0, .int p0] (tk_Pre D ar ad [] [(h0, .inr (3, oX4 r0 i0)), ((r0 1), .inl (ar 0, 4, .inl tide))] xs sz)) (va_Qi (fun (zr : Int32) (_ : Unit) => zr = o) (fun _ t => tk_Post D (va_A [] sz) [] t) (va_A [] sz)) 0 0 (va_A [] sz) := by
  refine Met.ofW (cc := cX4_isDue) (maxL := 2) (ret := (some .boolean)) (by decide) rfl ?_
  intro p e s m args below meth c s₁ B hml hv
  obtain ⟨rfl, hsz, hP, hD0, hR, hX, hE⟩ := hv
  have hx := B.exec
  have hb := B.bytes
  have hr := B.returns
  have hts := atoms_spec (ws := (ws_ yX4_isDue cX4_isDue 2 (some .boolean))) B.pre
  have hts : ∀ w ∈ lw_all, w.before _ s = true := fun w h => hts w (List.mem_cons_of_mem _ h)
  have hown : s.vm.findClass RX4 = some m.cls := findClass_of_methodNamed B.named
  have hlocks := B.notSynchronized
  subst hsz
  have hD := hD0.self (sz := s.heap.size)
  generalize hAe : va_A [] s.heap.size = A at hD hR hX hE ⊢
  have hA : ∀ q : Nat, s.heap.size ≤ q → A q := fun q h => by rw [← hAe]; exact Or.inr h
  have hS : va_S A s.heap s.heap [] := va_S.rf
  have hK := hE.1
  have hl := lv_entry ([.ref h0, .int p0]) (n := 2) (Nat.le_of_ble_eq_true rfl)
  rw [lg_entry_eq]
  generalize (lg_sl ([.ref h0, .int p0]) ++ List.replicate (2 - (lg_sl ([.ref h0, .int p0])).length) Slot.unset).toArray = ls at hl ⊢
  have hl : lv_has ls 2 [(0, .ref h0), (1, .int p0)] := hl
  have hP : va_P D tkCl [] s.heap := hP
  unfold fX4_isDue at hF
  refine lv_aload_n hx hb dX4_isDue_0 rfl (lv_at hl 0 rfl) ?_
  refine va_get (D := D) (ci := 3) (v := .ref (r0 1)) (C := RX4) (T := TX4) (N := 6) hx hb hts in_X4 hown hK (hR.at hS) 0 rfl rfl 1 (by decide) (hts _ q316) (fun _ h9 => h9) rfl dX4_isDue_1 ?_
  refine lv_iconst (v := 0) hx hb dX4_isDue_4 (by decide) ?_
  refine va_iald hx hb hK (hR.at hS) 1 0 rfl rfl (show tk_in 0 4 by decide) dX4_isDue_5 ?_
  refine lv_iconst (v := (-1)) hx hb dX4_isDue_6 (by decide) ?_
  refine lv_icmp_eq (tgt := 51) hx hb dX4_isDue_7 (by decide) (fun c1 => ?_) (fun c1 => ?_)
  · have hF := tk_pt hF c1
    refine lv_iconst (v := 0) hx hb dX4_isDue_51 (by decide) ?_
    have eo := tk_pr hF
    subst eo
    exact W.zret (v := 0) hx hb hr (by decide) (fun t ht hW => ⟨⟨_, (), rfl, rfl, tk_pst ht hP hD⟩, hS.F ht⟩) hS.2.2 dX4_isDue_52
  · have hF := tk_pf hF c1
    refine lv_iload_n hx hb dX4_isDue_10 rfl (lv_at hl 1 rfl) ?_
    refine lv_aload_n hx hb dX4_isDue_11 rfl (lv_at hl 0 rfl) ?_
    refine va_get (D := D) (ci := 3) (v := .ref (r0 1)) (C := RX4) (T := TX4) (N := 6) hx hb hts in_X4 hown hK (hR.at hS) 0 rfl rfl 1 (by decide) (hts _ q316) (fun _ h9 => h9) rfl dX4_isDue_12 ?_
    refine lv_iconst (v := 0) hx hb dX4_isDue_15 (by decide) ?_
    refine va_iald hx hb hK (hR.at hS) 1 0 rfl rfl (show tk_in 0 4 by decide) dX4_isDue_16 ?_
    refine lv_aload_n hx hb dX4_isDue_17 rfl (lv_at hl 0 rfl) ?_
    refine va_get (D := D) (ci := 3) (v := .ref (r0 1)) (C := RX4) (T := TX4) (N := 6) hx hb hts in_X4 hown hK (hR.at hS) 0 rfl rfl 1 (by decide) (hts _ q316) (fun _ h9 => h9) rfl dX4_isDue_18 ?_
    refine lv_iconst (v := 1) hx hb dX4_isDue_21 (by decide) ?_
    refine va_iald hx hb hK (hR.at hS) 1 0 rfl rfl (show tk_in 1 4 by decide) dX4_isDue_22 ?_
    obtain ⟨u2, hGu2, hF⟩ := tk_pb hF
    refine va_calli (va_runSN (host := "TideKeep") (As := [.int p0, .int (tide (0 : Int32).toNatClampNeg), .int (tide (1 : Int32).toNatClampNeg)]) (rest := []) ⟨hx, hb, hml, hown, hts⟩ (mX0_in (l := l) (D := D) (ar := ar) (ad := ad) (xs := xs) (sz := s.heap.size) (p0 := p0) (p1 := tide (0 : Int32).toNatClampNeg) (p2 := tide (1 : Int32).toNatClampNeg) (hF := hGu2)) ⟨va_cnB 3 hts (lw_meth q741) rfl rfl rfl (hE.2.1 _ q1124 rfl) (hts _ q88) (by decide +kernel) ⟨(Nat.le_of_ble_eq_true rfl), (Nat.le_of_ble_eq_true rfl)⟩, hts _ q740, trivial⟩ ⟨tk_blind, fun U hU hW => ⟨rfl, tk_mk hP hD hS hA hE hR hX [] [] rfl rfl rfl rfl U hU hW⟩⟩ rfl rfl hl.1 rfl (lv_room (Nat.le_of_ble_eq_true rfl)) dX4_isDue_23 ⟨(Nat.le_of_ble_eq_true rfl), (Nat.le_of_ble_eq_true rfl)⟩) hS (fun q _ h => (va_free hD hS hA [] rfl) q h) (va_free hD hS hA [] rfl) (fun zr zu zt H1 zl zht zvm zw zB zz zk zS => ?_)
    obtain ⟨hP, hD⟩ := tk_join hP hD zk [] rfl rfl (va_free hD hS hA [] rfl) (zht ▸ zB.1) zB.2 (Nat.le_of_ble_eq_true rfl)
    have hS := zS
    have zw := Eq.symm zw
    subst zw
    generalize H1 = H at hP hS ⊢
    have hP : va_P D tkCl [] H := hP
    have hD : va_D A [] := hD
    refine lv_if_eq (tgt := 51) hx hb dX4_isDue_26 (by decide) (fun c3 => ?_) (fun c3 => ?_)
    · have hF := tk_pt hF c3
      refine lv_iconst (v := 0) hx hb dX4_isDue_51 (by decide) ?_
      have eo := tk_pr hF
      subst eo
      exact W.zret (v := 0) hx hb hr (by decide) (fun t ht hW => ⟨⟨_, (), rfl, rfl, tk_pst ht hP hD⟩, hS.F ht⟩) hS.2.2 dX4_isDue_52
    · have hF := tk_pf hF c3
      refine lv_iload_n hx hb dX4_isDue_29 rfl (lv_at hl 1 rfl) ?_
      refine lv_aload_n hx hb dX4_isDue_30 rfl (lv_at hl 0 rfl) ?_
      refine va_get (D := D) (ci := 3) (v := .ref (r0 1)) (C := RX4) (T := TX4) (N := 6) hx hb hts in_X4 hown hK (hR.at hS) 0 rfl rfl 1 (by decide) (hts _ q316) (fun _ h9 => h9) rfl dX4_isDue_31 ?_
      refine lv_iconst (v := 0) hx hb dX4_isDue_34 (by decide) ?_
      refine va_iald hx hb hK (hR.at hS) 1 0 rfl rfl (show tk_in 0 4 by decide) dX4_isDue_35 ?_
      refine lv_isub hx hb dX4_isDue_36 ?_
      refine lv_aload_n hx hb dX4_isDue_37 rfl (lv_at hl 0 rfl) ?_
      refine va_get (D := D) (ci := 3) (v := .ref (r0 1)) (C := RX4) (T := TX4) (N := 6) hx hb hts in_X4 hown hK (hR.at hS) 0 rfl rfl 1 (by decide) (hts _ q316) (fun _ h9 => h9) rfl dX4_isDue_38 ?_
      refine lv_iconst (v := 2) hx hb dX4_isDue_41 (by decide) ?_
      refine va_iald hx hb hK (hR.at hS) 1 0 rfl rfl (show tk_in 2 4 by decide) dX4_isDue_42 ?_
      obtain ⟨y4, ey4, hF⟩ := tk_pl hF
      refine W.eq (g2 := F0 m 43 ls [.int (tide (2 : Int32).toNatClampNeg), .int y4]) (by rw [ey4]) ?_
      obtain ⟨gd5, hF⟩ := tk_pg hF
      refine lv_irem hx hb dX4_isDue_43 gd5 ?_
      refine lv_if_ne (tgt := 51) hx hb dX4_isDue_44 (by decide) (fun c6 => ?_) (fun c6 => ?_)
      · have hF := tk_pf hF c6
        refine lv_iconst (v := 0) hx hb dX4_isDue_51 (by decide) ?_
        have eo := tk_pr hF
        subst eo
        exact W.zret (v := 0) hx hb hr (by decide) (fun t ht hW => ⟨⟨_, (), rfl, rfl, tk_pst ht hP hD⟩, hS.F ht⟩) hS.2.2 dX4_isDue_52
      · have hF := tk_pt hF c6
        refine lv_iconst (v := 1) hx hb dX4_isDue_47 (by decide) ?_
        refine lv_goto (tgt := 52) hx hb dX4_isDue_48 (by decide) ?_
        have eo := tk_pr hF
        subst eo
        exact W.zret (v := 1) hx hb hr (by decide) (fun t ht hW => ⟨⟨_, (), rfl, rfl, tk_pst ht hP hD⟩, hS.F ht⟩) hS.2.2 dX4_isDue_52
set_option maxHeartbeats 4000000 in
theorem mX5_waves (l : Launch) (D : va_G) (ar : Nat → ClassId) (ad : Nat → Nat → Nat) (xs : va_W) (sz : Nat) (h0 : Nat) (r0 : Nat → Nat) (i0 : Nat → Int32) (j0 : Nat → Int64) (r1 : Nat → Nat) (i1 : Nat → Int32) (r2 : Nat → Nat) (i2 : Nat → Int32) (r3 : Nat → Nat) (i3 : Nat → Int32) (r4 : Nat → Nat) (i4 : Nat → Int32) (minute cut : Int32) (wv : Nat → Nat → Int32) (size : Int32) (tide reach level : Nat → Int32) (columns rows : Int32) (stone : Nat → Int32) (v_lost came : Int32) (chance : Int64) (wet height : Nat → Int32) (hfam3 : tk_Fwv ar xs r3 size wv) (o : Int32 × Int32 × Int64 × (Nat → Int32) × (Nat → Int32)) (hF : fX5_waves minute cut wv size tide reach level columns rows stone v_lost came chance wet height = some o) : Met l yX5_waves (ws_ yX5_waves cX5_waves 3 none) ({ frames := 3, cells := 0, slots := 0, locals := 89 }) (va_Pc [.ref h0] (tk_Pre D ar ad [(h0, .inr (4, oX5 r0 (tu (tu (tu i0 9 minute) 10 v_lost) 14 came) (tul j0 16 chance))), ((r0 1), .inl (ar 0, 64, .inl wet)), ((r0 0), .inl (ar 0, 64, .inl height))] [((r0 17), .inr (0, oX0 r1 i1)), ((r1 6), .inr (3, oX4 r2 (tu i2 4 cut))), ((r2 0), .inr (13, oJ5 r3 (tu i3 2 size))), ((r2 1), .inl (ar 0, 4, .inl tide)), ((r2 2), .inl (ar 0, 2, .inl reach)), ((r2 3), .inl (ar 0, 2, .inl level)), ((r1 5), .inr (2, oX2 r4 (tu (tu i4 0 columns) 1 rows))), ((r0 7), .inl (ar 2, 64, .inl stone))] xs sz)) (va_Qv (fun _ : Unit => True) (fun _ t => tk_Post D (va_A [(h0, .inr (4, oX5 r0 (tu (tu (tu i0 9 minute) 10 v_lost) 14 came) (tul j0 16 chance))), ((r0 1), .inl (ar 0, 64, .inl wet)), ((r0 0), .inl (ar 0, 64, .inl height))] sz) [(h0, .inr (4, oX5 r0 (tu (tu (tu i0 9 minute) 10 o.1) 14 o.2.1) (tul j0 16 o.2.2.1))), ((r0 1), .inl (ar 0, 64, .inl o.2.2.2.1)), ((r0 0), .inl (ar 0, 64, .inl o.2.2.2.2))] t) (va_A [(h0, .inr (4, oX5 r0 (tu (tu (tu i0 9 minute) 10 v_lost) 14 came) (tul j0 16 chance))), ((r0 1), .inl (ar 0, 64, .inl wet)), ((r0 0), .inl (ar 0, 64, .inl height))] sz)) 0 0 (va_A [(h0, .inr (4, oX5 r0 (tu (tu (tu i0 9 minute) 10 v_lost) 14 came) (tul j0 16 chance))), ((r0 1), .inl (ar 0, 64, .inl wet)), ((r0 0), .inl (ar 0, 64, .inl height))] sz) := by
  refine Met.ofW (cc := cX5_waves) (maxL := 3) (ret := none) (by decide) rfl ?_
  intro p e s m args below meth c s₁ B hml hv
  obtain ⟨rfl, hsz, hP, hD0, hR, hX, hE⟩ := hv
  have hx := B.exec
  have hb := B.bytes
  have hr := B.returns
  have hts := atoms_spec (ws := (ws_ yX5_waves cX5_waves 3 none)) B.pre
  have hts : ∀ w ∈ lw_all, w.before _ s = true := fun w h => hts w (List.mem_cons_of_mem _ h)
  have hown : s.vm.findClass RX5 = some m.cls := findClass_of_methodNamed B.named
  have hlocks := B.notSynchronized
  subst hsz
  have hD := hD0.self (sz := s.heap.size)
  generalize hAe : va_A [(h0, .inr (4, oX5 r0 (tu (tu (tu i0 9 minute) 10 v_lost) 14 came) (tul j0 16 chance))), ((r0 1), .inl (ar 0, 64, .inl wet)), ((r0 0), .inl (ar 0, 64, .inl height))] s.heap.size = A at hD hR hX hE ⊢
  have hA : ∀ q : Nat, s.heap.size ≤ q → A q := fun q h => by rw [← hAe]; exact Or.inr h
  have hS : va_S A s.heap s.heap [] := va_S.rf
  have hK := hE.1
  have hl := lv_entry ([.ref h0]) (n := 3) (Nat.le_of_ble_eq_true rfl)
  rw [lg_entry_eq]
  generalize (lg_sl ([.ref h0]) ++ List.replicate (3 - (lg_sl ([.ref h0])).length) Slot.unset).toArray = ls at hl ⊢
  have hl : lv_has ls 3 [(0, .ref h0)] := hl
  have hP : va_P D tkCl [(h0, .inr (4, oX5 r0 (tu (tu (tu i0 9 minute) 10 v_lost) 14 came) (tul j0 16 chance))), ((r0 1), .inl (ar 0, 64, .inl wet)), ((r0 0), .inl (ar 0, 64, .inl height))] s.heap := hP
  obtain ⟨n0, hF⟩ : ∃ n, tk_k (stX5_waves minute cut wv size tide reach level columns rows stone) n (bX5_waves_0 minute cut wv size tide reach level columns rows stone v_lost came chance wet height) = some o := tk_fin_it hF
  have key : ∀ n : Nat, (∀ (x1 v_lost came : Int32) (chance : Int64) (wet height : Nat → Int32) (H : Heap) (locs : List Loc) (ls : Array Slot), tk_it (stX5_waves minute cut wv size tide reach level columns rows stone) n (1, (x1, v_lost, came, chance, wet, height)) = some o → va_P D tkCl [(h0, .inr (4, oX5 r0 (tu (tu (tu i0 9 minute) 10 v_lost) 14 came) (tul j0 16 chance))), ((r0 1), .inl (ar 0, 64, .inl wet)), ((r0 0), .inl (ar 0, 64, .inl height))] H → va_D A [(h0, .inr (4, oX5 r0 (tu (tu (tu i0 9 minute) 10 v_lost) 14 came) (tul j0 16 chance))), ((r0 1), .inl (ar 0, 64, .inl wet)), ((r0 0), .inl (ar 0, 64, .inl height))] → va_S A s.heap H locs → lv_has ls 3 [(0, .ref h0), (1, .int x1)] → W p l e (headSpec (ws_ yX5_waves cX5_waves 3 none) ({ frames := 3, cells := 0, slots := 0, locals := 89 })).room s m ([.ref h0] : List Value).toArray below meth c H locs 0 0 (MQ below (va_Qv (fun _ : Unit => True) (fun _ t => tk_Post D A [(h0, .inr (4, oX5 r0 (tu (tu (tu i0 9 minute) 10 o.1) 14 o.2.1) (tul j0 16 o.2.2.1))), ((r0 1), .inl (ar 0, 64, .inl o.2.2.2.1)), ((r0 0), .inl (ar 0, 64, .inl o.2.2.2.2))] t) A) ([.ref h0] : List Value).toArray s 0 0 A) (F0 m 2 ls [])) := by
    intro n
    induction n with
    | zero => exact (by intros; rename_i hF _ _ _ _; cases hF)
    | succ n ih =>
      have ih2 := ih
      intro x1 v_lost came chance wet height H locs ls hF hP hD hS hl
      have hF : tk_k (stX5_waves minute cut wv size tide reach level columns rows stone) n (bX5_waves_1 minute cut wv size tide reach level columns rows stone x1 v_lost came chance wet height) = some o := hF
      unfold bX5_waves_1 at hF
      refine lv_iload_n hx hb dX5_waves_2 rfl (lv_at hl 1 rfl) ?_
      refine lv_aload_n hx hb dX5_waves_3 rfl (lv_at hl 0 rfl) ?_
      refine va_get (D := D) (ci := 4) (v := .ref (r0 17)) (C := RX5) (T := TX5) (N := 18) hx hb hts in_X5 hown hK hP 0 rfl rfl 17 (by decide) (hts _ q386) (fun _ h9 => h9) rfl dX5_waves_4 ?_
      refine va_getN (D := D) (ci := 0) (v := .ref (r1 6)) (C := RX0) (T := TX0) (N := 25) hx hb hts in_X0 hown hK (hR.at hS) 0 rfl rfl 6 (by decide) (hE.2.1.use q460 rfl rfl) (fun _ h9 => h9) rfl dX5_waves_7 ?_
      refine va_getN (D := D) (ci := 3) (v := .ref (r2 0)) (C := RX4) (T := TX4) (N := 6) hx hb hts in_X4 hown hK (hR.at hS) 1 rfl rfl 0 (by decide) (hE.2.1.use q314 rfl rfl) (fun _ h9 => h9) rfl dX5_waves_10 ?_
      obtain ⟨u1, hGu1, hF⟩ := tk_kb hF
      refine va_calli (va_runV (As := []) (rest := [.int x1]) ⟨hx, hb, hml, hown, hts⟩ (mJ5_size (l := l) (D := D) (ar := ar) (ad := ad) (xs := xs) (sz := H.size) (h0 := (r2 0)) (r0 := r3) (i0 := (tu i3 2 size)) (size := size) (hF := hGu1)) (cwV 0 hts (lw_V q1091 q769 q770 q98 q771) rfl rfl rfl (by decide +kernel) ⟨(Nat.le_of_ble_eq_true rfl), (Nat.le_of_ble_eq_true rfl)⟩) ⟨tk_blind, va_recv hK (hR.at hS) (ci := 13) (q0 := 2) rfl rfl, fun U hU hW => ⟨rfl, tk_mk hP hD hS hA hE hR hX [] [5] rfl rfl rfl rfl U hU hW⟩⟩ rfl rfl hl.1 rfl (lv_room (Nat.le_of_ble_eq_true rfl)) dX5_waves_13 ⟨(Nat.le_of_ble_eq_true rfl), (Nat.le_of_ble_eq_true rfl)⟩) hS (fun q _ h => (va_free hD hS hA [] rfl) q h) (va_free hD hS hA [] rfl) (fun zr zu zt H1 zl zht zvm zw zB zz zk zS => ?_)
      obtain ⟨hP, hD⟩ := tk_join hP hD zk [] rfl rfl (va_free hD hS hA [] rfl) (zht ▸ zB.1) zB.2 (Nat.le_of_ble_eq_true rfl)
      have hS := zS
      have zw := Eq.symm zw
      subst zw
      generalize H1 = H at hP hS ⊢
      have hP : va_P D tkCl [(h0, .inr (4, oX5 r0 (tu (tu (tu i0 9 minute) 10 v_lost) 14 came) (tul j0 16 chance))), ((r0 1), .inl (ar 0, 64, .inl wet)), ((r0 0), .inl (ar 0, 64, .inl height))] H := hP
      have hD : va_D A [(h0, .inr (4, oX5 r0 (tu (tu (tu i0 9 minute) 10 v_lost) 14 came) (tul j0 16 chance))), ((r0 1), .inl (ar 0, 64, .inl wet)), ((r0 0), .inl (ar 0, 64, .inl height))] := hD
      refine lv_icmp_ge (tgt := 66) hx hb dX5_waves_16 (by decide) (fun c2 => ?_) (fun c2 => ?_)
      · have hF := tk_kt hF c2
        refine lv_aload_n hx hb dX5_waves_66 rfl (lv_at hl 0 rfl) ?_
        refine va_get (D := D) (ci := 4) (v := .ref (r0 17)) (C := RX5) (T := TX5) (N := 18) hx hb hts in_X5 hown hK hP 0 rfl rfl 17 (by decide) (hts _ q386) (fun _ h9 => h9) rfl dX5_waves_67 ?_
        refine va_getN (D := D) (ci := 0) (v := .ref (r1 6)) (C := RX0) (T := TX0) (N := 25) hx hb hts in_X0 hown hK (hR.at hS) 0 rfl rfl 6 (by decide) (hE.2.1.use q460 rfl rfl) (fun _ h9 => h9) rfl dX5_waves_70 ?_
        refine lv_aload_n hx hb dX5_waves_73 rfl (lv_at hl 0 rfl) ?_
        refine va_get (D := D) (ci := 4) (v := .int minute) (C := RX5) (T := TX5) (N := 18) hx hb hts in_X5 hown hK hP 0 rfl rfl 9 (by decide) (hts _ q370) (fun _ h9 => h9) rfl dX5_waves_74 ?_
        obtain ⟨u3, hGu3, hF⟩ := tk_kb hF
        refine va_calli (va_runV (As := [.int minute]) (rest := []) ⟨hx, hb, hml, hown, hts⟩ (mX4_isDue (l := l) (D := D) (ar := ar) (ad := ad) (xs := xs) (sz := H.size) (h0 := (r1 6)) (r0 := r2) (i0 := (tu i2 4 cut)) (tide := tide) (p0 := minute) (hF := hGu3)) (cwV 1 hts (lw_V q1120 q1121 q1122 q95 q1123) rfl rfl rfl (by decide +kernel) ⟨(Nat.le_of_ble_eq_true rfl), (Nat.le_of_ble_eq_true rfl)⟩) ⟨tk_blind, va_recv hK (hR.at hS) (ci := 3) (q0 := 1) rfl rfl, fun U hU hW => ⟨rfl, tk_mk hP hD hS hA hE hR hX [] [4, 6] rfl rfl rfl rfl U hU hW⟩⟩ rfl rfl hl.1 rfl (lv_room (Nat.le_of_ble_eq_true rfl)) dX5_waves_77 ⟨(Nat.le_of_ble_eq_true rfl), (Nat.le_of_ble_eq_true rfl)⟩) hS (fun q _ h => (va_free hD hS hA [] rfl) q h) (va_free hD hS hA [] rfl) (fun zr zu zt H1 zl zht zvm zw zB zz zk zS => ?_)
        obtain ⟨hP, hD⟩ := tk_join hP hD zk [] rfl rfl (va_free hD hS hA [] rfl) (zht ▸ zB.1) zB.2 (Nat.le_of_ble_eq_true rfl)
        have hS := zS
        have zw := Eq.symm zw
        subst zw
        generalize H1 = H at hP hS ⊢
        have hP : va_P D tkCl [(h0, .inr (4, oX5 r0 (tu (tu (tu i0 9 minute) 10 v_lost) 14 came) (tul j0 16 chance))), ((r0 1), .inl (ar 0, 64, .inl wet)), ((r0 0), .inl (ar 0, 64, .inl height))] H := hP
        have hD : va_D A [(h0, .inr (4, oX5 r0 (tu (tu (tu i0 9 minute) 10 v_lost) 14 came) (tul j0 16 chance))), ((r0 1), .inl (ar 0, 64, .inl wet)), ((r0 0), .inl (ar 0, 64, .inl height))] := hD
        refine lv_if_eq (tgt := 104) hx hb dX5_waves_80 (by decide) (fun c4 => ?_) (fun c4 => ?_)
        · have hF := tk_kt hF c4
          have eo := tk_kr hF
          subst eo
          exact W.vret hx hb hr (fun t ht hW => ⟨⟨(), rfl, trivial, tk_pst ht hP hD⟩, hS.F ht⟩) hS.2.2 dX5_waves_104
        · have hF := tk_kf hF c4
          refine lv_aload_n hx hb dX5_waves_83 rfl (lv_at hl 0 rfl) ?_
          refine lv_bipush (v := 100) hx hb dX5_waves_84 (by decide) ?_
          obtain ⟨u5, hGu5, hF⟩ := tk_kb hF
          refine va_calli (va_runV (As := [.int 100]) (rest := []) ⟨hx, hb, hml, hown, hts⟩ (mX5_draw (l := l) (D := D) (ar := ar) (ad := ad) (xs := xs) (sz := H.size) (h0 := h0) (r0 := r0) (i0 := (tu (tu (tu i0 9 minute) 10 v_lost) 14 came)) (j0 := (tul j0 16 chance)) (chance := chance) (p0 := 100) (hF := hGu5)) (cwV 1 hts (lw_V q1125 q1127 qs17 q99 q1128) rfl rfl rfl (by decide +kernel) ⟨(Nat.le_of_ble_eq_true rfl), (Nat.le_of_ble_eq_true rfl)⟩) ⟨tk_blind, va_recv hK hP (ci := 4) (q0 := 0) rfl rfl, fun U hU hW => ⟨rfl, tk_mk hP hD hS hA hE hR hX [0] [] rfl rfl rfl rfl U hU hW⟩⟩ rfl rfl hl.1 rfl (lv_room (Nat.le_of_ble_eq_true rfl)) dX5_waves_86 ⟨(Nat.le_of_ble_eq_true rfl), (Nat.le_of_ble_eq_true rfl)⟩) hS (fun q _ h => (va_free hD hS hA [0] rfl) q h) (va_free hD hS hA [0] rfl) (fun zr zu zt H1 zl zht zvm zw zB zz zk zS => ?_)
          obtain ⟨hP, hD⟩ := tk_join hP hD zk [0] rfl rfl (va_free hD hS hA [0] rfl) (zht ▸ zB.1) zB.2 (Nat.le_of_ble_eq_true rfl)
          have hS := zS
          have zw := Eq.symm zw
          subst zw
          generalize H1 = H at hP hS ⊢
          have hP : va_P D tkCl [(h0, .inr (4, oX5 r0 (tu (tu (tu i0 9 minute) 10 v_lost) 14 came) (tul j0 16 u5.2))), ((r0 1), .inl (ar 0, 64, .inl wet)), ((r0 0), .inl (ar 0, 64, .inl height))] H := hP
          have hD : va_D A [(h0, .inr (4, oX5 r0 (tu (tu (tu i0 9 minute) 10 v_lost) 14 came) (tul j0 16 u5.2))), ((r0 1), .inl (ar 0, 64, .inl wet)), ((r0 0), .inl (ar 0, 64, .inl height))] := hD
          refine lv_aload_n hx hb dX5_waves_89 rfl (lv_at hl 0 rfl) ?_
          refine va_get (D := D) (ci := 4) (v := .ref (r0 17)) (C := RX5) (T := TX5) (N := 18) hx hb hts in_X5 hown hK hP 0 rfl rfl 17 (by decide) (hts _ q386) (fun _ h9 => h9) rfl dX5_waves_90 ?_
          refine va_getN (D := D) (ci := 0) (v := .ref (r1 6)) (C := RX0) (T := TX0) (N := 25) hx hb hts in_X0 hown hK (hR.at hS) 0 rfl rfl 6 (by decide) (hE.2.1.use q460 rfl rfl) (fun _ h9 => h9) rfl dX5_waves_93 ?_
          refine va_getN (D := D) (ci := 3) (v := .ref (r2 1)) (C := RX4) (T := TX4) (N := 6) hx hb hts in_X4 hown hK (hR.at hS) 1 rfl rfl 1 (by decide) (hE.2.1.use q318 rfl rfl) (fun _ h9 => h9) rfl dX5_waves_96 ?_
          refine lv_iconst (v := 3) hx hb dX5_waves_99 (by decide) ?_
          refine va_iald hx hb hK (hR.at hS) 3 0 rfl rfl (show tk_in 3 4 by decide) dX5_waves_100 ?_
          refine lv_icmp_lt (tgt := 105) hx hb dX5_waves_101 (by decide) (fun c6 => ?_) (fun c6 => ?_)
          · have hF := tk_kt hF c6
            refine lv_aload_n hx hb dX5_waves_105 rfl (lv_at hl 0 rfl) ?_
            refine va_get (D := D) (ci := 4) (v := .ref (r0 17)) (C := RX5) (T := TX5) (N := 18) hx hb hts in_X5 hown hK hP 0 rfl rfl 17 (by decide) (hts _ q386) (fun _ h9 => h9) rfl dX5_waves_106 ?_
            refine va_getN (D := D) (ci := 0) (v := .ref (r1 6)) (C := RX0) (T := TX0) (N := 25) hx hb hts in_X0 hown hK (hR.at hS) 0 rfl rfl 6 (by decide) (hE.2.1.use q460 rfl rfl) (fun _ h9 => h9) rfl dX5_waves_109 ?_
            refine va_getN (D := D) (ci := 3) (v := .ref (r2 2)) (C := RX4) (T := TX4) (N := 6) hx hb hts in_X4 hown hK (hR.at hS) 1 rfl rfl 2 (by decide) (hE.2.1.use q322 rfl rfl) (fun _ h9 => h9) rfl dX5_waves_112 ?_
            refine lv_iconst (v := 0) hx hb dX5_waves_115 (by decide) ?_
            refine va_iald hx hb hK (hR.at hS) 4 0 rfl rfl (show tk_in 0 2 by decide) dX5_waves_116 ?_
            refine lv_aload_n hx hb dX5_waves_117 rfl (lv_at hl 0 rfl) ?_
            refine lv_aload_n hx hb dX5_waves_118 rfl (lv_at hl 0 rfl) ?_
            refine va_get (D := D) (ci := 4) (v := .ref (r0 17)) (C := RX5) (T := TX5) (N := 18) hx hb hts in_X5 hown hK hP 0 rfl rfl 17 (by decide) (hts _ q386) (fun _ h9 => h9) rfl dX5_waves_119 ?_
            refine va_getN (D := D) (ci := 0) (v := .ref (r1 6)) (C := RX0) (T := TX0) (N := 25) hx hb hts in_X0 hown hK (hR.at hS) 0 rfl rfl 6 (by decide) (hE.2.1.use q460 rfl rfl) (fun _ h9 => h9) rfl dX5_waves_122 ?_
            refine va_getN (D := D) (ci := 3) (v := .ref (r2 2)) (C := RX4) (T := TX4) (N := 6) hx hb hts in_X4 hown hK (hR.at hS) 1 rfl rfl 2 (by decide) (hE.2.1.use q322 rfl rfl) (fun _ h9 => h9) rfl dX5_waves_125 ?_
            refine lv_iconst (v := 1) hx hb dX5_waves_128 (by decide) ?_
            refine va_iald hx hb hK (hR.at hS) 4 0 rfl rfl (show tk_in 1 2 by decide) dX5_waves_129 ?_
            refine lv_aload_n hx hb dX5_waves_130 rfl (lv_at hl 0 rfl) ?_
            refine va_get (D := D) (ci := 4) (v := .ref (r0 17)) (C := RX5) (T := TX5) (N := 18) hx hb hts in_X5 hown hK hP 0 rfl rfl 17 (by decide) (hts _ q386) (fun _ h9 => h9) rfl dX5_waves_131 ?_
            refine va_getN (D := D) (ci := 0) (v := .ref (r1 6)) (C := RX0) (T := TX0) (N := 25) hx hb hts in_X0 hown hK (hR.at hS) 0 rfl rfl 6 (by decide) (hE.2.1.use q460 rfl rfl) (fun _ h9 => h9) rfl dX5_waves_134 ?_
            refine va_getN (D := D) (ci := 3) (v := .ref (r2 2)) (C := RX4) (T := TX4) (N := 6) hx hb hts in_X4 hown hK (hR.at hS) 1 rfl rfl 2 (by decide) (hE.2.1.use q322 rfl rfl) (fun _ h9 => h9) rfl dX5_waves_137 ?_
            refine lv_iconst (v := 0) hx hb dX5_waves_140 (by decide) ?_
            refine va_iald hx hb hK (hR.at hS) 4 0 rfl rfl (show tk_in 0 2 by decide) dX5_waves_141 ?_
            refine lv_isub hx hb dX5_waves_142 ?_
            refine lv_iconst (v := 1) hx hb dX5_waves_143 (by decide) ?_
            refine lv_iadd hx hb dX5_waves_144 ?_
            obtain ⟨u7, hGu7, hF⟩ := tk_kb hF
            refine va_calli (va_runV (As := [.int (((reach (1 : Int32).toNatClampNeg) - (reach (0 : Int32).toNatClampNeg)) + 1)]) (rest := [.int (reach (0 : Int32).toNatClampNeg)]) ⟨hx, hb, hml, hown, hts⟩ (mX5_draw (l := l) (D := D) (ar := ar) (ad := ad) (xs := xs) (sz := H.size) (h0 := h0) (r0 := r0) (i0 := (tu (tu (tu i0 9 minute) 10 v_lost) 14 came)) (j0 := (tul j0 16 u5.2)) (chance := u5.2) (p0 := ((reach (1 : Int32).toNatClampNeg) - (reach (0 : Int32).toNatClampNeg)) + 1) (hF := hGu7)) (cwV 1 hts (lw_V q1125 q1127 qs17 q99 q1128) rfl rfl rfl (by decide +kernel) ⟨(Nat.le_of_ble_eq_true rfl), (Nat.le_of_ble_eq_true rfl)⟩) ⟨tk_blind, va_recv hK hP (ci := 4) (q0 := 0) rfl rfl, fun U hU hW => ⟨rfl, tk_mk hP hD hS hA hE hR hX [0] [] rfl rfl rfl rfl U hU hW⟩⟩ rfl rfl hl.1 rfl (lv_room (Nat.le_of_ble_eq_true rfl)) dX5_waves_145 ⟨(Nat.le_of_ble_eq_true rfl), (Nat.le_of_ble_eq_true rfl)⟩) hS (fun q _ h => (va_free hD hS hA [0] rfl) q h) (va_free hD hS hA [0] rfl) (fun zr zu zt H1 zl zht zvm zw zB zz zk zS => ?_)
            obtain ⟨hP, hD⟩ := tk_join hP hD zk [0] rfl rfl (va_free hD hS hA [0] rfl) (zht ▸ zB.1) zB.2 (Nat.le_of_ble_eq_true rfl)
            have hS := zS
            have zw := Eq.symm zw
            subst zw
            generalize H1 = H at hP hS ⊢
            have hP : va_P D tkCl [(h0, .inr (4, oX5 r0 (tu (tu (tu i0 9 minute) 10 v_lost) 14 came) (tul j0 16 u7.2))), ((r0 1), .inl (ar 0, 64, .inl wet)), ((r0 0), .inl (ar 0, 64, .inl height))] H := hP
            have hD : va_D A [(h0, .inr (4, oX5 r0 (tu (tu (tu i0 9 minute) 10 v_lost) 14 came) (tul j0 16 u7.2))), ((r0 1), .inl (ar 0, 64, .inl wet)), ((r0 0), .inl (ar 0, 64, .inl height))] := hD
            refine lv_iadd hx hb dX5_waves_148 ?_
            refine lv_istore_n (lv' := [(1, .int ((reach (0 : Int32).toNatClampNeg) + u7.1)), (0, .ref h0)]) hx hb dX5_waves_149 rfl hl (Nat.le_of_ble_eq_true rfl) rfl (fun ls hl => ?_)
            refine lv_aload_n hx hb dX5_waves_150 rfl (lv_at hl 1 rfl) ?_
            refine lv_iload_n hx hb dX5_waves_151 rfl (lv_at hl 0 rfl) ?_
            refine lv_aload_n hx hb dX5_waves_152 rfl (lv_at hl 1 rfl) ?_
            refine va_get (D := D) (ci := 4) (v := .ref (r0 17)) (C := RX5) (T := TX5) (N := 18) hx hb hts in_X5 hown hK hP 0 rfl rfl 17 (by decide) (hts _ q386) (fun _ h9 => h9) rfl dX5_waves_153 ?_
            refine va_getN (D := D) (ci := 0) (v := .ref (r1 6)) (C := RX0) (T := TX0) (N := 25) hx hb hts in_X0 hown hK (hR.at hS) 0 rfl rfl 6 (by decide) (hE.2.1.use q460 rfl rfl) (fun _ h9 => h9) rfl dX5_waves_156 ?_
            refine va_getN (D := D) (ci := 3) (v := .ref (r2 3)) (C := RX4) (T := TX4) (N := 6) hx hb hts in_X4 hown hK (hR.at hS) 1 rfl rfl 3 (by decide) (hE.2.1.use q326 rfl rfl) (fun _ h9 => h9) rfl dX5_waves_159 ?_
            refine lv_iconst (v := 0) hx hb dX5_waves_162 (by decide) ?_
            refine va_iald hx hb hK (hR.at hS) 5 0 rfl rfl (show tk_in 0 2 by decide) dX5_waves_163 ?_
            refine lv_aload_n hx hb dX5_waves_164 rfl (lv_at hl 1 rfl) ?_
            refine lv_aload_n hx hb dX5_waves_165 rfl (lv_at hl 1 rfl) ?_
            refine va_get (D := D) (ci := 4) (v := .ref (r0 17)) (C := RX5) (T := TX5) (N := 18) hx hb hts in_X5 hown hK hP 0 rfl rfl 17 (by decide) (hts _ q386) (fun _ h9 => h9) rfl dX5_waves_166 ?_
            refine va_getN (D := D) (ci := 0) (v := .ref (r1 6)) (C := RX0) (T := TX0) (N := 25) hx hb hts in_X0 hown hK (hR.at hS) 0 rfl rfl 6 (by decide) (hE.2.1.use q460 rfl rfl) (fun _ h9 => h9) rfl dX5_waves_169 ?_
            refine va_getN (D := D) (ci := 3) (v := .ref (r2 3)) (C := RX4) (T := TX4) (N := 6) hx hb hts in_X4 hown hK (hR.at hS) 1 rfl rfl 3 (by decide) (hE.2.1.use q326 rfl rfl) (fun _ h9 => h9) rfl dX5_waves_172 ?_
            refine lv_iconst (v := 1) hx hb dX5_waves_175 (by decide) ?_
            refine va_iald hx hb hK (hR.at hS) 5 0 rfl rfl (show tk_in 1 2 by decide) dX5_waves_176 ?_
            refine lv_aload_n hx hb dX5_waves_177 rfl (lv_at hl 1 rfl) ?_
            refine va_get (D := D) (ci := 4) (v := .ref (r0 17)) (C := RX5) (T := TX5) (N := 18) hx hb hts in_X5 hown hK hP 0 rfl rfl 17 (by decide) (hts _ q386) (fun _ h9 => h9) rfl dX5_waves_178 ?_
            refine va_getN (D := D) (ci := 0) (v := .ref (r1 6)) (C := RX0) (T := TX0) (N := 25) hx hb hts in_X0 hown hK (hR.at hS) 0 rfl rfl 6 (by decide) (hE.2.1.use q460 rfl rfl) (fun _ h9 => h9) rfl dX5_waves_181 ?_
            refine va_getN (D := D) (ci := 3) (v := .ref (r2 3)) (C := RX4) (T := TX4) (N := 6) hx hb hts in_X4 hown hK (hR.at hS) 1 rfl rfl 3 (by decide) (hE.2.1.use q326 rfl rfl) (fun _ h9 => h9) rfl dX5_waves_184 ?_
            refine lv_iconst (v := 0) hx hb dX5_waves_187 (by decide) ?_
            refine va_iald hx hb hK (hR.at hS) 5 0 rfl rfl (show tk_in 0 2 by decide) dX5_waves_188 ?_
            refine lv_isub hx hb dX5_waves_189 ?_
            refine lv_iconst (v := 1) hx hb dX5_waves_190 (by decide) ?_
            refine lv_iadd hx hb dX5_waves_191 ?_
            obtain ⟨u8, hGu8, hF⟩ := tk_kb hF
            refine va_calli (va_runV (As := [.int (((level (1 : Int32).toNatClampNeg) - (level (0 : Int32).toNatClampNeg)) + 1)]) (rest := [.int (level (0 : Int32).toNatClampNeg), .int ((reach (0 : Int32).toNatClampNeg) + u7.1), .ref h0]) ⟨hx, hb, hml, hown, hts⟩ (mX5_draw (l := l) (D := D) (ar := ar) (ad := ad) (xs := xs) (sz := H.size) (h0 := h0) (r0 := r0) (i0 := (tu (tu (tu i0 9 minute) 10 v_lost) 14 came)) (j0 := (tul j0 16 u7.2)) (chance := u7.2) (p0 := ((level (1 : Int32).toNatClampNeg) - (level (0 : Int32).toNatClampNeg)) + 1) (hF := hGu8)) (cwV 1 hts (lw_V q1125 q1127 qs17 q99 q1128) rfl rfl rfl (by decide +kernel) ⟨(Nat.le_of_ble_eq_true rfl), (Nat.le_of_ble_eq_true rfl)⟩) ⟨tk_blind, va_recv hK hP (ci := 4) (q0 := 0) rfl rfl, fun U hU hW => ⟨rfl, tk_mk hP hD hS hA hE hR hX [0] [] rfl rfl rfl rfl U hU hW⟩⟩ rfl rfl hl.1 rfl (lv_room (Nat.le_of_ble_eq_true rfl)) dX5_waves_192 ⟨(Nat.le_of_ble_eq_true rfl), (Nat.le_of_ble_eq_true rfl)⟩) hS (fun q _ h => (va_free hD hS hA [0] rfl) q h) (va_free hD hS hA [0] rfl) (fun zr zu zt H1 zl zht zvm zw zB zz zk zS => ?_)
            obtain ⟨hP, hD⟩ := tk_join hP hD zk [0] rfl rfl (va_free hD hS hA [0] rfl) (zht ▸ zB.1) zB.2 (Nat.le_of_ble_eq_true rfl)
            have hS := zS
            have zw := Eq.symm zw
            subst zw
            generalize H1 = H at hP hS ⊢
            have hP : va_P D tkCl [(h0, .inr (4, oX5 r0 (tu (tu (tu i0 9 minute) 10 v_lost) 14 came) (tul j0 16 u8.2))), ((r0 1), .inl (ar 0, 64, .inl wet)), ((r0 0), .inl (ar 0, 64, .inl height))] H := hP
            have hD : va_D A [(h0, .inr (4, oX5 r0 (tu (tu (tu i0 9 minute) 10 v_lost) 14 came) (tul j0 16 u8.2))), ((r0 1), .inl (ar 0, 64, .inl wet)), ((r0 0), .inl (ar 0, 64, .inl height))] := hD
            refine lv_iadd hx hb dX5_waves_195 ?_
            obtain ⟨u9, hGu9, hF⟩ := tk_kb hF
            refine va_callv (va_runV (As := [.int ((reach (0 : Int32).toNatClampNeg) + u7.1), .int ((level (0 : Int32).toNatClampNeg) + u8.1)]) (rest := []) ⟨hx, hb, hml, hown, hts⟩ (mX5_wave (l := l) (D := D) (ar := ar) (ad := ad) (xs := xs) (sz := H.size) (h0 := h0) (r0 := r0) (i0 := (tu (tu (tu i0 9 minute) 10 v_lost) 14 came)) (j0 := (tul j0 16 u8.2)) (r1 := r1) (i1 := i1) (r2 := r4) (i2 := (tu (tu i4 0 columns) 1 rows)) (r3 := r2) (i3 := (tu i2 4 cut)) (columns := columns) (rows := rows) (stone := stone) (cut := cut) (v_lost := v_lost) (came := came) (wet := wet) (height := height) (p0 := (reach (0 : Int32).toNatClampNeg) + u7.1) (p1 := (level (0 : Int32).toNatClampNeg) + u8.1) (hF := hGu9)) (cwV 2 hts (lw_V q1112 q1113 q1114 q99 q1115) rfl rfl rfl (by decide +kernel) ⟨(Nat.le_of_ble_eq_true rfl), (Nat.le_of_ble_eq_true rfl)⟩) ⟨tk_blind, va_recv hK hP (ci := 4) (q0 := 0) rfl rfl, fun U hU hW => ⟨rfl, tk_mk hP hD hS hA hE hR hX [0, 1, 2] [3, 9, 10, 4] rfl rfl rfl rfl U hU hW⟩⟩ rfl rfl hl.1 rfl (lv_room (Nat.le_of_ble_eq_true rfl)) dX5_waves_196 ⟨(Nat.le_of_ble_eq_true rfl), (Nat.le_of_ble_eq_true rfl)⟩) hS (fun q _ h => (va_free hD hS hA [0, 1, 2] rfl) q h) (va_free hD hS hA [0, 1, 2] rfl) (fun zu zt H1 zl zht zvm zw zB zz zk zS => ?_)
            obtain ⟨hP, hD⟩ := tk_join hP hD zk [0, 1, 2] rfl rfl (va_free hD hS hA [0, 1, 2] rfl) (zht ▸ zB.1) zB.2 (Nat.le_of_ble_eq_true rfl)
            have hS := zS
            generalize H1 = H at hP hS ⊢
            have hP : va_P D tkCl [(h0, .inr (4, oX5 r0 (tu (tu (tu i0 9 minute) 10 u9.1) 14 u9.2.1) (tul j0 16 u8.2))), ((r0 1), .inl (ar 0, 64, .inl u9.2.2.1)), ((r0 0), .inl (ar 0, 64, .inl u9.2.2.2))] H := hP
            have hD : va_D A [(h0, .inr (4, oX5 r0 (tu (tu (tu i0 9 minute) 10 u9.1) 14 u9.2.1) (tul j0 16 u8.2))), ((r0 1), .inl (ar 0, 64, .inl u9.2.2.1)), ((r0 0), .inl (ar 0, 64, .inl u9.2.2.2))] := hD
            have eo := tk_kr hF
            subst eo
            exact W.vret hx hb hr (fun t ht hW => ⟨⟨(), rfl, trivial, tk_pst ht hP hD⟩, hS.F ht⟩) hS.2.2 dX5_waves_199
          · have hF := tk_kf hF c6
            have eo := tk_kr hF
            subst eo
            exact W.vret hx hb hr (fun t ht hW => ⟨⟨(), rfl, trivial, tk_pst ht hP hD⟩, hS.F ht⟩) hS.2.2 dX5_waves_104
      · have hF := tk_kf hF c2
        refine lv_aload_n hx hb dX5_waves_19 rfl (lv_at hl 0 rfl) ?_
        refine va_get (D := D) (ci := 4) (v := .ref (r0 17)) (C := RX5) (T := TX5) (N := 18) hx hb hts in_X5 hown hK hP 0 rfl rfl 17 (by decide) (hts _ q386) (fun _ h9 => h9) rfl dX5_waves_20 ?_
        refine va_getN (D := D) (ci := 0) (v := .ref (r1 6)) (C := RX0) (T := TX0) (N := 25) hx hb hts in_X0 hown hK (hR.at hS) 0 rfl rfl 6 (by decide) (hE.2.1.use q460 rfl rfl) (fun _ h9 => h9) rfl dX5_waves_23 ?_
        refine va_getN (D := D) (ci := 3) (v := .ref (r2 0)) (C := RX4) (T := TX4) (N := 6) hx hb hts in_X4 hown hK (hR.at hS) 1 rfl rfl 0 (by decide) (hE.2.1.use q314 rfl rfl) (fun _ h9 => h9) rfl dX5_waves_26 ?_
        refine lv_iload_n hx hb dX5_waves_29 rfl (lv_at hl 1 rfl) ?_
        obtain ⟨gd10, hF⟩ := tk_kg hF
        obtain ⟨capm11, fm11, am11, hmam11, hcm11, hfm11, hmm11⟩ := hfam3 _ (tk_in_n gd10)
        refine va_callr (va_runV (As := [.int x1]) (rest := []) ⟨hx, hb, hml, hown, hts⟩ (mJ5_get (l := l) (D := D) (ar := ar) (ad := ad) (xs := xs) (sz := H.size) (h0 := (r2 0)) (r0 := r3) (i0 := (tu i3 2 size)) (cap := capm11) (f := fm11) (a := am11) (p0 := x1) (hn0 := fun q => gd10 (Or.inl q)) (hlt := tk_in_size gd10) (hin9 := tk_in_mk gd10 hcm11) (hf9 := hfm11)) (cwV 1 hts (lw_V q1088 q1044 q1045 q98 q1046) rfl rfl rfl (by decide +kernel) ⟨(Nat.le_of_ble_eq_true rfl), (Nat.le_of_ble_eq_true rfl)⟩) ⟨tk_blind, va_recv hK (hR.at hS) (ci := 13) (q0 := 2) rfl rfl, fun U hU hW => ⟨rfl, tk_mkM hP hD hS hA hE hR hX (wc := []) (List.Perm.refl _) (tk_rc2 (Or.inr (Or.inl (List.mem_of_getElem? (i := 2) rfl))) (Or.inr (Or.inr hmam11))) (fun q hq => Or.inr (Or.inr hq)) U hU hW⟩⟩ rfl rfl hl.1 rfl (lv_room (Nat.le_of_ble_eq_true rfl)) dX5_waves_30 ⟨(Nat.le_of_ble_eq_true rfl), (Nat.le_of_ble_eq_true rfl)⟩) hS (fun q _ h => (va_free hD hS hA [] rfl) q h) (va_free hD hS hA [] rfl) (fun zu zr zt H1 zl zht zvm zw zB zz zk zS => ?_)
        obtain ⟨zr9, zB⟩ := zB
        have zr9 := Eq.symm zr9
        subst zr9
        obtain ⟨hP, hD⟩ := tk_join hP hD zk [] rfl rfl (va_free hD hS hA [] rfl) (zht ▸ zB.1) zB.2 (Nat.le_of_ble_eq_true rfl)
        have hS := zS
        generalize H1 = H at hP hS ⊢
        have hP : va_P D tkCl [(h0, .inr (4, oX5 r0 (tu (tu (tu i0 9 minute) 10 v_lost) 14 came) (tul j0 16 chance))), ((r0 1), .inl (ar 0, 64, .inl wet)), ((r0 0), .inl (ar 0, 64, .inl height))] H := hP
        have hD : va_D A [(h0, .inr (4, oX5 r0 (tu (tu (tu i0 9 minute) 10 v_lost) 14 came) (tul j0 16 chance))), ((r0 1), .inl (ar 0, 64, .inl wet)), ((r0 0), .inl (ar 0, 64, .inl height))] := hD
        refine va_castS hx hb hown (hts _ q1111) (hK.1 9 _ rfl).2 (tk_recvX hK hX hS hmm11 (ci := 9) rfl) dX5_waves_33 ?_
        refine lv_astore_n (lv' := [(2, .ref am11), (0, .ref h0), (1, .int x1)]) hx hb dX5_waves_36 rfl hl (Nat.le_of_ble_eq_true rfl) rfl (fun ls hl => ?_)
        refine lv_aload_n hx hb dX5_waves_37 rfl (lv_at hl 0 rfl) ?_
        obtain ⟨j12, hj12⟩ := tk_xs (D := D) (A := A) (H := H) hmm11
        refine va_getN (D := D) (ci := 9) (v := .int (wv x1.toNatClampNeg 0)) (C := RX11) (T := TX11) (N := 3) hx hb hts in_X11 hown hK (hX.at hS) j12 hj12 rfl 0 (by decide) (hE.2.1.use q918 rfl rfl) (fun _ h9 => h9) rfl dX5_waves_38 ?_
        refine lv_aload_n hx hb dX5_waves_41 rfl (lv_at hl 1 rfl) ?_
        refine va_get (D := D) (ci := 4) (v := .int minute) (C := RX5) (T := TX5) (N := 18) hx hb hts in_X5 hown hK hP 0 rfl rfl 9 (by decide) (hts _ q370) (fun _ h9 => h9) rfl dX5_waves_42 ?_
        refine lv_icmp_ne (tgt := 60) hx hb dX5_waves_45 (by decide) (fun c13 => ?_) (fun c13 => ?_)
        · have hF := tk_kf hF c13
          refine lv_iinc (v := x1 + 1) (lv' := [(1, .int (x1 + 1)), (2, .ref am11), (0, .ref h0)]) hx hb dX5_waves_60 hl (k := 2) rfl (congrArg (fun z => x1 + z) (show Int32.ofInt 1 = 1 by decide)) (Nat.le_of_ble_eq_true rfl) rfl (fun ls hl => ?_)
          refine lv_goto (tgt := 2) hx hb dX5_waves_63 (by decide) ?_
          exact ih2 (x1 + 1) v_lost came chance wet height _ _ _ hF hP hD hS (lv_sub hl [2, 0] rfl)
        · have hF := tk_kt hF c13
          refine lv_aload_n hx hb dX5_waves_48 rfl (lv_at hl 1 rfl) ?_
          refine lv_aload_n hx hb dX5_waves_49 rfl (lv_at hl 0 rfl) ?_
          obtain ⟨j14, hj14⟩ := tk_xs (D := D) (A := A) (H := H) hmm11
          refine va_getN (D := D) (ci := 9) (v := .int (wv x1.toNatClampNeg 1)) (C := RX11) (T := TX11) (N := 3) hx hb hts in_X11 hown hK (hX.at hS) j14 hj14 rfl 1 (by decide) (hE.2.1.use q921 rfl rfl) (fun _ h9 => h9) rfl dX5_waves_50 ?_
          refine lv_aload_n hx hb dX5_waves_53 rfl (lv_at hl 0 rfl) ?_
          obtain ⟨j15, hj15⟩ := tk_xs (D := D) (A := A) (H := H) hmm11
          refine va_getN (D := D) (ci := 9) (v := .int (wv x1.toNatClampNeg 2)) (C := RX11) (T := TX11) (N := 3) hx hb hts in_X11 hown hK (hX.at hS) j15 hj15 rfl 2 (by decide) (hE.2.1.use q924 rfl rfl) (fun _ h9 => h9) rfl dX5_waves_54 ?_
          obtain ⟨u16, hGu16, hF⟩ := tk_kb hF
          refine va_callv (va_runV (As := [.int (wv x1.toNatClampNeg 1), .int (wv x1.toNatClampNeg 2)]) (rest := []) ⟨hx, hb, hml, hown, hts⟩ (mX5_wave (l := l) (D := D) (ar := ar) (ad := ad) (xs := xs) (sz := H.size) (h0 := h0) (r0 := r0) (i0 := (tu (tu (tu i0 9 minute) 10 v_lost) 14 came)) (j0 := (tul j0 16 chance)) (r1 := r1) (i1 := i1) (r2 := r4) (i2 := (tu (tu i4 0 columns) 1 rows)) (r3 := r2) (i3 := (tu i2 4 cut)) (columns := columns) (rows := rows) (stone := stone) (cut := cut) (v_lost := v_lost) (came := came) (wet := wet) (height := height) (p0 := wv x1.toNatClampNeg 1) (p1 := wv x1.toNatClampNeg 2) (hF := hGu16)) (cwV 2 hts (lw_V q1112 q1113 q1114 q99 q1115) rfl rfl rfl (by decide +kernel) ⟨(Nat.le_of_ble_eq_true rfl), (Nat.le_of_ble_eq_true rfl)⟩) ⟨tk_blind, va_recv hK hP (ci := 4) (q0 := 0) rfl rfl, fun U hU hW => ⟨rfl, tk_mk hP hD hS hA hE hR hX [0, 1, 2] [3, 9, 10, 4] rfl rfl rfl rfl U hU hW⟩⟩ rfl rfl hl.1 rfl (lv_room (Nat.le_of_ble_eq_true rfl)) dX5_waves_57 ⟨(Nat.le_of_ble_eq_true rfl), (Nat.le_of_ble_eq_true rfl)⟩) hS (fun q _ h => (va_free hD hS hA [0, 1, 2] rfl) q h) (va_free hD hS hA [0, 1, 2] rfl) (fun zu zt H1 zl zht zvm zw zB zz zk zS => ?_)
          obtain ⟨hP, hD⟩ := tk_join hP hD zk [0, 1, 2] rfl rfl (va_free hD hS hA [0, 1, 2] rfl) (zht ▸ zB.1) zB.2 (Nat.le_of_ble_eq_true rfl)
          have hS := zS
          generalize H1 = H at hP hS ⊢
          have hP : va_P D tkCl [(h0, .inr (4, oX5 r0 (tu (tu (tu i0 9 minute) 10 u16.1) 14 u16.2.1) (tul j0 16 chance))), ((r0 1), .inl (ar 0, 64, .inl u16.2.2.1)), ((r0 0), .inl (ar 0, 64, .inl u16.2.2.2))] H := hP
          have hD : va_D A [(h0, .inr (4, oX5 r0 (tu (tu (tu i0 9 minute) 10 u16.1) 14 u16.2.1) (tul j0 16 chance))), ((r0 1), .inl (ar 0, 64, .inl u16.2.2.1)), ((r0 0), .inl (ar 0, 64, .inl u16.2.2.2))] := hD
          refine lv_iinc (v := x1 + 1) (lv' := [(1, .int (x1 + 1)), (2, .ref am11), (0, .ref h0)]) hx hb dX5_waves_60 hl (k := 2) rfl (congrArg (fun z => x1 + z) (show Int32.ofInt 1 = 1 by decide)) (Nat.le_of_ble_eq_true rfl) rfl (fun ls hl => ?_)
          refine lv_goto (tgt := 2) hx hb dX5_waves_63 (by decide) ?_
          exact ih2 (x1 + 1) u16.1 u16.2.1 chance u16.2.2.1 u16.2.2.2 _ _ _ hF hP hD hS (lv_sub hl [2, 0] rfl)
  have ih2 := key n0
  clear key
  unfold bX5_waves_0 at hF
  have hF : tk_k (stX5_waves minute cut wv size tide reach level columns rows stone) n0 _ = some o := hF
  refine lv_iconst (v := 0) hx hb dX5_waves_0 (by decide) ?_
  refine lv_istore_n (lv' := [(1, .int 0), (0, .ref h0)]) hx hb dX5_waves_1 rfl hl (Nat.le_of_ble_eq_true rfl) rfl (fun ls hl => ?_)
  exact ih2 0 v_lost came chance wet height _ _ _ hF hP hD hS (lv_sub hl [1, 0] rfl)
set_option maxHeartbeats 4000000 in
theorem mX5_work (l : Launch) (D : va_G) (ar : Nat → ClassId) (ad : Nat → Nat → Nat) (xs : va_W) (sz : Nat) (h0 : Nat) (r0 : Nat → Nat) (i0 : Nat → Int32) (j0 : Nat → Int64) (r1 : Nat → Nat) (i1 : Nat → Int32) (r2 : Nat → Nat) (i2 : Nat → Int32) (r3 : Nat → Nat) (i3 : Nat → Int32) (plan : Int32) (hn : Nat → Int32) (an : Nat → Nat → Int32) (av : Nat → Nat → Nat → Nat → Int32) (size : Int32) (numbers isResting nextAct height stone wet pack done : Nat → Int32) (hfam2 : tk_Fpl ar xs r2 size hn an av) (o : (Nat → Int32) × (Nat → Int32) × (Nat → Int32) × (Nat → Int32) × (Nat → Int32) × (Nat → Int32) × (Nat → Int32)) (hF : fX5_work plan hn an av size numbers isResting nextAct height stone wet pack done = some o) : Met l yX5_work (ws_ yX5_work cX5_work 6 none) ({ frames := 3, cells := 0, slots := 0, locals := 64 }) (va_Pc [.ref h0] (tk_Pre D ar ad [((r0 8), .inl (ar 2, 4, .inl isResting)), ((r0 3), .inl (ar 0, 4, .inl nextAct)), ((r0 0), .inl (ar 0, 64, .inl height)), ((r0 7), .inl (ar 2, 64, .inl stone)), ((r0 1), .inl (ar 0, 64, .inl wet)), ((r0 2), .inl (ar 0, 64, .inl pack)), ((r0 4), .inl (ar 0, 4, .inl done))] [(h0, .inr (4, oX5 r0 (tu i0 15 plan) j0)), ((r0 17), .inr (0, oX0 r1 i1)), ((r1 7), .inr (13, oJ5 r2 (tu i2 2 size))), ((r1 5), .inr (2, oX2 r3 i3)), ((r3 7), .inl (ar 0, 6, .inl numbers))] xs sz)) (va_Qv (fun _ : Unit => True) (fun _ t => tk_Post D (va_A [((r0 8), .inl (ar 2, 4, .inl isResting)), ((r0 3), .inl (ar 0, 4, .inl nextAct)), ((r0 0), .inl (ar 0, 64, .inl height)), ((r0 7), .inl (ar 2, 64, .inl stone)), ((r0 1), .inl (ar 0, 64, .inl wet)), ((r0 2), .inl (ar 0, 64, .inl pack)), ((r0 4), .inl (ar 0, 4, .inl done))] sz) [((r0 8), .inl (ar 2, 4, .inl o.1)), ((r0 3), .inl (ar 0, 4, .inl o.2.1)), ((r0 0), .inl (ar 0, 64, .inl o.2.2.1)), ((r0 7), .inl (ar 2, 64, .inl o.2.2.2.1)), ((r0 1), .inl (ar 0, 64, .inl o.2.2.2.2.1)), ((r0 2), .inl (ar 0, 64, .inl o.2.2.2.2.2.1)), ((r0 4), .inl (ar 0, 4, .inl o.2.2.2.2.2.2))] t) (va_A [((r0 8), .inl (ar 2, 4, .inl isResting)), ((r0 3), .inl (ar 0, 4, .inl nextAct)), ((r0 0), .inl (ar 0, 64, .inl height)), ((r0 7), .inl (ar 2, 64, .inl stone)), ((r0 1), .inl (ar 0, 64, .inl wet)), ((r0 2), .inl (ar 0, 64, .inl pack)), ((r0 4), .inl (ar 0, 4, .inl done))] sz)) 0 0 (va_A [((r0 8), .inl (ar 2, 4, .inl isResting)), ((r0 3), .inl (ar 0, 4, .inl nextAct)), ((r0 0), .inl (ar 0, 64, .inl height)), ((r0 7), .inl (ar 2, 64, .inl stone)), ((r0 1), .inl (ar 0, 64, .inl wet)), ((r0 2), .inl (ar 0, 64, .inl pack)), ((r0 4), .inl (ar 0, 4, .inl done))] sz) := by
  refine Met.ofW (cc := cX5_work) (maxL := 6) (ret := none) (by decide) rfl ?_
  intro p e s m args below meth c s₁ B hml hv
  obtain ⟨rfl, hsz, hP, hD0, hR, hX, hE⟩ := hv
  have hx := B.exec
  have hb := B.bytes
  have hr := B.returns
  have hts := atoms_spec (ws := (ws_ yX5_work cX5_work 6 none)) B.pre
  have hts : ∀ w ∈ lw_all, w.before _ s = true := fun w h => hts w (List.mem_cons_of_mem _ h)
  have hown : s.vm.findClass RX5 = some m.cls := findClass_of_methodNamed B.named
  have hlocks := B.notSynchronized
  subst hsz
  have hD := hD0.self (sz := s.heap.size)
  generalize hAe : va_A [((r0 8), .inl (ar 2, 4, .inl isResting)), ((r0 3), .inl (ar 0, 4, .inl nextAct)), ((r0 0), .inl (ar 0, 64, .inl height)), ((r0 7), .inl (ar 2, 64, .inl stone)), ((r0 1), .inl (ar 0, 64, .inl wet)), ((r0 2), .inl (ar 0, 64, .inl pack)), ((r0 4), .inl (ar 0, 4, .inl done))] s.heap.size = A at hD hR hX hE ⊢
  have hA : ∀ q : Nat, s.heap.size ≤ q → A q := fun q h => by rw [← hAe]; exact Or.inr h
  have hS : va_S A s.heap s.heap [] := va_S.rf
  have hK := hE.1
  have hl := lv_entry ([.ref h0]) (n := 6) (Nat.le_of_ble_eq_true rfl)
  rw [lg_entry_eq]
  generalize (lg_sl ([.ref h0]) ++ List.replicate (6 - (lg_sl ([.ref h0])).length) Slot.unset).toArray = ls at hl ⊢
  have hl : lv_has ls 6 [(0, .ref h0)] := hl
  have hP : va_P D tkCl [((r0 8), .inl (ar 2, 4, .inl isResting)), ((r0 3), .inl (ar 0, 4, .inl nextAct)), ((r0 0), .inl (ar 0, 64, .inl height)), ((r0 7), .inl (ar 2, 64, .inl stone)), ((r0 1), .inl (ar 0, 64, .inl wet)), ((r0 2), .inl (ar 0, 64, .inl pack)), ((r0 4), .inl (ar 0, 4, .inl done))] s.heap := hP
  obtain ⟨n0, hF⟩ : ∃ n, tk_k (stX5_work plan hn an av size numbers) n (bX5_work_0 plan hn an av size numbers isResting nextAct height stone wet pack done) = some o := tk_fin_it hF
  have key : ∀ n : Nat, (∀ (x2 x3 : Int32) (isResting nextAct height stone wet pack done : Nat → Int32) (d1 : Nat) (H : Heap) (locs : List Loc) (ls : Array Slot), tk_Fhl ar xs d1 (hn plan.toNatClampNeg) (an plan.toNatClampNeg) (av plan.toNatClampNeg) → tk_it (stX5_work plan hn an av size numbers) n (1, (x2, x3, 0, 0, isResting, nextAct, height, stone, wet, pack, done)) = some o → va_P D tkCl [((r0 8), .inl (ar 2, 4, .inl isResting)), ((r0 3), .inl (ar 0, 4, .inl nextAct)), ((r0 0), .inl (ar 0, 64, .inl height)), ((r0 7), .inl (ar 2, 64, .inl stone)), ((r0 1), .inl (ar 0, 64, .inl wet)), ((r0 2), .inl (ar 0, 64, .inl pack)), ((r0 4), .inl (ar 0, 4, .inl done))] H → va_D A [((r0 8), .inl (ar 2, 4, .inl isResting)), ((r0 3), .inl (ar 0, 4, .inl nextAct)), ((r0 0), .inl (ar 0, 64, .inl height)), ((r0 7), .inl (ar 2, 64, .inl stone)), ((r0 1), .inl (ar 0, 64, .inl wet)), ((r0 2), .inl (ar 0, 64, .inl pack)), ((r0 4), .inl (ar 0, 4, .inl done))] → va_S A s.heap H locs → lv_has ls 6 [(0, .ref h0), (1, .ref d1), (2, .int x2), (3, .int x3)] → W p l e (headSpec (ws_ yX5_work cX5_work 6 none) ({ frames := 3, cells := 0, slots := 0, locals := 64 })).room s m ([.ref h0] : List Value).toArray below meth c H locs 0 0 (MQ below (va_Qv (fun _ : Unit => True) (fun _ t => tk_Post D A [((r0 8), .inl (ar 2, 4, .inl o.1)), ((r0 3), .inl (ar 0, 4, .inl o.2.1)), ((r0 0), .inl (ar 0, 64, .inl o.2.2.1)), ((r0 7), .inl (ar 2, 64, .inl o.2.2.2.1)), ((r0 1), .inl (ar 0, 64, .inl o.2.2.2.2.1)), ((r0 2), .inl (ar 0, 64, .inl o.2.2.2.2.2.1)), ((r0 4), .inl (ar 0, 4, .inl o.2.2.2.2.2.2))] t) A) ([.ref h0] : List Value).toArray s 0 0 A) (F0 m 46 ls [])) ∧ (∀ (x2 x3 s1 : Int32) (isResting nextAct height stone wet pack done : Nat → Int32) (d1 : Nat) (H : Heap) (locs : List Loc) (ls : Array Slot), tk_Fhl ar xs d1 (hn plan.toNatClampNeg) (an plan.toNatClampNeg) (av plan.toNatClampNeg) → tk_it (stX5_work plan hn an av size numbers) n (2, (x2, x3, s1, 0, isResting, nextAct, height, stone, wet, pack, done)) = some o → va_P D tkCl [((r0 8), .inl (ar 2, 4, .inl isResting)), ((r0 3), .inl (ar 0, 4, .inl nextAct)), ((r0 0), .inl (ar 0, 64, .inl height)), ((r0 7), .inl (ar 2, 64, .inl stone)), ((r0 1), .inl (ar 0, 64, .inl wet)), ((r0 2), .inl (ar 0, 64, .inl pack)), ((r0 4), .inl (ar 0, 4, .inl done))] H → va_D A [((r0 8), .inl (ar 2, 4, .inl isResting)), ((r0 3), .inl (ar 0, 4, .inl nextAct)), ((r0 0), .inl (ar 0, 64, .inl height)), ((r0 7), .inl (ar 2, 64, .inl stone)), ((r0 1), .inl (ar 0, 64, .inl wet)), ((r0 2), .inl (ar 0, 64, .inl pack)), ((r0 4), .inl (ar 0, 4, .inl done))] → va_S A s.heap H locs → lv_has ls 6 [(0, .ref h0), (1, .ref d1), (2, .int x2), (3, .int x3)] → W p l e (headSpec (ws_ yX5_work cX5_work 6 none) ({ frames := 3, cells := 0, slots := 0, locals := 64 })).room s m ([.ref h0] : List Value).toArray below meth c H locs 0 0 (MQ below (va_Qv (fun _ : Unit => True) (fun _ t => tk_Post D A [((r0 8), .inl (ar 2, 4, .inl o.1)), ((r0 3), .inl (ar 0, 4, .inl o.2.1)), ((r0 0), .inl (ar 0, 64, .inl o.2.2.1)), ((r0 7), .inl (ar 2, 64, .inl o.2.2.2.1)), ((r0 1), .inl (ar 0, 64, .inl o.2.2.2.2.1)), ((r0 2), .inl (ar 0, 64, .inl o.2.2.2.2.2.1)), ((r0 4), .inl (ar 0, 4, .inl o.2.2.2.2.2.2))] t) A) ([.ref h0] : List Value).toArray s 0 0 A) (F0 m 175 ls [.int s1, .ref (r0 8)])) ∧ (∀ (x2 x3 s1 s2 : Int32) (isResting nextAct height stone wet pack done : Nat → Int32) (d1 : Nat) (H : Heap) (locs : List Loc) (ls : Array Slot), tk_Fhl ar xs d1 (hn plan.toNatClampNeg) (an plan.toNatClampNeg) (av plan.toNatClampNeg) → tk_it (stX5_work plan hn an av size numbers) n (3, (x2, x3, s1, s2, isResting, nextAct, height, stone, wet, pack, done)) = some o → va_P D tkCl [((r0 8), .inl (ar 2, 4, .inl isResting)), ((r0 3), .inl (ar 0, 4, .inl nextAct)), ((r0 0), .inl (ar 0, 64, .inl height)), ((r0 7), .inl (ar 2, 64, .inl stone)), ((r0 1), .inl (ar 0, 64, .inl wet)), ((r0 2), .inl (ar 0, 64, .inl pack)), ((r0 4), .inl (ar 0, 4, .inl done))] H → va_D A [((r0 8), .inl (ar 2, 4, .inl isResting)), ((r0 3), .inl (ar 0, 4, .inl nextAct)), ((r0 0), .inl (ar 0, 64, .inl height)), ((r0 7), .inl (ar 2, 64, .inl stone)), ((r0 1), .inl (ar 0, 64, .inl wet)), ((r0 2), .inl (ar 0, 64, .inl pack)), ((r0 4), .inl (ar 0, 4, .inl done))] → va_S A s.heap H locs → lv_has ls 6 [(0, .ref h0), (1, .ref d1), (2, .int x2), (3, .int x3)] → W p l e (headSpec (ws_ yX5_work cX5_work 6 none) ({ frames := 3, cells := 0, slots := 0, locals := 64 })).room s m ([.ref h0] : List Value).toArray below meth c H locs 0 0 (MQ below (va_Qv (fun _ : Unit => True) (fun _ t => tk_Post D A [((r0 8), .inl (ar 2, 4, .inl o.1)), ((r0 3), .inl (ar 0, 4, .inl o.2.1)), ((r0 0), .inl (ar 0, 64, .inl o.2.2.1)), ((r0 7), .inl (ar 2, 64, .inl o.2.2.2.1)), ((r0 1), .inl (ar 0, 64, .inl o.2.2.2.2.1)), ((r0 2), .inl (ar 0, 64, .inl o.2.2.2.2.2.1)), ((r0 4), .inl (ar 0, 4, .inl o.2.2.2.2.2.2))] t) A) ([.ref h0] : List Value).toArray s 0 0 A) (F0 m 176 ls [.int s2, .int s1, .ref (r0 8)])) := by
    intro n
    induction n with
    | zero => exact ⟨(by intros; rename_i hF _ _ _ _; cases hF), (by intros; rename_i hF _ _ _ _; cases hF), (by intros; rename_i hF _ _ _ _; cases hF)⟩
    | succ n ih =>
      obtain ⟨ih46, ih175, ih176⟩ := ih
      refine ⟨?_, ?_, ?_⟩
      · intro x2 x3 isResting nextAct height stone wet pack done d1 H locs ls hd1 hF hP hD hS hl
        have hF : tk_k (stX5_work plan hn an av size numbers) n (bX5_work_1 plan hn an av size numbers x2 x3 isResting nextAct height stone wet pack done) = some o := hF
        unfold bX5_work_1 at hF
        refine lv_iload_n hx hb dX5_work_46 rfl (lv_at hl 3 rfl) ?_
        refine lv_aload_n hx hb dX5_work_47 rfl (lv_at hl 1 rfl) ?_
        obtain ⟨rm6, im6, him6, hmm6, hallm6⟩ := id hd1
        refine va_calli (va_runV (As := []) (rest := [.int x3]) ⟨hx, hb, hml, hown, hts⟩ (mJ5_size_d (l := l) (D := D) (ar := ar) (ad := ad) (xs := xs) (sz := H.size) (h0 := d1) (r0 := rm6) (i0 := im6)) (cwV 0 hts (lw_V q1091 q769 q770 q98 q771) rfl rfl rfl (by decide +kernel) ⟨(Nat.le_of_ble_eq_true rfl), (Nat.le_of_ble_eq_true rfl)⟩) ⟨tk_blind, tk_recvX hK hX hS hmm6 (ci := 13) rfl, fun U hU hW => ⟨rfl, tk_mkX hP hD hS hA hE hR hX (tk_all1 hmm6) U hU hW⟩⟩ rfl rfl hl.1 rfl (lv_room (Nat.le_of_ble_eq_true rfl)) dX5_work_48 ⟨(Nat.le_of_ble_eq_true rfl), (Nat.le_of_ble_eq_true rfl)⟩) hS (fun q _ h => (va_free hD hS hA [] rfl) q h) (va_free hD hS hA [] rfl) (fun zr zu zt H1 zl zht zvm zw zB zz zk zS => ?_)
        have zw := Eq.symm zw
        subst zw
        obtain ⟨hP, hD⟩ := tk_join hP hD zk [] rfl rfl (va_free hD hS hA [] rfl) (zht ▸ zB.1) zB.2 (Nat.le_of_ble_eq_true rfl)
        have hS := zS
        generalize H1 = H at hP hS ⊢
        have hP : va_P D tkCl [((r0 8), .inl (ar 2, 4, .inl isResting)), ((r0 3), .inl (ar 0, 4, .inl nextAct)), ((r0 0), .inl (ar 0, 64, .inl height)), ((r0 7), .inl (ar 2, 64, .inl stone)), ((r0 1), .inl (ar 0, 64, .inl wet)), ((r0 2), .inl (ar 0, 64, .inl pack)), ((r0 4), .inl (ar 0, 4, .inl done))] H := hP
        have hD : va_D A [((r0 8), .inl (ar 2, 4, .inl isResting)), ((r0 3), .inl (ar 0, 4, .inl nextAct)), ((r0 0), .inl (ar 0, 64, .inl height)), ((r0 7), .inl (ar 2, 64, .inl stone)), ((r0 1), .inl (ar 0, 64, .inl wet)), ((r0 2), .inl (ar 0, 64, .inl pack)), ((r0 4), .inl (ar 0, 4, .inl done))] := hD
        refine W.eq (g2 := F0 m 51 ls [.int (hn plan.toNatClampNeg), .int x3]) (by rw [him6]) ?_
        refine lv_icmp_ge (tgt := 183) hx hb dX5_work_51 (by decide) (fun c7 => ?_) (fun c7 => ?_)
        · have hF := tk_kt hF c7
          have eo := tk_kr hF
          subst eo
          exact W.vret hx hb hr (fun t ht hW => ⟨⟨(), rfl, trivial, tk_pst ht hP hD⟩, hS.F ht⟩) hS.2.2 dX5_work_183
        · have hF := tk_kf hF c7
          refine lv_aload_n hx hb dX5_work_54 rfl (lv_at hl 0 rfl) ?_
          refine va_get (D := D) (ci := 4) (v := .ref (r0 8)) (C := RX5) (T := TX5) (N := 18) hx hb hts in_X5 hown hK (hR.at hS) 0 rfl rfl 8 (by decide) (hts _ q369) (fun _ h9 => h9) rfl dX5_work_55 ?_
          refine lv_iload_n hx hb dX5_work_58 rfl (lv_at hl 3 rfl) ?_
          obtain ⟨gd8, hF⟩ := tk_kg hF
          refine va_zald hx hb hK hP 0 2 rfl rfl gd8 dX5_work_59 ?_
          refine lv_if_eq (tgt := 73) hx hb dX5_work_60 (by decide) (fun c9 => ?_) (fun c9 => ?_)
          · have hF := tk_kt hF c9
            refine lv_aload_n hx hb dX5_work_73 rfl (lv_at hl 1 rfl) ?_
            refine lv_iload_n hx hb dX5_work_74 rfl (lv_at hl 3 rfl) ?_
            obtain ⟨gd10, hF⟩ := tk_kg hF
            obtain ⟨capm11, fm11, am11, lm11, hmam11, hcm11, hfm11, hmm11, hsm11⟩ := hallm6 _ (tk_in_n gd10)
            refine va_callr (va_runV (As := [.int x3]) (rest := []) ⟨hx, hb, hml, hown, hts⟩ (mJ5_get (l := l) (D := D) (ar := ar) (ad := ad) (xs := xs) (sz := H.size) (h0 := d1) (r0 := rm6) (i0 := im6) (cap := capm11) (f := fm11) (a := am11) (p0 := x3) (hn0 := fun q => gd10 (Or.inl q)) (hlt := by rw [him6]; exact tk_in_size gd10) (hin9 := tk_in_mk gd10 hcm11) (hf9 := hfm11)) (cwV 1 hts (lw_V q1088 q1044 q1045 q98 q1046) rfl rfl rfl (by decide +kernel) ⟨(Nat.le_of_ble_eq_true rfl), (Nat.le_of_ble_eq_true rfl)⟩) ⟨tk_blind, tk_recvX hK hX hS hmm6 (ci := 13) rfl, fun U hU hW => ⟨rfl, tk_mkX hP hD hS hA hE hR hX (tk_all2 hmm6 hmam11) U hU hW⟩⟩ rfl rfl hl.1 rfl (lv_room (Nat.le_of_ble_eq_true rfl)) dX5_work_75 ⟨(Nat.le_of_ble_eq_true rfl), (Nat.le_of_ble_eq_true rfl)⟩) hS (fun q _ h => (va_free hD hS hA [] rfl) q h) (va_free hD hS hA [] rfl) (fun zu zr zt H1 zl zht zvm zw zB zz zk zS => ?_)
            obtain ⟨zr9, zB⟩ := zB
            have zr9 := Eq.symm zr9
            subst zr9
            obtain ⟨hP, hD⟩ := tk_join hP hD zk [] rfl rfl (va_free hD hS hA [] rfl) (zht ▸ zB.1) zB.2 (Nat.le_of_ble_eq_true rfl)
            have hS := zS
            generalize H1 = H at hP hS ⊢
            have hP : va_P D tkCl [((r0 8), .inl (ar 2, 4, .inl isResting)), ((r0 3), .inl (ar 0, 4, .inl nextAct)), ((r0 0), .inl (ar 0, 64, .inl height)), ((r0 7), .inl (ar 2, 64, .inl stone)), ((r0 1), .inl (ar 0, 64, .inl wet)), ((r0 2), .inl (ar 0, 64, .inl pack)), ((r0 4), .inl (ar 0, 4, .inl done))] H := hP
            have hD : va_D A [((r0 8), .inl (ar 2, 4, .inl isResting)), ((r0 3), .inl (ar 0, 4, .inl nextAct)), ((r0 0), .inl (ar 0, 64, .inl height)), ((r0 7), .inl (ar 2, 64, .inl stone)), ((r0 1), .inl (ar 0, 64, .inl wet)), ((r0 2), .inl (ar 0, 64, .inl pack)), ((r0 4), .inl (ar 0, 4, .inl done))] := hD
            refine va_castS hx hb hown (hts _ q1092) (hK.1 7 _ rfl).2 (tk_recvX hK hX hS hmm11 (ci := 7) rfl) dX5_work_78 ?_
            obtain ⟨j12, hj12⟩ := tk_xs (D := D) (A := A) (H := H) hmm11
            refine va_getN (D := D) (ci := 7) (v := .ref lm11) (C := RX9) (T := TX9) (N := 1) hx hb hts in_X9 hown hK (hX.at hS) j12 hj12 rfl 0 (by decide) (hE.2.1.use q785 rfl rfl) (fun _ h9 => h9) rfl dX5_work_81 ?_
            refine lv_astore (lv' := [(4, .ref lm11), (0, .ref h0), (1, .ref d1), (2, .int x2), (3, .int x3)]) hx hb dX5_work_84 hl (Nat.le_of_ble_eq_true rfl) rfl (fun ls hl => ?_)
            refine lv_aload hx hb dX5_work_86 (lv_at hl 0 rfl) ?_
            refine lv_aload_n hx hb dX5_work_88 rfl (lv_at hl 1 rfl) ?_
            refine va_get (D := D) (ci := 4) (v := .ref (r0 3)) (C := RX5) (T := TX5) (N := 18) hx hb hts in_X5 hown hK (hR.at hS) 0 rfl rfl 3 (by decide) (hts _ q361) (fun _ h9 => h9) rfl dX5_work_89 ?_
            refine lv_iload_n hx hb dX5_work_92 rfl (lv_at hl 4 rfl) ?_
            refine va_iald hx hb hK hP 1 0 rfl rfl gd8 dX5_work_93 ?_
            obtain ⟨rm13, im13, him13, hmm13, hallm13⟩ := id hsm11
            obtain ⟨gd14, hF⟩ := tk_kg hF
            obtain ⟨capm15, fm15, am15, hmam15, hcm15, hfm15, hmm15⟩ := hallm13 _ (tk_in_n gd14)
            refine va_callr (va_runV (As := [.int (nextAct x3.toNatClampNeg)]) (rest := []) ⟨hx, hb, hml, hown, hts⟩ (mJ5_get (l := l) (D := D) (ar := ar) (ad := ad) (xs := xs) (sz := H.size) (h0 := lm11) (r0 := rm13) (i0 := im13) (cap := capm15) (f := fm15) (a := am15) (p0 := nextAct x3.toNatClampNeg) (hn0 := fun q => gd14 (Or.inl q)) (hlt := by rw [him13]; exact tk_in_size gd14) (hin9 := tk_in_mk gd14 hcm15) (hf9 := hfm15)) (cwV 1 hts (lw_V q1088 q1044 q1045 q98 q1046) rfl rfl rfl (by decide +kernel) ⟨(Nat.le_of_ble_eq_true rfl), (Nat.le_of_ble_eq_true rfl)⟩) ⟨tk_blind, tk_recvX hK hX hS hmm13 (ci := 13) rfl, fun U hU hW => ⟨rfl, tk_mkX hP hD hS hA hE hR hX (tk_all2 hmm13 hmam15) U hU hW⟩⟩ rfl rfl hl.1 rfl (lv_room (Nat.le_of_ble_eq_true rfl)) dX5_work_94 ⟨(Nat.le_of_ble_eq_true rfl), (Nat.le_of_ble_eq_true rfl)⟩) hS (fun q _ h => (va_free hD hS hA [] rfl) q h) (va_free hD hS hA [] rfl) (fun zu zr zt H1 zl zht zvm zw zB zz zk zS => ?_)
            obtain ⟨zr9, zB⟩ := zB
            have zr9 := Eq.symm zr9
            subst zr9
            obtain ⟨hP, hD⟩ := tk_join hP hD zk [] rfl rfl (va_free hD hS hA [] rfl) (zht ▸ zB.1) zB.2 (Nat.le_of_ble_eq_true rfl)
            have hS := zS
            generalize H1 = H at hP hS ⊢
            have hP : va_P D tkCl [((r0 8), .inl (ar 2, 4, .inl isResting)), ((r0 3), .inl (ar 0, 4, .inl nextAct)), ((r0 0), .inl (ar 0, 64, .inl height)), ((r0 7), .inl (ar 2, 64, .inl stone)), ((r0 1), .inl (ar 0, 64, .inl wet)), ((r0 2), .inl (ar 0, 64, .inl pack)), ((r0 4), .inl (ar 0, 4, .inl done))] H := hP
            have hD : va_D A [((r0 8), .inl (ar 2, 4, .inl isResting)), ((r0 3), .inl (ar 0, 4, .inl nextAct)), ((r0 0), .inl (ar 0, 64, .inl height)), ((r0 7), .inl (ar 2, 64, .inl stone)), ((r0 1), .inl (ar 0, 64, .inl wet)), ((r0 2), .inl (ar 0, 64, .inl pack)), ((r0 4), .inl (ar 0, 4, .inl done))] := hD
            refine va_castS hx hb hown (hts _ q1093) (hK.1 8 _ rfl).2 (tk_recvX hK hX hS hmm15 (ci := 8) rfl) dX5_work_97 ?_
            refine lv_astore (lv' := [(5, .ref am15), (4, .ref lm11), (0, .ref h0), (1, .ref d1), (2, .int x2), (3, .int x3)]) hx hb dX5_work_100 hl (Nat.le_of_ble_eq_true rfl) rfl (fun ls hl => ?_)
            refine lv_aload_n hx hb dX5_work_102 rfl (lv_at hl 2 rfl) ?_
            refine lv_aload hx hb dX5_work_103 (lv_at hl 0 rfl) ?_
            obtain ⟨j16, hj16⟩ := tk_xs (D := D) (A := A) (H := H) hmm15
            refine va_getN (D := D) (ci := 8) (v := .int (av plan.toNatClampNeg x3.toNatClampNeg (nextAct x3.toNatClampNeg).toNatClampNeg 0)) (C := RX10) (T := TX10) (N := 3) hx hb hts in_X10 hown hK (hX.at hS) j16 hj16 rfl 0 (by decide) (hE.2.1.use q811 rfl rfl) (fun _ h9 => h9) rfl dX5_work_105 ?_
            refine lv_aload hx hb dX5_work_108 (lv_at hl 0 rfl) ?_
            obtain ⟨j17, hj17⟩ := tk_xs (D := D) (A := A) (H := H) hmm15
            refine va_getN (D := D) (ci := 8) (v := .int (av plan.toNatClampNeg x3.toNatClampNeg (nextAct x3.toNatClampNeg).toNatClampNeg 1)) (C := RX10) (T := TX10) (N := 3) hx hb hts in_X10 hown hK (hX.at hS) j17 hj17 rfl 1 (by decide) (hE.2.1.use q814 rfl rfl) (fun _ h9 => h9) rfl dX5_work_110 ?_
            refine lv_aload hx hb dX5_work_113 (lv_at hl 0 rfl) ?_
            obtain ⟨j18, hj18⟩ := tk_xs (D := D) (A := A) (H := H) hmm15
            refine va_getN (D := D) (ci := 8) (v := .int (av plan.toNatClampNeg x3.toNatClampNeg (nextAct x3.toNatClampNeg).toNatClampNeg 2)) (C := RX10) (T := TX10) (N := 3) hx hb hts in_X10 hown hK (hX.at hS) j18 hj18 rfl 2 (by decide) (hE.2.1.use q817 rfl rfl) (fun _ h9 => h9) rfl dX5_work_115 ?_
            obtain ⟨u19, hGu19, hF⟩ := tk_kb hF
            refine va_callv (va_runV (As := [.int (av plan.toNatClampNeg x3.toNatClampNeg (nextAct x3.toNatClampNeg).toNatClampNeg 0), .int (av plan.toNatClampNeg x3.toNatClampNeg (nextAct x3.toNatClampNeg).toNatClampNeg 1), .int (av plan.toNatClampNeg x3.toNatClampNeg (nextAct x3.toNatClampNeg).toNatClampNeg 2)]) (rest := []) ⟨hx, hb, hml, hown, hts⟩ (mX5_act (l := l) (D := D) (ar := ar) (ad := ad) (xs := xs) (sz := H.size) (h0 := h0) (r0 := r0) (i0 := (tu i0 15 plan)) (j0 := j0) (height := height) (stone := stone) (wet := wet) (pack := pack) (p0 := av plan.toNatClampNeg x3.toNatClampNeg (nextAct x3.toNatClampNeg).toNatClampNeg 0) (p1 := av plan.toNatClampNeg x3.toNatClampNeg (nextAct x3.toNatClampNeg).toNatClampNeg 1) (p2 := av plan.toNatClampNeg x3.toNatClampNeg (nextAct x3.toNatClampNeg).toNatClampNeg 2) (hF := hGu19)) (cwV 3 hts (lw_V q1094 q1095 q1096 q99 q1097) rfl rfl rfl (by decide +kernel) ⟨(Nat.le_of_ble_eq_true rfl), (Nat.le_of_ble_eq_true rfl)⟩) ⟨tk_blind, va_recv hK (hR.at hS) (ci := 4) (q0 := 0) rfl rfl, fun U hU hW => ⟨rfl, tk_mk hP hD hS hA hE hR hX [2, 3, 4, 5] [7] rfl rfl rfl rfl U hU hW⟩⟩ rfl rfl hl.1 rfl (lv_room (Nat.le_of_ble_eq_true rfl)) dX5_work_118 ⟨(Nat.le_of_ble_eq_true rfl), (Nat.le_of_ble_eq_true rfl)⟩) hS (fun q _ h => (va_free hD hS hA [2, 3, 4, 5] rfl) q h) (va_free hD hS hA [2, 3, 4, 5] rfl) (fun zu zt H1 zl zht zvm zw zB zz zk zS => ?_)
            obtain ⟨hP, hD⟩ := tk_join hP hD zk [2, 3, 4, 5] rfl rfl (va_free hD hS hA [2, 3, 4, 5] rfl) (zht ▸ zB.1) zB.2 (Nat.le_of_ble_eq_true rfl)
            have hS := zS
            generalize H1 = H at hP hS ⊢
            have hP : va_P D tkCl [((r0 8), .inl (ar 2, 4, .inl isResting)), ((r0 3), .inl (ar 0, 4, .inl nextAct)), ((r0 0), .inl (ar 0, 64, .inl u19.1)), ((r0 7), .inl (ar 2, 64, .inl u19.2.1)), ((r0 1), .inl (ar 0, 64, .inl u19.2.2.1)), ((r0 2), .inl (ar 0, 64, .inl u19.2.2.2)), ((r0 4), .inl (ar 0, 4, .inl done))] H := hP
            have hD : va_D A [((r0 8), .inl (ar 2, 4, .inl isResting)), ((r0 3), .inl (ar 0, 4, .inl nextAct)), ((r0 0), .inl (ar 0, 64, .inl u19.1)), ((r0 7), .inl (ar 2, 64, .inl u19.2.1)), ((r0 1), .inl (ar 0, 64, .inl u19.2.2.1)), ((r0 2), .inl (ar 0, 64, .inl u19.2.2.2)), ((r0 4), .inl (ar 0, 4, .inl done))] := hD
            refine lv_aload_n hx hb dX5_work_121 rfl (lv_at hl 2 rfl) ?_
            refine va_get (D := D) (ci := 4) (v := .ref (r0 3)) (C := RX5) (T := TX5) (N := 18) hx hb hts in_X5 hown hK (hR.at hS) 0 rfl rfl 3 (by decide) (hts _ q361) (fun _ h9 => h9) rfl dX5_work_122 ?_
            refine lv_iload_n hx hb dX5_work_125 rfl (lv_at hl 5 rfl) ?_
            refine lv_aload_n hx hb dX5_work_126 rfl (lv_at hl 2 rfl) ?_
            refine va_get (D := D) (ci := 4) (v := .ref (r0 3)) (C := RX5) (T := TX5) (N := 18) hx hb hts in_X5 hown hK (hR.at hS) 0 rfl rfl 3 (by decide) (hts _ q361) (fun _ h9 => h9) rfl dX5_work_127 ?_
            refine lv_iload_n hx hb dX5_work_130 rfl (lv_at hl 5 rfl) ?_
            refine va_iald hx hb hK hP 1 0 rfl rfl gd8 dX5_work_131 ?_
            refine lv_iconst (v := 1) hx hb dX5_work_132 (by decide) ?_
            refine lv_iadd hx hb dX5_work_133 ?_
            refine lv_aload hx hb dX5_work_134 (lv_at hl 1 rfl) ?_
            refine va_calli (va_runV (As := []) (rest := [.int ((nextAct x3.toNatClampNeg) + 1), .int x3, .ref (r0 3)]) ⟨hx, hb, hml, hown, hts⟩ (mJ5_size_d (l := l) (D := D) (ar := ar) (ad := ad) (xs := xs) (sz := H.size) (h0 := lm11) (r0 := rm13) (i0 := im13)) (cwV 0 hts (lw_V q1091 q769 q770 q98 q771) rfl rfl rfl (by decide +kernel) ⟨(Nat.le_of_ble_eq_true rfl), (Nat.le_of_ble_eq_true rfl)⟩) ⟨tk_blind, tk_recvX hK hX hS hmm13 (ci := 13) rfl, fun U hU hW => ⟨rfl, tk_mkX hP hD hS hA hE hR hX (tk_all1 hmm13) U hU hW⟩⟩ rfl rfl hl.1 rfl (lv_room (Nat.le_of_ble_eq_true rfl)) dX5_work_136 ⟨(Nat.le_of_ble_eq_true rfl), (Nat.le_of_ble_eq_true rfl)⟩) hS (fun q _ h => (va_free hD hS hA [] rfl) q h) (va_free hD hS hA [] rfl) (fun zr zu zt H1 zl zht zvm zw zB zz zk zS => ?_)
            have zw := Eq.symm zw
            subst zw
            obtain ⟨hP, hD⟩ := tk_join hP hD zk [] rfl rfl (va_free hD hS hA [] rfl) (zht ▸ zB.1) zB.2 (Nat.le_of_ble_eq_true rfl)
            have hS := zS
            generalize H1 = H at hP hS ⊢
            have hP : va_P D tkCl [((r0 8), .inl (ar 2, 4, .inl isResting)), ((r0 3), .inl (ar 0, 4, .inl nextAct)), ((r0 0), .inl (ar 0, 64, .inl u19.1)), ((r0 7), .inl (ar 2, 64, .inl u19.2.1)), ((r0 1), .inl (ar 0, 64, .inl u19.2.2.1)), ((r0 2), .inl (ar 0, 64, .inl u19.2.2.2)), ((r0 4), .inl (ar 0, 4, .inl done))] H := hP
            have hD : va_D A [((r0 8), .inl (ar 2, 4, .inl isResting)), ((r0 3), .inl (ar 0, 4, .inl nextAct)), ((r0 0), .inl (ar 0, 64, .inl u19.1)), ((r0 7), .inl (ar 2, 64, .inl u19.2.1)), ((r0 1), .inl (ar 0, 64, .inl u19.2.2.1)), ((r0 2), .inl (ar 0, 64, .inl u19.2.2.2)), ((r0 4), .inl (ar 0, 4, .inl done))] := hD
            refine W.eq (g2 := F0 m 139 ls [.int (an plan.toNatClampNeg x3.toNatClampNeg), .int ((nextAct x3.toNatClampNeg) + 1), .int x3, .ref (r0 3)]) (by rw [him13]) ?_
            obtain ⟨gd20, hF⟩ := tk_kg hF
            refine lv_irem hx hb dX5_work_139 gd20 ?_
            refine va_iast hx hb hK hP hD hS 1 0 rfl rfl gd8 dX5_work_140 (fun H locs hP hD hS => ?_)
            obtain ⟨y21, ey21, hF⟩ := tk_kl hF
            have hP : va_P D tkCl [((r0 8), .inl (ar 2, 4, .inl isResting)), ((r0 3), .inl (ar 0, 4, .inl y21)), ((r0 0), .inl (ar 0, 64, .inl u19.1)), ((r0 7), .inl (ar 2, 64, .inl u19.2.1)), ((r0 1), .inl (ar 0, 64, .inl u19.2.2.1)), ((r0 2), .inl (ar 0, 64, .inl u19.2.2.2)), ((r0 4), .inl (ar 0, 4, .inl done))] H := by rw [ey21]; exact hP
            have hD : va_D A [((r0 8), .inl (ar 2, 4, .inl isResting)), ((r0 3), .inl (ar 0, 4, .inl y21)), ((r0 0), .inl (ar 0, 64, .inl u19.1)), ((r0 7), .inl (ar 2, 64, .inl u19.2.1)), ((r0 1), .inl (ar 0, 64, .inl u19.2.2.1)), ((r0 2), .inl (ar 0, 64, .inl u19.2.2.2)), ((r0 4), .inl (ar 0, 4, .inl done))] := by rw [ey21]; exact hD
            refine lv_aload_n hx hb dX5_work_141 rfl (lv_at hl 2 rfl) ?_
            refine va_get (D := D) (ci := 4) (v := .ref (r0 4)) (C := RX5) (T := TX5) (N := 18) hx hb hts in_X5 hown hK (hR.at hS) 0 rfl rfl 4 (by decide) (hts _ q362) (fun _ h9 => h9) rfl dX5_work_142 ?_
            refine lv_iload_n hx hb dX5_work_145 rfl (lv_at hl 5 rfl) ?_
            refine lv_dup2_11 hx hb dX5_work_146 rfl rfl ?_
            refine va_iald hx hb hK hP 6 0 rfl rfl gd8 dX5_work_147 ?_
            refine lv_iconst (v := 1) hx hb dX5_work_148 (by decide) ?_
            refine lv_iadd hx hb dX5_work_149 ?_
            refine va_iast hx hb hK hP hD hS 6 0 rfl rfl gd8 dX5_work_150 (fun H locs hP hD hS => ?_)
            have hP : va_P D tkCl [((r0 8), .inl (ar 2, 4, .inl isResting)), ((r0 3), .inl (ar 0, 4, .inl y21)), ((r0 0), .inl (ar 0, 64, .inl u19.1)), ((r0 7), .inl (ar 2, 64, .inl u19.2.1)), ((r0 1), .inl (ar 0, 64, .inl u19.2.2.1)), ((r0 2), .inl (ar 0, 64, .inl u19.2.2.2)), ((r0 4), .inl (ar 0, 4, .inl (upd done x3.toNatClampNeg ((done x3.toNatClampNeg) + 1))))] H := hP
            have hD : va_D A [((r0 8), .inl (ar 2, 4, .inl isResting)), ((r0 3), .inl (ar 0, 4, .inl y21)), ((r0 0), .inl (ar 0, 64, .inl u19.1)), ((r0 7), .inl (ar 2, 64, .inl u19.2.1)), ((r0 1), .inl (ar 0, 64, .inl u19.2.2.1)), ((r0 2), .inl (ar 0, 64, .inl u19.2.2.2)), ((r0 4), .inl (ar 0, 4, .inl (upd done x3.toNatClampNeg ((done x3.toNatClampNeg) + 1))))] := hD
            refine lv_aload_n hx hb dX5_work_151 rfl (lv_at hl 2 rfl) ?_
            refine va_get (D := D) (ci := 4) (v := .ref (r0 8)) (C := RX5) (T := TX5) (N := 18) hx hb hts in_X5 hown hK (hR.at hS) 0 rfl rfl 8 (by decide) (hts _ q369) (fun _ h9 => h9) rfl dX5_work_152 ?_
            refine lv_iload_n hx hb dX5_work_155 rfl (lv_at hl 5 rfl) ?_
            refine lv_iload_n hx hb dX5_work_156 rfl (lv_at hl 4 rfl) ?_
            refine lv_if_le (tgt := 175) hx hb dX5_work_157 (by decide) (fun c22 => ?_) (fun c22 => ?_)
            · have hF := tk_kt hF c22
              exact ih175 x2 x3 x3 isResting y21 u19.1 u19.2.1 u19.2.2.1 u19.2.2.2 (upd done x3.toNatClampNeg ((done x3.toNatClampNeg) + 1)) d1 _ _ _ hd1 hF hP hD hS (lv_sub hl [2, 3, 4, 5] rfl)
            · have hF := tk_kf hF c22
              refine lv_aload_n hx hb dX5_work_160 rfl (lv_at hl 2 rfl) ?_
              refine va_get (D := D) (ci := 4) (v := .ref (r0 4)) (C := RX5) (T := TX5) (N := 18) hx hb hts in_X5 hown hK (hR.at hS) 0 rfl rfl 4 (by decide) (hts _ q362) (fun _ h9 => h9) rfl dX5_work_161 ?_
              refine lv_iload_n hx hb dX5_work_164 rfl (lv_at hl 5 rfl) ?_
              refine va_iald hx hb hK hP 6 0 rfl rfl gd8 dX5_work_165 ?_
              refine lv_iload_n hx hb dX5_work_166 rfl (lv_at hl 4 rfl) ?_
              obtain ⟨y23, ey23, hF⟩ := tk_kl hF
              refine W.eq (g2 := F0 m 167 ls [.int x2, .int y23, .int x3, .ref (r0 8)]) (by rw [ey23]) ?_
              obtain ⟨gd24, hF⟩ := tk_kg hF
              refine lv_irem hx hb dX5_work_167 gd24 ?_
              refine lv_if_ne (tgt := 175) hx hb dX5_work_168 (by decide) (fun c25 => ?_) (fun c25 => ?_)
              · have hF := tk_kf hF c25
                exact ih175 x2 x3 x3 isResting y21 u19.1 u19.2.1 u19.2.2.1 u19.2.2.2 (upd done x3.toNatClampNeg ((done x3.toNatClampNeg) + 1)) d1 _ _ _ hd1 hF hP hD hS (lv_sub hl [2, 3, 4, 5] rfl)
              · have hF := tk_kt hF c25
                refine lv_iconst (v := 1) hx hb dX5_work_171 (by decide) ?_
                refine lv_goto (tgt := 176) hx hb dX5_work_172 (by decide) ?_
                exact ih176 x2 x3 x3 1 isResting y21 u19.1 u19.2.1 u19.2.2.1 u19.2.2.2 (upd done x3.toNatClampNeg ((done x3.toNatClampNeg) + 1)) d1 _ _ _ hd1 hF hP hD hS (lv_sub hl [2, 3, 4, 5] rfl)
          · have hF := tk_kf hF c9
            refine lv_aload_n hx hb dX5_work_63 rfl (lv_at hl 0 rfl) ?_
            refine va_get (D := D) (ci := 4) (v := .ref (r0 8)) (C := RX5) (T := TX5) (N := 18) hx hb hts in_X5 hown hK (hR.at hS) 0 rfl rfl 8 (by decide) (hts _ q369) (fun _ h9 => h9) rfl dX5_work_64 ?_
            refine lv_iload_n hx hb dX5_work_67 rfl (lv_at hl 3 rfl) ?_
            refine lv_iconst (v := 0) hx hb dX5_work_68 (by decide) ?_
            refine va_zast hx hb hK hP hD hS 0 2 rfl rfl gd8 dX5_work_69 (fun H locs hP hD hS => ?_)
            rw [tk_nz0] at hP hD
            have hP : va_P D tkCl [((r0 8), .inl (ar 2, 4, .inl (upd isResting x3.toNatClampNeg 0))), ((r0 3), .inl (ar 0, 4, .inl nextAct)), ((r0 0), .inl (ar 0, 64, .inl height)), ((r0 7), .inl (ar 2, 64, .inl stone)), ((r0 1), .inl (ar 0, 64, .inl wet)), ((r0 2), .inl (ar 0, 64, .inl pack)), ((r0 4), .inl (ar 0, 4, .inl done))] H := hP
            have hD : va_D A [((r0 8), .inl (ar 2, 4, .inl (upd isResting x3.toNatClampNeg 0))), ((r0 3), .inl (ar 0, 4, .inl nextAct)), ((r0 0), .inl (ar 0, 64, .inl height)), ((r0 7), .inl (ar 2, 64, .inl stone)), ((r0 1), .inl (ar 0, 64, .inl wet)), ((r0 2), .inl (ar 0, 64, .inl pack)), ((r0 4), .inl (ar 0, 4, .inl done))] := hD
            refine lv_goto (tgt := 177) hx hb dX5_work_70 (by decide) ?_
            refine lv_iinc (v := x3 + 1) (lv' := [(3, .int (x3 + 1)), (0, .ref h0), (1, .ref d1), (2, .int x2)]) hx hb dX5_work_177 hl (k := 3) rfl (congrArg (fun z => x3 + z) (show Int32.ofInt 1 = 1 by decide)) (Nat.le_of_ble_eq_true rfl) rfl (fun ls hl => ?_)
            refine lv_goto (tgt := 46) hx hb dX5_work_180 (by decide) ?_
            exact ih46 x2 (x3 + 1) (upd isResting x3.toNatClampNeg 0) nextAct height stone wet pack done d1 _ _ _ hd1 hF hP hD hS (lv_sub hl [1, 2, 3, 0] rfl)
      · intro x2 x3 s1 isResting nextAct height stone wet pack done d1 H locs ls hd1 hF hP hD hS hl
        have hF : tk_k (stX5_work plan hn an av size numbers) n (bX5_work_2 plan hn an av size numbers x2 x3 s1 isResting nextAct height stone wet pack done) = some o := hF
        unfold bX5_work_2 at hF
        refine lv_iconst (v := 0) hx hb dX5_work_175 (by decide) ?_
        exact ih176 x2 x3 s1 0 isResting nextAct height stone wet pack done d1 _ _ _ hd1 hF hP hD hS (lv_sub hl [0, 1, 2, 3] rfl)
      · intro x2 x3 s1 s2 isResting nextAct height stone wet pack done d1 H locs ls hd1 hF hP hD hS hl
        have hF : tk_k (stX5_work plan hn an av size numbers) n (bX5_work_3 plan hn an av size numbers x2 x3 s1 s2 isResting nextAct height stone wet pack done) = some o := hF
        unfold bX5_work_3 at hF
        obtain ⟨gd26, hF⟩ := tk_kg hF
        refine va_zast hx hb hK hP hD hS 0 2 rfl rfl gd26 dX5_work_176 (fun H locs hP hD hS => ?_)
        have hP : va_P D tkCl [((r0 8), .inl (ar 2, 4, .inl (upd isResting s1.toNatClampNeg (vp_nar .boolean s2)))), ((r0 3), .inl (ar 0, 4, .inl nextAct)), ((r0 0), .inl (ar 0, 64, .inl height)), ((r0 7), .inl (ar 2, 64, .inl stone)), ((r0 1), .inl (ar 0, 64, .inl wet)), ((r0 2), .inl (ar 0, 64, .inl pack)), ((r0 4), .inl (ar 0, 4, .inl done))] H := hP
        have hD : va_D A [((r0 8), .inl (ar 2, 4, .inl (upd isResting s1.toNatClampNeg (vp_nar .boolean s2)))), ((r0 3), .inl (ar 0, 4, .inl nextAct)), ((r0 0), .inl (ar 0, 64, .inl height)), ((r0 7), .inl (ar 2, 64, .inl stone)), ((r0 1), .inl (ar 0, 64, .inl wet)), ((r0 2), .inl (ar 0, 64, .inl pack)), ((r0 4), .inl (ar 0, 4, .inl done))] := hD
        refine lv_iinc (v := x3 + 1) (lv' := [(3, .int (x3 + 1)), (0, .ref h0), (1, .ref d1), (2, .int x2)]) hx hb dX5_work_177 hl (k := 3) rfl (congrArg (fun z => x3 + z) (show Int32.ofInt 1 = 1 by decide)) (Nat.le_of_ble_eq_true rfl) rfl (fun ls hl => ?_)
        refine lv_goto (tgt := 46) hx hb dX5_work_180 (by decide) ?_
        exact ih46 x2 (x3 + 1) (upd isResting s1.toNatClampNeg (vp_nar .boolean s2)) nextAct height stone wet pack done d1 _ _ _ hd1 hF hP hD hS (lv_sub hl [1, 2, 3, 0] rfl)
  obtain ⟨ih46, ih175, ih176⟩ := key n0
  clear key
  unfold bX5_work_0 at hF
  have hF : tk_k (stX5_work plan hn an av size numbers) n0 _ = some o := hF
  refine lv_aload_n hx hb dX5_work_0 rfl (lv_at hl 0 rfl) ?_
  refine va_get (D := D) (ci := 4) (v := .int plan) (C := RX5) (T := TX5) (N := 18) hx hb hts in_X5 hown hK (hR.at hS) 0 rfl rfl 15 (by decide) (hts _ q382) (fun _ h9 => h9) rfl dX5_work_1 ?_
  refine lv_iconst (v := (-1)) hx hb dX5_work_4 (by decide) ?_
  refine lv_icmp_ne (tgt := 9) hx hb dX5_work_5 (by decide) (fun c1 => ?_) (fun c1 => ?_)
  · have hF := tk_kf hF c1
    refine lv_aload_n hx hb dX5_work_9 rfl (lv_at hl 0 rfl) ?_
    refine va_get (D := D) (ci := 4) (v := .ref (r0 17)) (C := RX5) (T := TX5) (N := 18) hx hb hts in_X5 hown hK (hR.at hS) 0 rfl rfl 17 (by decide) (hts _ q386) (fun _ h9 => h9) rfl dX5_work_10 ?_
    refine va_getN (D := D) (ci := 0) (v := .ref (r1 7)) (C := RX0) (T := TX0) (N := 25) hx hb hts in_X0 hown hK (hR.at hS) 1 rfl rfl 7 (by decide) (hE.2.1.use q462 rfl rfl) (fun _ h9 => h9) rfl dX5_work_13 ?_
    refine lv_aload_n hx hb dX5_work_16 rfl (lv_at hl 0 rfl) ?_
    refine va_get (D := D) (ci := 4) (v := .int plan) (C := RX5) (T := TX5) (N := 18) hx hb hts in_X5 hown hK (hR.at hS) 0 rfl rfl 15 (by decide) (hts _ q382) (fun _ h9 => h9) rfl dX5_work_17 ?_
    obtain ⟨gd2, hF⟩ := tk_kg hF
    obtain ⟨capm3, fm3, am3, lm3, hmam3, hcm3, hfm3, hmm3, hsm3⟩ := hfam2 _ (tk_in_n gd2)
    refine va_callr (va_runV (As := [.int plan]) (rest := []) ⟨hx, hb, hml, hown, hts⟩ (mJ5_get (l := l) (D := D) (ar := ar) (ad := ad) (xs := xs) (sz := s.heap.size) (h0 := (r1 7)) (r0 := r2) (i0 := (tu i2 2 size)) (cap := capm3) (f := fm3) (a := am3) (p0 := plan) (hn0 := fun q => gd2 (Or.inl q)) (hlt := tk_in_size gd2) (hin9 := tk_in_mk gd2 hcm3) (hf9 := hfm3)) (cwV 1 hts (lw_V q1088 q1044 q1045 q98 q1046) rfl rfl rfl (by decide +kernel) ⟨(Nat.le_of_ble_eq_true rfl), (Nat.le_of_ble_eq_true rfl)⟩) ⟨tk_blind, va_recv hK (hR.at hS) (ci := 13) (q0 := 2) rfl rfl, fun U hU hW => ⟨rfl, tk_mkM hP hD hS hA hE hR hX (wc := []) (List.Perm.refl _) (tk_rc2 (Or.inr (Or.inl (List.mem_of_getElem? (i := 2) rfl))) (Or.inr (Or.inr hmam3))) (fun q hq => Or.inr (Or.inr hq)) U hU hW⟩⟩ rfl rfl hl.1 rfl (lv_room (Nat.le_of_ble_eq_true rfl)) dX5_work_20 ⟨(Nat.le_of_ble_eq_true rfl), (Nat.le_of_ble_eq_true rfl)⟩) hS (fun q _ h => (va_free hD hS hA [] rfl) q h) (va_free hD hS hA [] rfl) (fun zu zr zt H1 zl zht zvm zw zB zz zk zS => ?_)
    obtain ⟨zr9, zB⟩ := zB
    have zr9 := Eq.symm zr9
    subst zr9
    obtain ⟨hP, hD⟩ := tk_join hP hD zk [] rfl rfl (va_free hD hS hA [] rfl) (zht ▸ zB.1) zB.2 (Nat.le_of_ble_eq_true rfl)
    have hS := zS
    generalize H1 = H at hP hS ⊢
    have hP : va_P D tkCl [((r0 8), .inl (ar 2, 4, .inl isResting)), ((r0 3), .inl (ar 0, 4, .inl nextAct)), ((r0 0), .inl (ar 0, 64, .inl height)), ((r0 7), .inl (ar 2, 64, .inl stone)), ((r0 1), .inl (ar 0, 64, .inl wet)), ((r0 2), .inl (ar 0, 64, .inl pack)), ((r0 4), .inl (ar 0, 4, .inl done))] H := hP
    have hD : va_D A [((r0 8), .inl (ar 2, 4, .inl isResting)), ((r0 3), .inl (ar 0, 4, .inl nextAct)), ((r0 0), .inl (ar 0, 64, .inl height)), ((r0 7), .inl (ar 2, 64, .inl stone)), ((r0 1), .inl (ar 0, 64, .inl wet)), ((r0 2), .inl (ar 0, 64, .inl pack)), ((r0 4), .inl (ar 0, 4, .inl done))] := hD
    refine va_castS hx hb hown (hts _ q1089) (hK.1 12 _ rfl).2 (tk_recvX hK hX hS hmm3 (ci := 12) rfl) dX5_work_23 ?_
    obtain ⟨j4, hj4⟩ := tk_xs (D := D) (A := A) (H := H) hmm3
    refine va_getN (D := D) (ci := 12) (v := .ref lm3) (C := RX14) (T := TX14) (N := 1) hx hb hts in_X14 hown hK (hX.at hS) j4 hj4 rfl 0 (by decide) (hE.2.1.use q1003 rfl rfl) (fun _ h9 => h9) rfl dX5_work_26 ?_
    refine lv_astore_n (lv' := [(1, .ref lm3), (0, .ref h0)]) hx hb dX5_work_29 rfl hl (Nat.le_of_ble_eq_true rfl) rfl (fun ls hl => ?_)
    refine lv_aload_n hx hb dX5_work_30 rfl (lv_at hl 1 rfl) ?_
    refine va_get (D := D) (ci := 4) (v := .ref (r0 17)) (C := RX5) (T := TX5) (N := 18) hx hb hts in_X5 hown hK (hR.at hS) 0 rfl rfl 17 (by decide) (hts _ q386) (fun _ h9 => h9) rfl dX5_work_31 ?_
    refine va_getN (D := D) (ci := 0) (v := .ref (r1 5)) (C := RX0) (T := TX0) (N := 25) hx hb hts in_X0 hown hK (hR.at hS) 1 rfl rfl 5 (by decide) (hE.2.1.use q456 rfl rfl) (fun _ h9 => h9) rfl dX5_work_34 ?_
    refine va_gets (n := "TIRE") hx hb (hE.z 5 (by decide)) hS hown (hts _ q1090) (fun _ h9 => h9) dX5_work_37 ?_
    obtain ⟨u5, hGu5, hF⟩ := tk_kb hF
    refine va_calli (va_runV (As := [.ref (ad 2 5)]) (rest := []) ⟨hx, hb, hml, hown, hts⟩ (mX2_of (l := l) (D := D) (ar := ar) (ad := ad) (xs := xs) (sz := H.size) (h0 := (r1 5)) (r0 := r3) (i0 := i3) (numbers := numbers) (p0 := 5) (hk_p0 := (by decide)) (hF := hGu5)) (cwV 1 hts (lw_V q434 q435 q436 q92 q437) rfl rfl rfl (by decide +kernel) ⟨(Nat.le_of_ble_eq_true rfl), (Nat.le_of_ble_eq_true rfl)⟩) ⟨tk_blind, va_recv hK (hR.at hS) (ci := 2) (q0 := 3) rfl rfl, fun U hU hW => ⟨rfl, tk_mk hP hD hS hA hE hR hX [] [10, 11] rfl rfl rfl rfl U hU hW⟩⟩ rfl rfl hl.1 rfl (lv_room (Nat.le_of_ble_eq_true rfl)) dX5_work_40 ⟨(Nat.le_of_ble_eq_true rfl), (Nat.le_of_ble_eq_true rfl)⟩) hS (fun q _ h => (va_free hD hS hA [] rfl) q h) (va_free hD hS hA [] rfl) (fun zr zu zt H1 zl zht zvm zw zB zz zk zS => ?_)
    obtain ⟨hP, hD⟩ := tk_join hP hD zk [] rfl rfl (va_free hD hS hA [] rfl) (zht ▸ zB.1) zB.2 (Nat.le_of_ble_eq_true rfl)
    have hS := zS
    have zw := Eq.symm zw
    subst zw
    generalize H1 = H at hP hS ⊢
    have hP : va_P D tkCl [((r0 8), .inl (ar 2, 4, .inl isResting)), ((r0 3), .inl (ar 0, 4, .inl nextAct)), ((r0 0), .inl (ar 0, 64, .inl height)), ((r0 7), .inl (ar 2, 64, .inl stone)), ((r0 1), .inl (ar 0, 64, .inl wet)), ((r0 2), .inl (ar 0, 64, .inl pack)), ((r0 4), .inl (ar 0, 4, .inl done))] H := hP
    have hD : va_D A [((r0 8), .inl (ar 2, 4, .inl isResting)), ((r0 3), .inl (ar 0, 4, .inl nextAct)), ((r0 0), .inl (ar 0, 64, .inl height)), ((r0 7), .inl (ar 2, 64, .inl stone)), ((r0 1), .inl (ar 0, 64, .inl wet)), ((r0 2), .inl (ar 0, 64, .inl pack)), ((r0 4), .inl (ar 0, 4, .inl done))] := hD
    refine lv_istore_n (lv' := [(2, .int u5), (1, .ref lm3), (0, .ref h0)]) hx hb dX5_work_43 rfl hl (Nat.le_of_ble_eq_true rfl) rfl (fun ls hl => ?_)
    refine lv_iconst (v := 0) hx hb dX5_work_44 (by decide) ?_
    refine lv_istore_n (lv' := [(3, .int 0), (2, .int u5), (1, .ref lm3), (0, .ref h0)]) hx hb dX5_work_45 rfl hl (Nat.le_of_ble_eq_true rfl) rfl (fun ls hl => ?_)
    exact ih46 u5 0 isResting nextAct height stone wet pack done lm3 _ _ _ hsm3 hF hP hD hS (lv_sub hl [3, 2, 1, 0] rfl)
  · have hF := tk_kt hF c1
    have eo := tk_kr hF
    subst eo
    exact W.vret hx hb hr (fun t ht hW => ⟨⟨(), rfl, trivial, tk_pst ht hP hD⟩, hS.F ht⟩) hS.2.2 dX5_work_8
set_option maxHeartbeats 4000000 in
theorem mX5_comeOn (l : Launch) (D : va_G) (ar : Nat → ClassId) (ad : Nat → Nat → Nat) (xs : va_W) (sz : Nat) (h0 : Nat) (r0 : Nat → Nat) (i0 : Nat → Int32) (j0 : Nat → Int64) (r1 : Nat → Nat) (i1 : Nat → Int32) (r2 : Nat → Nat) (i2 : Nat → Int32) (r3 : Nat → Nat) (i3 : Nat → Int32) (r4 : Nat → Nat) (i4 : Nat → Int32) (cut : Int32) (wv : Nat → Nat → Int32) (size : Int32) (tide reach level : Nat → Int32) (columns rows best top loss flags : Int32) (stone numbers flagCell putUp : Nat → Int32) (minute v_lost slid slidNow rounds came : Int32) (chance : Int64) (wet height pack fell : Nat → Int32) (hfam3 : tk_Fwv ar xs r3 size wv) (o : Int32 × Int32 × Int32 × Int32 × Int32 × Int32 × Int64 × (Nat → Int32) × (Nat → Int32) × (Nat → Int32) × (Nat → Int32)) (hF : fX5_comeOn cut wv size tide reach level columns rows best top loss flags stone numbers flagCell putUp minute v_lost slid slidNow rounds came chance wet height pack fell = some o) : Met l yX5_comeOn (ws_ yX5_comeOn cX5_comeOn 1 none) ({ frames := 5, cells := 0, slots := 0, locals := 130 }) (va_Pc [.ref h0] (tk_Pre D ar ad [(h0, .inr (4, oX5 r0 (tu (tu (tu (tu (tu (tu i0 9 minute) 10 v_lost) 11 slid) 12 slidNow) 13 rounds) 14 came) (tul j0 16 chance))), ((r0 1), .inl (ar 0, 64, .inl wet)), ((r0 0), .inl (ar 0, 64, .inl height)), ((r0 2), .inl (ar 0, 64, .inl pack)), ((r0 6), .inl (ar 0, 3, .inl fell))] [((r0 17), .inr (0, oX0 r1 i1)), ((r1 6), .inr (3, oX4 r2 (tu i2 4 cut))), ((r2 0), .inr (13, oJ5 r3 (tu i3 2 size))), ((r2 1), .inl (ar 0, 4, .inl tide)), ((r2 2), .inl (ar 0, 2, .inl reach)), ((r2 3), .inl (ar 0, 2, .inl level)), ((r1 5), .inr (2, oX2 r4 (tu (tu (tu (tu (tu (tu i4 0 columns) 1 rows) 2 best) 3 top) 4 loss) 5 flags))), ((r0 7), .inl (ar 2, 64, .inl stone)), ((r4 7), .inl (ar 0, 6, .inl numbers)), ((r4 9), .inl (ar 0, 3, .inl flagCell)), ((r0 5), .inl (ar 0, 3, .inl putUp))] xs sz)) (va_Qv (fun _ : Unit => True) (fun _ t => tk_Post D (va_A [(h0, .inr (4, oX5 r0 (tu (tu (tu (tu (tu (tu i0 9 minute) 10 v_lost) 11 slid) 12 slidNow) 13 rounds) 14 came) (tul j0 16 chance))), ((r0 1), .inl (ar 0, 64, .inl wet)), ((r0 0), .inl (ar 0, 64, .inl height)), ((r0 2), .inl (ar 0, 64, .inl pack)), ((r0 6), .inl (ar 0, 3, .inl fell))] sz) [(h0, .inr (4, oX5 r0 (tu (tu (tu (tu (tu (tu i0 9 o.1) 10 o.2.1) 11 o.2.2.1) 12 o.2.2.2.1) 13 o.2.2.2.2.1) 14 o.2.2.2.2.2.1) (tul j0 16 o.2.2.2.2.2.2.1))), ((r0 1), .inl (ar 0, 64, .inl o.2.2.2.2.2.2.2.1)), ((r0 0), .inl (ar 0, 64, .inl o.2.2.2.2.2.2.2.2.1)), ((r0 2), .inl (ar 0, 64, .inl o.2.2.2.2.2.2.2.2.2.1)), ((r0 6), .inl (ar 0, 3, .inl o.2.2.2.2.2.2.2.2.2.2))] t) (va_A [(h0, .inr (4, oX5 r0 (tu (tu (tu (tu (tu (tu i0 9 minute) 10 v_lost) 11 slid) 12 slidNow) 13 rounds) 14 came) (tul j0 16 chance))), ((r0 1), .inl (ar 0, 64, .inl wet)), ((r0 0), .inl (ar 0, 64, .inl height)), ((r0 2), .inl (ar 0, 64, .inl pack)), ((r0 6), .inl (ar 0, 3, .inl fell))] sz)) 0 0 (va_A [(h0, .inr (4, oX5 r0 (tu (tu (tu (tu (tu (tu i0 9 minute) 10 v_lost) 11 slid) 12 slidNow) 13 rounds) 14 came) (tul j0 16 chance))), ((r0 1), .inl (ar 0, 64, .inl wet)), ((r0 0), .inl (ar 0, 64, .inl height)), ((r0 2), .inl (ar 0, 64, .inl pack)), ((r0 6), .inl (ar 0, 3, .inl fell))] sz) := by
  refine Met.ofW (cc := cX5_comeOn) (maxL := 1) (ret := none) (by decide) rfl ?_
  intro p e s m args below meth c s₁ B hml hv
  obtain ⟨rfl, hsz, hP, hD0, hR, hX, hE⟩ := hv
  have hx := B.exec
  have hb := B.bytes
  have hr := B.returns
  have hts := atoms_spec (ws := (ws_ yX5_comeOn cX5_comeOn 1 none)) B.pre
  have hts : ∀ w ∈ lw_all, w.before _ s = true := fun w h => hts w (List.mem_cons_of_mem _ h)
  have hown : s.vm.findClass RX5 = some m.cls := findClass_of_methodNamed B.named
  have hlocks := B.notSynchronized
  subst hsz
  have hD := hD0.self (sz := s.heap.size)
  generalize hAe : va_A [(h0, .inr (4, oX5 r0 (tu (tu (tu (tu (tu (tu i0 9 minute) 10 v_lost) 11 slid) 12 slidNow) 13 rounds) 14 came) (tul j0 16 chance))), ((r0 1), .inl (ar 0, 64, .inl wet)), ((r0 0), .inl (ar 0, 64, .inl height)), ((r0 2), .inl (ar 0, 64, .inl pack)), ((r0 6), .inl (ar 0, 3, .inl fell))] s.heap.size = A at hD hR hX hE ⊢
  have hA : ∀ q : Nat, s.heap.size ≤ q → A q := fun q h => by rw [← hAe]; exact Or.inr h
  have hS : va_S A s.heap s.heap [] := va_S.rf
  have hK := hE.1
  have hl := lv_entry ([.ref h0]) (n := 1) (Nat.le_of_ble_eq_true rfl)
  rw [lg_entry_eq]
  generalize (lg_sl ([.ref h0]) ++ List.replicate (1 - (lg_sl ([.ref h0])).length) Slot.unset).toArray = ls at hl ⊢
  have hl : lv_has ls 1 [(0, .ref h0)] := hl
  have hP : va_P D tkCl [(h0, .inr (4, oX5 r0 (tu (tu (tu (tu (tu (tu i0 9 minute) 10 v_lost) 11 slid) 12 slidNow) 13 rounds) 14 came) (tul j0 16 chance))), ((r0 1), .inl (ar 0, 64, .inl wet)), ((r0 0), .inl (ar 0, 64, .inl height)), ((r0 2), .inl (ar 0, 64, .inl pack)), ((r0 6), .inl (ar 0, 3, .inl fell))] s.heap := hP
  unfold fX5_comeOn at hF
  refine lv_aload_n hx hb dX5_comeOn_0 rfl (lv_at hl 0 rfl) ?_
  obtain ⟨u1, hGu1, hF⟩ := tk_pb hF
  refine va_callv (va_runV (As := []) (rest := []) ⟨hx, hb, hml, hown, hts⟩ (mX5_waves (l := l) (D := D) (ar := ar) (ad := ad) (xs := xs) (sz := s.heap.size) (h0 := h0) (r0 := r0) (i0 := (tu (tu (tu (tu (tu (tu i0 9 minute) 10 v_lost) 11 slid) 12 slidNow) 13 rounds) 14 came)) (j0 := (tul j0 16 chance)) (r1 := r1) (i1 := i1) (r2 := r2) (i2 := (tu i2 4 cut)) (r3 := r3) (i3 := (tu i3 2 size)) (r4 := r4) (i4 := (tu (tu (tu (tu (tu (tu i4 0 columns) 1 rows) 2 best) 3 top) 4 loss) 5 flags)) (minute := minute) (cut := cut) (wv := wv) (size := size) (tide := tide) (reach := reach) (level := level) (columns := columns) (rows := rows) (stone := stone) (v_lost := v_lost) (came := came) (chance := chance) (wet := wet) (height := height) (hfam3 := hfam3) (hF := hGu1)) (cwV 0 hts (lw_V q1107 q1109 qs15 q99 q1110) rfl rfl rfl (by decide +kernel) ⟨(Nat.le_of_ble_eq_true rfl), (Nat.le_of_ble_eq_true rfl)⟩) ⟨tk_blind, va_recv hK hP (ci := 4) (q0 := 0) rfl rfl, fun U hU hW => ⟨rfl, tk_mk hP hD hS hA hE hR hX [0, 1, 2] [5, 6, 7, 8, 9, 10, 11, 12] rfl rfl rfl rfl U hU hW⟩⟩ rfl rfl hl.1 rfl (lv_room (Nat.le_of_ble_eq_true rfl)) dX5_comeOn_1 ⟨(Nat.le_of_ble_eq_true rfl), (Nat.le_of_ble_eq_true rfl)⟩) hS (fun q _ h => (va_free hD hS hA [0, 1, 2] rfl) q h) (va_free hD hS hA [0, 1, 2] rfl) (fun zu zt H1 zl zht zvm zw zB zz zk zS => ?_)
  obtain ⟨hP, hD⟩ := tk_join hP hD zk [0, 1, 2] rfl rfl (va_free hD hS hA [0, 1, 2] rfl) (zht ▸ zB.1) zB.2 (Nat.le_of_ble_eq_true rfl)
  have hS := zS
  generalize H1 = H at hP hS ⊢
  have hP : va_P D tkCl [(h0, .inr (4, oX5 r0 (tu (tu (tu (tu (tu (tu i0 9 minute) 10 u1.1) 11 slid) 12 slidNow) 13 rounds) 14 u1.2.1) (tul j0 16 u1.2.2.1))), ((r0 1), .inl (ar 0, 64, .inl u1.2.2.2.1)), ((r0 0), .inl (ar 0, 64, .inl u1.2.2.2.2)), ((r0 2), .inl (ar 0, 64, .inl pack)), ((r0 6), .inl (ar 0, 3, .inl fell))] H := hP
  have hD : va_D A [(h0, .inr (4, oX5 r0 (tu (tu (tu (tu (tu (tu i0 9 minute) 10 u1.1) 11 slid) 12 slidNow) 13 rounds) 14 u1.2.1) (tul j0 16 u1.2.2.1))), ((r0 1), .inl (ar 0, 64, .inl u1.2.2.2.1)), ((r0 0), .inl (ar 0, 64, .inl u1.2.2.2.2)), ((r0 2), .inl (ar 0, 64, .inl pack)), ((r0 6), .inl (ar 0, 3, .inl fell))] := hD
  refine lv_aload_n hx hb dX5_comeOn_4 rfl (lv_at hl 0 rfl) ?_
  obtain ⟨u2, hGu2, hF⟩ := tk_pb hF
  refine va_callv (va_runV (As := []) (rest := []) ⟨hx, hb, hml, hown, hts⟩ (mX5_sun (l := l) (D := D) (ar := ar) (ad := ad) (xs := xs) (sz := H.size) (h0 := h0) (r0 := r0) (i0 := (tu (tu (tu (tu (tu (tu i0 9 minute) 10 u1.1) 11 slid) 12 slidNow) 13 rounds) 14 u1.2.1)) (j0 := (tul j0 16 u1.2.2.1)) (r1 := r1) (i1 := i1) (r2 := r4) (i2 := (tu (tu (tu (tu (tu (tu i4 0 columns) 1 rows) 2 best) 3 top) 4 loss) 5 flags)) (minute := minute) (columns := columns) (rows := rows) (numbers := numbers) (height := u1.2.2.2.2) (wet := u1.2.2.2.1) (hF := hGu2)) (cwV 0 hts (lw_V q1133 q1135 qs18 q99 q1136) rfl rfl rfl (by decide +kernel) ⟨(Nat.le_of_ble_eq_true rfl), (Nat.le_of_ble_eq_true rfl)⟩) ⟨tk_blind, va_recv hK hP (ci := 4) (q0 := 0) rfl rfl, fun U hU hW => ⟨rfl, tk_mk hP hD hS hA hE hR hX [1] [0, 5, 11, 13, 2] rfl rfl rfl rfl U hU hW⟩⟩ rfl rfl hl.1 rfl (lv_room (Nat.le_of_ble_eq_true rfl)) dX5_comeOn_5 ⟨(Nat.le_of_ble_eq_true rfl), (Nat.le_of_ble_eq_true rfl)⟩) hS (fun q _ h => (va_free hD hS hA [1] rfl) q h) (va_free hD hS hA [1] rfl) (fun zu zt H1 zl zht zvm zw zB zz zk zS => ?_)
  obtain ⟨hP, hD⟩ := tk_join hP hD zk [1] rfl rfl (va_free hD hS hA [1] rfl) (zht ▸ zB.1) zB.2 (Nat.le_of_ble_eq_true rfl)
  have hS := zS
  generalize H1 = H at hP hS ⊢
  have hP : va_P D tkCl [(h0, .inr (4, oX5 r0 (tu (tu (tu (tu (tu (tu i0 9 minute) 10 u1.1) 11 slid) 12 slidNow) 13 rounds) 14 u1.2.1) (tul j0 16 u1.2.2.1))), ((r0 1), .inl (ar 0, 64, .inl u2)), ((r0 0), .inl (ar 0, 64, .inl u1.2.2.2.2)), ((r0 2), .inl (ar 0, 64, .inl pack)), ((r0 6), .inl (ar 0, 3, .inl fell))] H := hP
  have hD : va_D A [(h0, .inr (4, oX5 r0 (tu (tu (tu (tu (tu (tu i0 9 minute) 10 u1.1) 11 slid) 12 slidNow) 13 rounds) 14 u1.2.1) (tul j0 16 u1.2.2.1))), ((r0 1), .inl (ar 0, 64, .inl u2)), ((r0 0), .inl (ar 0, 64, .inl u1.2.2.2.2)), ((r0 2), .inl (ar 0, 64, .inl pack)), ((r0 6), .inl (ar 0, 3, .inl fell))] := hD
  refine lv_aload_n hx hb dX5_comeOn_8 rfl (lv_at hl 0 rfl) ?_
  obtain ⟨u3, hGu3, hF⟩ := tk_pb hF
  refine va_callv (va_runV (As := []) (rest := []) ⟨hx, hb, hml, hown, hts⟩ (mX5_slides (l := l) (D := D) (ar := ar) (ad := ad) (xs := xs) (sz := H.size) (h0 := h0) (r0 := r0) (i0 := (tu (tu (tu (tu (tu (tu i0 9 minute) 10 u1.1) 11 slid) 12 slidNow) 13 rounds) 14 u1.2.1)) (j0 := (tul j0 16 u1.2.2.1)) (r1 := r1) (i1 := i1) (r2 := r4) (i2 := (tu (tu (tu (tu (tu (tu i4 0 columns) 1 rows) 2 best) 3 top) 4 loss) 5 flags)) (columns := columns) (rows := rows) (best := best) (top := top) (loss := loss) (stone := stone) (numbers := numbers) (slid := slid) (slidNow := slidNow) (rounds := rounds) (height := u1.2.2.2.2) (wet := u2) (pack := pack) (hF := hGu3)) (cwV 0 hts (lw_V q1139 q1140 q1141 q99 q1142) rfl rfl rfl (by decide +kernel) ⟨(Nat.le_of_ble_eq_true rfl), (Nat.le_of_ble_eq_true rfl)⟩) ⟨tk_blind, va_recv hK hP (ci := 4) (q0 := 0) rfl rfl, fun U hU hW => ⟨rfl, tk_mk hP hD hS hA hE hR hX [0, 2, 1, 3] [5, 11, 12, 13] rfl rfl rfl rfl U hU hW⟩⟩ rfl rfl hl.1 rfl (lv_room (Nat.le_of_ble_eq_true rfl)) dX5_comeOn_9 ⟨(Nat.le_of_ble_eq_true rfl), (Nat.le_of_ble_eq_true rfl)⟩) hS (fun q _ h => (va_free hD hS hA [0, 2, 1, 3] rfl) q h) (va_free hD hS hA [0, 2, 1, 3] rfl) (fun zu zt H1 zl zht zvm zw zB zz zk zS => ?_)
  obtain ⟨hP, hD⟩ := tk_join hP hD zk [0, 2, 1, 3] rfl rfl (va_free hD hS hA [0, 2, 1, 3] rfl) (zht ▸ zB.1) zB.2 (Nat.le_of_ble_eq_true rfl)
  have hS := zS
  generalize H1 = H at hP hS ⊢
  have hP : va_P D tkCl [(h0, .inr (4, oX5 r0 (tu (tu (tu (tu (tu (tu i0 9 minute) 10 u1.1) 11 u3.1) 12 u3.2.1) 13 u3.2.2.1) 14 u1.2.1) (tul j0 16 u1.2.2.1))), ((r0 1), .inl (ar 0, 64, .inl u3.2.2.2.2.1)), ((r0 0), .inl (ar 0, 64, .inl u3.2.2.2.1)), ((r0 2), .inl (ar 0, 64, .inl u3.2.2.2.2.2)), ((r0 6), .inl (ar 0, 3, .inl fell))] H := hP
  have hD : va_D A [(h0, .inr (4, oX5 r0 (tu (tu (tu (tu (tu (tu i0 9 minute) 10 u1.1) 11 u3.1) 12 u3.2.1) 13 u3.2.2.1) 14 u1.2.1) (tul j0 16 u1.2.2.1))), ((r0 1), .inl (ar 0, 64, .inl u3.2.2.2.2.1)), ((r0 0), .inl (ar 0, 64, .inl u3.2.2.2.1)), ((r0 2), .inl (ar 0, 64, .inl u3.2.2.2.2.2)), ((r0 6), .inl (ar 0, 3, .inl fell))] := hD
  refine lv_aload_n hx hb dX5_comeOn_12 rfl (lv_at hl 0 rfl) ?_
  obtain ⟨u4, hGu4, hF⟩ := tk_pb hF
  refine va_callv (va_runV (As := []) (rest := []) ⟨hx, hb, hml, hown, hts⟩ (mX5_lookAtFlags (l := l) (D := D) (ar := ar) (ad := ad) (xs := xs) (sz := H.size) (h0 := h0) (r0 := r0) (i0 := (tu (tu (tu (tu (tu (tu i0 9 minute) 10 u1.1) 11 u3.1) 12 u3.2.1) 13 u3.2.2.1) 14 u1.2.1)) (j0 := (tul j0 16 u1.2.2.1)) (r1 := r1) (i1 := i1) (r2 := r4) (i2 := (tu (tu (tu (tu (tu (tu i4 0 columns) 1 rows) 2 best) 3 top) 4 loss) 5 flags)) (minute := minute) (flags := flags) (flagCell := flagCell) (height := u3.2.2.2.1) (putUp := putUp) (numbers := numbers) (fell := fell) (hF := hGu4)) (cwV 0 hts (lw_V q1167 q1169 qs21 q99 q1170) rfl rfl rfl (by decide +kernel) ⟨(Nat.le_of_ble_eq_true rfl), (Nat.le_of_ble_eq_true rfl)⟩) ⟨tk_blind, va_recv hK hP (ci := 4) (q0 := 0) rfl rfl, fun U hU hW => ⟨rfl, tk_mk hP hD hS hA hE hR hX [4] [0, 5, 11, 14, 2, 15, 13] rfl rfl rfl rfl U hU hW⟩⟩ rfl rfl hl.1 rfl (lv_room (Nat.le_of_ble_eq_true rfl)) dX5_comeOn_13 ⟨(Nat.le_of_ble_eq_true rfl), (Nat.le_of_ble_eq_true rfl)⟩) hS (fun q _ h => (va_free hD hS hA [4] rfl) q h) (va_free hD hS hA [4] rfl) (fun zu zt H1 zl zht zvm zw zB zz zk zS => ?_)
  obtain ⟨hP, hD⟩ := tk_join hP hD zk [4] rfl rfl (va_free hD hS hA [4] rfl) (zht ▸ zB.1) zB.2 (Nat.le_of_ble_eq_true rfl)
  have hS := zS
  generalize H1 = H at hP hS ⊢
  have hP : va_P D tkCl [(h0, .inr (4, oX5 r0 (tu (tu (tu (tu (tu (tu i0 9 minute) 10 u1.1) 11 u3.1) 12 u3.2.1) 13 u3.2.2.1) 14 u1.2.1) (tul j0 16 u1.2.2.1))), ((r0 1), .inl (ar 0, 64, .inl u3.2.2.2.2.1)), ((r0 0), .inl (ar 0, 64, .inl u3.2.2.2.1)), ((r0 2), .inl (ar 0, 64, .inl u3.2.2.2.2.2)), ((r0 6), .inl (ar 0, 3, .inl u4))] H := hP
  have hD : va_D A [(h0, .inr (4, oX5 r0 (tu (tu (tu (tu (tu (tu i0 9 minute) 10 u1.1) 11 u3.1) 12 u3.2.1) 13 u3.2.2.1) 14 u1.2.1) (tul j0 16 u1.2.2.1))), ((r0 1), .inl (ar 0, 64, .inl u3.2.2.2.2.1)), ((r0 0), .inl (ar 0, 64, .inl u3.2.2.2.1)), ((r0 2), .inl (ar 0, 64, .inl u3.2.2.2.2.2)), ((r0 6), .inl (ar 0, 3, .inl u4))] := hD
  refine lv_aload_n hx hb dX5_comeOn_16 rfl (lv_at hl 0 rfl) ?_
  refine lv_dup hx hb dX5_comeOn_17 rfl ?_
  refine va_get (D := D) (ci := 4) (v := .int minute) (C := RX5) (T := TX5) (N := 18) hx hb hts in_X5 hown hK hP 0 rfl rfl 9 (by decide) (hts _ q370) (fun _ h9 => h9) rfl dX5_comeOn_18 ?_
  refine lv_iconst (v := 1) hx hb dX5_comeOn_21 (by decide) ?_
  refine lv_iadd hx hb dX5_comeOn_22 ?_
  refine va_put (D := D) (ci := 4) (v := .int (minute + 1)) (ty := .int) (C := RX5) (T := TX5) (N := 18) hx hb hts in_X5 tyX5 tyX5_ok nmX5 hown hK hP hD hS 0 rfl rfl 9 (by decide) (hts _ q370) (fun _ h9 => h9) rfl (by decide +kernel) rfl rfl (Nat.le_of_ble_eq_true rfl) dX5_comeOn_23 (fun H locs hP hD hS => ?_)
  have hP : va_P D tkCl [(h0, .inr (4, oX5 r0 (tu (tu (tu (tu (tu (tu i0 9 (minute + 1)) 10 u1.1) 11 u3.1) 12 u3.2.1) 13 u3.2.2.1) 14 u1.2.1) (tul j0 16 u1.2.2.1))), ((r0 1), .inl (ar 0, 64, .inl u3.2.2.2.2.1)), ((r0 0), .inl (ar 0, 64, .inl u3.2.2.2.1)), ((r0 2), .inl (ar 0, 64, .inl u3.2.2.2.2.2)), ((r0 6), .inl (ar 0, 3, .inl u4))] H := hP
  have hD : va_D A [(h0, .inr (4, oX5 r0 (tu (tu (tu (tu (tu (tu i0 9 (minute + 1)) 10 u1.1) 11 u3.1) 12 u3.2.1) 13 u3.2.2.1) 14 u1.2.1) (tul j0 16 u1.2.2.1))), ((r0 1), .inl (ar 0, 64, .inl u3.2.2.2.2.1)), ((r0 0), .inl (ar 0, 64, .inl u3.2.2.2.1)), ((r0 2), .inl (ar 0, 64, .inl u3.2.2.2.2.2)), ((r0 6), .inl (ar 0, 3, .inl u4))] := hD
  have eo := tk_pr hF
  subst eo
  exact W.vret hx hb hr (fun t ht hW => ⟨⟨(), rfl, trivial, tk_pst ht hP hD⟩, hS.F ht⟩) hS.2.2 dX5_comeOn_26
set_option maxHeartbeats 4000000 in
theorem mX5_minute (l : Launch) (D : va_G) (ar : Nat → ClassId) (ad : Nat → Nat → Nat) (xs : va_W) (sz : Nat) (h0 : Nat) (r0 : Nat → Nat) (i0 : Nat → Int32) (j0 : Nat → Int64) (r1 : Nat → Nat) (i1 : Nat → Int32) (r2 : Nat → Nat) (i2 : Nat → Int32) (r3 : Nat → Nat) (i3 : Nat → Int32) (r4 : Nat → Nat) (i4 : Nat → Int32) (r5 : Nat → Nat) (i5 : Nat → Int32) (plan : Int32) (hn : Nat → Int32) (an : Nat → Nat → Int32) (av : Nat → Nat → Nat → Nat → Int32) (size columns rows best top loss flags : Int32) (numbers : Nat → Int32) (cut : Int32) (wv : Nat → Nat → Int32) (size_2 : Int32) (tide reach level flagCell putUp : Nat → Int32) (minute v_lost slid slidNow rounds came : Int32) (chance : Int64) (isResting nextAct height stone wet pack done fell : Nat → Int32) (hfam2 : tk_Fpl ar xs r2 size hn an av) (hfam13 : tk_Fwv ar xs r5 size_2 wv) (o : Int32 × Int32 × Int32 × Int32 × Int32 × Int32 × Int64 × (Nat → Int32) × (Nat → Int32) × (Nat → Int32) × (Nat → Int32) × (Nat → Int32) × (Nat → Int32) × (Nat → Int32) × (Nat → Int32)) (hF : fX5_minute plan hn an av size columns rows best top loss flags numbers cut wv size_2 tide reach level flagCell putUp minute v_lost slid slidNow rounds came chance isResting nextAct height stone wet pack done fell = some o) : Met l yX5_minute (ws_ yX5_minute cX5_minute 1 none) ({ frames := 6, cells := 0, slots := 0, locals := 150 }) (va_Pc [.ref h0] (tk_Pre D ar ad [(h0, .inr (4, oX5 r0 (tu (tu (tu (tu (tu (tu (tu i0 9 minute) 10 v_lost) 11 slid) 12 slidNow) 13 rounds) 14 came) 15 plan) (tul j0 16 chance))), ((r0 8), .inl (ar 2, 4, .inl isResting)), ((r0 3), .inl (ar 0, 4, .inl nextAct)), ((r0 0), .inl (ar 0, 64, .inl height)), ((r0 7), .inl (ar 2, 64, .inl stone)), ((r0 1), .inl (ar 0, 64, .inl wet)), ((r0 2), .inl (ar 0, 64, .inl pack)), ((r0 4), .inl (ar 0, 4, .inl done)), ((r0 6), .inl (ar 0, 3, .inl fell))] [((r0 17), .inr (0, oX0 r1 i1)), ((r1 7), .inr (13, oJ5 r2 (tu i2 2 size))), ((r1 5), .inr (2, oX2 r3 (tu (tu (tu (tu (tu (tu i3 0 columns) 1 rows) 2 best) 3 top) 4 loss) 5 flags))), ((r3 7), .inl (ar 0, 6, .inl numbers)), ((r1 6), .inr (3, oX4 r4 (tu i4 4 cut))), ((r4 0), .inr (13, oJ5 r5 (tu i5 2 size_2))), ((r4 1), .inl (ar 0, 4, .inl tide)), ((r4 2), .inl (ar 0, 2, .inl reach)), ((r4 3), .inl (ar 0, 2, .inl level)), ((r3 9), .inl (ar 0, 3, .inl flagCell)), ((r0 5), .inl (ar 0, 3, .inl putUp))] xs sz)) (va_Qv (fun _ : Unit => True) (fun _ t => tk_Post D (va_A [(h0, .inr (4, oX5 r0 (tu (tu (tu (tu (tu (tu (tu i0 9 minute) 10 v_lost) 11 slid) 12 slidNow) 13 rounds) 14 came) 15 plan) (tul j0 16 chance))), ((r0 8), .inl (ar 2, 4, .inl isResting)), ((r0 3), .inl (ar 0, 4, .inl nextAct)), ((r0 0), .inl (ar 0, 64, .inl height)), ((r0 7), .inl (ar 2, 64, .inl stone)), ((r0 1), .inl (ar 0, 64, .inl wet)), ((r0 2), .inl (ar 0, 64, .inl pack)), ((r0 4), .inl (ar 0, 4, .inl done)), ((r0 6), .inl (ar 0, 3, .inl fell))] sz) [(h0, .inr (4, oX5 r0 (tu (tu (tu (tu (tu (tu (tu i0 9 o.1) 10 o.2.1) 11 o.2.2.1) 12 o.2.2.2.1) 13 o.2.2.2.2.1) 14 o.2.2.2.2.2.1) 15 plan) (tul j0 16 o.2.2.2.2.2.2.1))), ((r0 8), .inl (ar 2, 4, .inl o.2.2.2.2.2.2.2.1)), ((r0 3), .inl (ar 0, 4, .inl o.2.2.2.2.2.2.2.2.1)), ((r0 0), .inl (ar 0, 64, .inl o.2.2.2.2.2.2.2.2.2.1)), ((r0 7), .inl (ar 2, 64, .inl o.2.2.2.2.2.2.2.2.2.2.1)), ((r0 1), .inl (ar 0, 64, .inl o.2.2.2.2.2.2.2.2.2.2.2.1)), ((r0 2), .inl (ar 0, 64, .inl o.2.2.2.2.2.2.2.2.2.2.2.2.1)), ((r0 4), .inl (ar 0, 4, .inl o.2.2.2.2.2.2.2.2.2.2.2.2.2.1)), ((r0 6), .inl (ar 0, 3, .inl o.2.2.2.2.2.2.2.2.2.2.2.2.2.2))] t) (va_A [(h0, .inr (4, oX5 r0 (tu (tu (tu (tu (tu (tu (tu i0 9 minute) 10 v_lost) 11 slid) 12 slidNow) 13 rounds) 14 came) 15 plan) (tul j0 16 chance))), ((r0 8), .inl (ar 2, 4, .inl isResting)), ((r0 3), .inl (ar 0, 4, .inl nextAct)), ((r0 0), .inl (ar 0, 64, .inl height)), ((r0 7), .inl (ar 2, 64, .inl stone)), ((r0 1), .inl (ar 0, 64, .inl wet)), ((r0 2), .inl (ar 0, 64, .inl pack)), ((r0 4), .inl (ar 0, 4, .inl done)), ((r0 6), .inl (ar 0, 3, .inl fell))] sz)) 0 0 (va_A [(h0, .inr (4, oX5 r0 (tu (tu (tu (tu (tu (tu (tu i0 9 minute) 10 v_lost) 11 slid) 12 slidNow) 13 rounds) 14 came) 15 plan) (tul j0 16 chance))), ((r0 8), .inl (ar 2, 4, .inl isResting)), ((r0 3), .inl (ar 0, 4, .inl nextAct)), ((r0 0), .inl (ar 0, 64, .inl height)), ((r0 7), .inl (ar 2, 64, .inl stone)), ((r0 1), .inl (ar 0, 64, .inl wet)), ((r0 2), .inl (ar 0, 64, .inl pack)), ((r0 4), .inl (ar 0, 4, .inl done)), ((r0 6), .inl (ar 0, 3, .inl fell))] sz) := by
  refine Met.ofW (cc := cX5_minute) (maxL := 1) (ret := none) (by decide) rfl ?_
  intro p e s m args below meth c s₁ B hml hv
  obtain ⟨rfl, hsz, hP, hD0, hR, hX, hE⟩ := hv
  have hx := B.exec
  have hb := B.bytes
  have hr := B.returns
  have hts := atoms_spec (ws := (ws_ yX5_minute cX5_minute 1 none)) B.pre
  have hts : ∀ w ∈ lw_all, w.before _ s = true := fun w h => hts w (List.mem_cons_of_mem _ h)
  have hown : s.vm.findClass RX5 = some m.cls := findClass_of_methodNamed B.named
  have hlocks := B.notSynchronized
  subst hsz
  have hD := hD0.self (sz := s.heap.size)
  generalize hAe : va_A [(h0, .inr (4, oX5 r0 (tu (tu (tu (tu (tu (tu (tu i0 9 minute) 10 v_lost) 11 slid) 12 slidNow) 13 rounds) 14 came) 15 plan) (tul j0 16 chance))), ((r0 8), .inl (ar 2, 4, .inl isResting)), ((r0 3), .inl (ar 0, 4, .inl nextAct)), ((r0 0), .inl (ar 0, 64, .inl height)), ((r0 7), .inl (ar 2, 64, .inl stone)), ((r0 1), .inl (ar 0, 64, .inl wet)), ((r0 2), .inl (ar 0, 64, .inl pack)), ((r0 4), .inl (ar 0, 4, .inl done)), ((r0 6), .inl (ar 0, 3, .inl fell))] s.heap.size = A at hD hR hX hE ⊢
  have hA : ∀ q : Nat, s.heap.size ≤ q → A q := fun q h => by rw [← hAe]; exact Or.inr h
  have hS : va_S A s.heap s.heap [] := va_S.rf
  have hK := hE.1
  have hl := lv_entry ([.ref h0]) (n := 1) (Nat.le_of_ble_eq_true rfl)
  rw [lg_entry_eq]
  generalize (lg_sl ([.ref h0]) ++ List.replicate (1 - (lg_sl ([.ref h0])).length) Slot.unset).toArray = ls at hl ⊢
  have hl : lv_has ls 1 [(0, .ref h0)] := hl
  have hP : va_P D tkCl [(h0, .inr (4, oX5 r0 (tu (tu (tu (tu (tu (tu (tu i0 9 minute) 10 v_lost) 11 slid) 12 slidNow) 13 rounds) 14 came) 15 plan) (tul j0 16 chance))), ((r0 8), .inl (ar 2, 4, .inl isResting)), ((r0 3), .inl (ar 0, 4, .inl nextAct)), ((r0 0), .inl (ar 0, 64, .inl height)), ((r0 7), .inl (ar 2, 64, .inl stone)), ((r0 1), .inl (ar 0, 64, .inl wet)), ((r0 2), .inl (ar 0, 64, .inl pack)), ((r0 4), .inl (ar 0, 4, .inl done)), ((r0 6), .inl (ar 0, 3, .inl fell))] s.heap := hP
  unfold fX5_minute at hF
  refine lv_aload_n hx hb dX5_minute_0 rfl (lv_at hl 0 rfl) ?_
  obtain ⟨u1, hGu1, hF⟩ := tk_pb hF
  refine va_callv (va_runV (As := []) (rest := []) ⟨hx, hb, hml, hown, hts⟩ (mX5_work (l := l) (D := D) (ar := ar) (ad := ad) (xs := xs) (sz := s.heap.size) (h0 := h0) (r0 := r0) (i0 := (tu (tu (tu (tu (tu (tu (tu i0 9 minute) 10 v_lost) 11 slid) 12 slidNow) 13 rounds) 14 came) 15 plan)) (j0 := (tul j0 16 chance)) (r1 := r1) (i1 := i1) (r2 := r2) (i2 := (tu i2 2 size)) (r3 := r3) (i3 := (tu (tu (tu (tu (tu (tu i3 0 columns) 1 rows) 2 best) 3 top) 4 loss) 5 flags)) (plan := plan) (hn := hn) (an := an) (av := av) (size := size) (numbers := numbers) (isResting := isResting) (nextAct := nextAct) (height := height) (stone := stone) (wet := wet) (pack := pack) (done := done) (hfam2 := hfam2) (hF := hGu1)) (cwV 0 hts (lw_V q1084 q1086 qs13 q99 q1087) rfl rfl rfl (by decide +kernel) ⟨(Nat.le_of_ble_eq_true rfl), (Nat.le_of_ble_eq_true rfl)⟩) ⟨tk_blind, va_recv hK hP (ci := 4) (q0 := 0) rfl rfl, fun U hU hW => ⟨rfl, tk_mk hP hD hS hA hE hR hX [1, 2, 3, 4, 5, 6, 7] [0, 9, 10, 11, 12] rfl rfl rfl rfl U hU hW⟩⟩ rfl rfl hl.1 rfl (lv_room (Nat.le_of_ble_eq_true rfl)) dX5_minute_1 ⟨(Nat.le_of_ble_eq_true rfl), (Nat.le_of_ble_eq_true rfl)⟩) hS (fun q _ h => (va_free hD hS hA [1, 2, 3, 4, 5, 6, 7] rfl) q h) (va_free hD hS hA [1, 2, 3, 4, 5, 6, 7] rfl) (fun zu zt H1 zl zht zvm zw zB zz zk zS => ?_)
  obtain ⟨hP, hD⟩ := tk_join hP hD zk [1, 2, 3, 4, 5, 6, 7] rfl rfl (va_free hD hS hA [1, 2, 3, 4, 5, 6, 7] rfl) (zht ▸ zB.1) zB.2 (Nat.le_of_ble_eq_true rfl)
  have hS := zS
  generalize H1 = H at hP hS ⊢
  have hP : va_P D tkCl [(h0, .inr (4, oX5 r0 (tu (tu (tu (tu (tu (tu (tu i0 9 minute) 10 v_lost) 11 slid) 12 slidNow) 13 rounds) 14 came) 15 plan) (tul j0 16 chance))), ((r0 8), .inl (ar 2, 4, .inl u1.1)), ((r0 3), .inl (ar 0, 4, .inl u1.2.1)), ((r0 0), .inl (ar 0, 64, .inl u1.2.2.1)), ((r0 7), .inl (ar 2, 64, .inl u1.2.2.2.1)), ((r0 1), .inl (ar 0, 64, .inl u1.2.2.2.2.1)), ((r0 2), .inl (ar 0, 64, .inl u1.2.2.2.2.2.1)), ((r0 4), .inl (ar 0, 4, .inl u1.2.2.2.2.2.2)), ((r0 6), .inl (ar 0, 3, .inl fell))] H := hP
  have hD : va_D A [(h0, .inr (4, oX5 r0 (tu (tu (tu (tu (tu (tu (tu i0 9 minute) 10 v_lost) 11 slid) 12 slidNow) 13 rounds) 14 came) 15 plan) (tul j0 16 chance))), ((r0 8), .inl (ar 2, 4, .inl u1.1)), ((r0 3), .inl (ar 0, 4, .inl u1.2.1)), ((r0 0), .inl (ar 0, 64, .inl u1.2.2.1)), ((r0 7), .inl (ar 2, 64, .inl u1.2.2.2.1)), ((r0 1), .inl (ar 0, 64, .inl u1.2.2.2.2.1)), ((r0 2), .inl (ar 0, 64, .inl u1.2.2.2.2.2.1)), ((r0 4), .inl (ar 0, 4, .inl u1.2.2.2.2.2.2)), ((r0 6), .inl (ar 0, 3, .inl fell))] := hD
  refine lv_aload_n hx hb dX5_minute_4 rfl (lv_at hl 0 rfl) ?_
  obtain ⟨u2, hGu2, hF⟩ := tk_pb hF
  refine va_callv (va_runV (As := []) (rest := []) ⟨hx, hb, hml, hown, hts⟩ (mX5_comeOn (l := l) (D := D) (ar := ar) (ad := ad) (xs := xs) (sz := H.size) (h0 := h0) (r0 := r0) (i0 := (tu (tu (tu (tu (tu (tu (tu i0 9 minute) 10 v_lost) 11 slid) 12 slidNow) 13 rounds) 14 came) 15 plan)) (j0 := (tul j0 16 chance)) (r1 := r1) (i1 := i1) (r2 := r4) (i2 := (tu i4 4 cut)) (r3 := r5) (i3 := (tu i5 2 size_2)) (r4 := r3) (i4 := (tu (tu (tu (tu (tu (tu i3 0 columns) 1 rows) 2 best) 3 top) 4 loss) 5 flags)) (cut := cut) (wv := wv) (size := size_2) (tide := tide) (reach := reach) (level := level) (columns := columns) (rows := rows) (best := best) (top := top) (loss := loss) (flags := flags) (stone := u1.2.2.2.1) (numbers := numbers) (flagCell := flagCell) (putUp := putUp) (minute := minute) (v_lost := v_lost) (slid := slid) (slidNow := slidNow) (rounds := rounds) (came := came) (chance := chance) (wet := u1.2.2.2.2.1) (height := u1.2.2.1) (pack := u1.2.2.2.2.2.1) (fell := fell) (hfam3 := hfam13) (hF := hGu2)) (cwV 0 hts (lw_V q1103 q1104 q1105 q99 q1106) rfl rfl rfl (by decide +kernel) ⟨(Nat.le_of_ble_eq_true rfl), (Nat.le_of_ble_eq_true rfl)⟩) ⟨tk_blind, va_recv hK hP (ci := 4) (q0 := 0) rfl rfl, fun U hU hW => ⟨rfl, tk_mk hP hD hS hA hE hR hX [0, 5, 3, 6, 8] [9, 13, 14, 15, 16, 17, 11, 4, 12, 18, 19] rfl rfl rfl rfl U hU hW⟩⟩ rfl rfl hl.1 rfl (lv_room (Nat.le_of_ble_eq_true rfl)) dX5_minute_5 ⟨(Nat.le_of_ble_eq_true rfl), (Nat.le_of_ble_eq_true rfl)⟩) hS (fun q _ h => (va_free hD hS hA [0, 5, 3, 6, 8] rfl) q h) (va_free hD hS hA [0, 5, 3, 6, 8] rfl) (fun zu zt H1 zl zht zvm zw zB zz zk zS => ?_)
  obtain ⟨hP, hD⟩ := tk_join hP hD zk [0, 5, 3, 6, 8] rfl rfl (va_free hD hS hA [0, 5, 3, 6, 8] rfl) (zht ▸ zB.1) zB.2 (Nat.le_of_ble_eq_true rfl)
  have hS := zS
  generalize H1 = H at hP hS ⊢
  have hP : va_P D tkCl [(h0, .inr (4, oX5 r0 (tu (tu (tu (tu (tu (tu (tu i0 9 u2.1) 10 u2.2.1) 11 u2.2.2.1) 12 u2.2.2.2.1) 13 u2.2.2.2.2.1) 14 u2.2.2.2.2.2.1) 15 plan) (tul j0 16 u2.2.2.2.2.2.2.1))), ((r0 8), .inl (ar 2, 4, .inl u1.1)), ((r0 3), .inl (ar 0, 4, .inl u1.2.1)), ((r0 0), .inl (ar 0, 64, .inl u2.2.2.2.2.2.2.2.2.1)), ((r0 7), .inl (ar 2, 64, .inl u1.2.2.2.1)), ((r0 1), .inl (ar 0, 64, .inl u2.2.2.2.2.2.2.2.1)), ((r0 2), .inl (ar 0, 64, .inl u2.2.2.2.2.2.2.2.2.2.1)), ((r0 4), .inl (ar 0, 4, .inl u1.2.2.2.2.2.2)), ((r0 6), .inl (ar 0, 3, .inl u2.2.2.2.2.2.2.2.2.2.2))] H := hP
  have hD : va_D A [(h0, .inr (4, oX5 r0 (tu (tu (tu (tu (tu (tu (tu i0 9 u2.1) 10 u2.2.1) 11 u2.2.2.1) 12 u2.2.2.2.1) 13 u2.2.2.2.2.1) 14 u2.2.2.2.2.2.1) 15 plan) (tul j0 16 u2.2.2.2.2.2.2.1))), ((r0 8), .inl (ar 2, 4, .inl u1.1)), ((r0 3), .inl (ar 0, 4, .inl u1.2.1)), ((r0 0), .inl (ar 0, 64, .inl u2.2.2.2.2.2.2.2.2.1)), ((r0 7), .inl (ar 2, 64, .inl u1.2.2.2.1)), ((r0 1), .inl (ar 0, 64, .inl u2.2.2.2.2.2.2.2.1)), ((r0 2), .inl (ar 0, 64, .inl u2.2.2.2.2.2.2.2.2.2.1)), ((r0 4), .inl (ar 0, 4, .inl u1.2.2.2.2.2.2)), ((r0 6), .inl (ar 0, 3, .inl u2.2.2.2.2.2.2.2.2.2.2))] := hD
  have eo := tk_pr hF
  subst eo
  exact W.vret hx hb hr (fun t ht hW => ⟨⟨(), rfl, trivial, tk_pst ht hP hD⟩, hS.F ht⟩) hS.2.2 dX5_minute_8
