set_option maxRecDepth 100000
noncomputable def fX5_go (p0 p1 : Int32) (wet height pack : Nat → Int32) : Option ((Nat → Int32) × (Nat → Int32) × (Nat → Int32)) := if tk_in p1 64 then (if tk_in p0 64 then (if ¬ ((height p1.toNatClampNeg) + 1) = 0 then (tk_l (upd wet p1.toNatClampNeg ((((wet p1.toNatClampNeg) * (height p1.toNatClampNeg)) + (wet p0.toNatClampNeg)) / ((height p1.toNatClampNeg) + 1))) (fun y4 => tk_l (upd (upd height p0.toNatClampNeg ((height p0.toNatClampNeg) - 1)) p1.toNatClampNeg (((upd height p0.toNatClampNeg ((height p0.toNatClampNeg) - 1)) p1.toNatClampNeg) + 1)) (fun y5 => some (y4, y5, upd pack p1.toNatClampNeg 0)))) else none) else none) else none
noncomputable def fX5_draw (p0 : Int32) (chance : Int64) : Option (Int32 × Int64) := tk_l (((1103515245 * chance) + 12345) - ((1103515245 * chance) + 12345) / 2147483648 * 2147483648) (fun y1 => if ¬ p0.toInt64 = 0 then (some (((y1 / 65536) - (y1 / 65536) / p0.toInt64 * p0.toInt64).toInt32, y1)) else none)
abbrev VX5_lower : Type := Int32
abbrev OX5_lower : Type := Int32
noncomputable def bX5_lower_1 (stone height : Nat → Int32) (x1 : Int32) : Option ((Nat × VX5_lower) ⊕ OX5_lower) := some (.inr x1)
noncomputable def bX5_lower_0 (stone height : Nat → Int32) (p0 p1 : Int32) : Option ((Nat × VX5_lower) ⊕ OX5_lower) := if tk_in p1 64 then (if (stone p1.toNatClampNeg) = 0 then (if p0 = (-1) then (some (.inr p1)) else (if tk_in p0 64 then (if (height p1.toNatClampNeg) < (height p0.toNatClampNeg) then (some (.inr p1)) else (some (.inl (1, p0)))) else none)) else (some (.inl (1, p0)))) else none
noncomputable def stX5_lower (stone height : Nat → Int32) (z : Nat × VX5_lower) : Option ((Nat × VX5_lower) ⊕ OX5_lower) := match z.1 with
  | 1 => bX5_lower_1 stone height z.2
  | _ => none
noncomputable def fX5_lower_1 (stone height : Nat → Int32) (x1 : Int32) : Option OX5_lower := tk_lp (stX5_lower stone height) (1, x1)
noncomputable def fX5_lower (stone height : Nat → Int32) (p0 p1 : Int32) : Option OX5_lower := tk_fin (stX5_lower stone height) (bX5_lower_0 stone height p0 p1)
theorem fX5_lower_1_eq (stone height : Nat → Int32) (x1 : Int32) : fX5_lower_1 stone height x1 = some x1 := by
  unfold fX5_lower_1
  rw [tk_lp_eq]
  show tk_fin _ (bX5_lower_1 stone height x1) = _
  unfold bX5_lower_1
  simp only [tk_fin_t, tk_fin_b, tk_fin_l, tk_fin_n, tk_fin_i, tk_fin_r]
  try rfl
theorem fX5_lower_eq (stone height : Nat → Int32) (p0 p1 : Int32) : fX5_lower stone height p0 p1 = if tk_in p1 64 then (if (stone p1.toNatClampNeg) = 0 then (if p0 = (-1) then (some p1) else (if tk_in p0 64 then (if (height p1.toNatClampNeg) < (height p0.toNatClampNeg) then (some p1) else (fX5_lower_1 stone height p0)) else none)) else (fX5_lower_1 stone height p0)) else none := by
  unfold fX5_lower bX5_lower_0
  simp only [tk_fin_t, tk_fin_b, tk_fin_l, tk_fin_n, tk_fin_i, tk_fin_r, fX5_lower_1]
  try rfl
noncomputable def fX2_cells (columns rows : Int32) : Option (Int32) := some (columns * rows)
noncomputable def fX2_of (numbers : Nat → Int32) (p0 : Nat) : Option (Int32) := if tk_in (tk_ord.getD p0 0) 6 then (some (numbers (tk_ord.getD p0 0).toNatClampNeg)) else none
abbrev VX2_strength : Type := Unit
abbrev OX2_strength : Type := Int32
noncomputable def bX2_strength_1  : Option ((Nat × VX2_strength) ⊕ OX2_strength) := some (.inr 0)
noncomputable def bX2_strength_0 (p0 p1 p2 p3 : Int32) : Option ((Nat × VX2_strength) ⊕ OX2_strength) := if p0 = 0 then (some (.inl (1, ()))) else (if p0 = 16 then (some (.inl (1, ()))) else (tk_l (p2 - (p3 * (if 0 ≤ p0 - p1 then p0 - p1 else 0 - (p0 - p1)))) (fun y3 => some (.inr (if 0 < y3 then y3 else 0)))))
noncomputable def stX2_strength  (z : Nat × VX2_strength) : Option ((Nat × VX2_strength) ⊕ OX2_strength) := match z.1 with
  | 1 => bX2_strength_1 
  | _ => none
noncomputable def fX2_strength_1  : Option OX2_strength := tk_lp (stX2_strength ) (1, ())
noncomputable def fX2_strength (p0 p1 p2 p3 : Int32) : Option OX2_strength := tk_fin (stX2_strength ) (bX2_strength_0 p0 p1 p2 p3)
theorem fX2_strength_1_eq  : fX2_strength_1  = some 0 := by
  unfold fX2_strength_1
  rw [tk_lp_eq]
  show tk_fin _ (bX2_strength_1 ) = _
  unfold bX2_strength_1
  simp only [tk_fin_t, tk_fin_b, tk_fin_l, tk_fin_n, tk_fin_i, tk_fin_r]
  try rfl
theorem fX2_strength_eq (p0 p1 p2 p3 : Int32) : fX2_strength p0 p1 p2 p3 = if p0 = 0 then (fX2_strength_1 ) else (if p0 = 16 then (fX2_strength_1 ) else (tk_l (p2 - (p3 * (if 0 ≤ p0 - p1 then p0 - p1 else 0 - (p0 - p1)))) (fun y3 => some (if 0 < y3 then y3 else 0)))) := by
  unfold fX2_strength bX2_strength_0
  simp only [tk_fin_t, tk_fin_b, tk_fin_l, tk_fin_n, tk_fin_i, tk_fin_r, fX2_strength_1]
  try rfl
noncomputable def fX2_holds (best top loss : Int32) (numbers : Nat → Int32) (p0 p1 : Int32) : Option (Int32) := (fX2_strength p0 best top loss).bind (fun u1 => (fX2_of numbers 1).bind (fun u2 => some ((1 + u1) + (u2 * p1))))
noncomputable def fX5_holds (wet pack : Nat → Int32) (best top loss : Int32) (numbers : Nat → Int32) (p0 : Int32) : Option (Int32) := if tk_in p0 64 then ((fX2_holds best top loss numbers (wet p0.toNatClampNeg) (pack p0.toNatClampNeg)).bind (fun u2 => some u2)) else none
abbrev VX5_lowest : Type := Int32 × Int32 × Int32
abbrev OX5_lowest : Type := Int32
noncomputable def bX5_lowest_1 (columns rows : Int32) (stone height : Nat → Int32) (x1 x2 x3 : Int32) : Option ((Nat × VX5_lowest) ⊕ OX5_lowest) := if ¬ x2 = 0 then (if (x1 - x1 / x2 * x2) ≤ 0 then (some (.inl (2, (x1, x2, x3)))) else ((fX5_lower stone height x3 (x1 - 1)).bind (fun u5 => some (.inl (2, (x1, x2, u5)))))) else none
noncomputable def bX5_lowest_2 (columns rows : Int32) (stone height : Nat → Int32) (x1 x2 x3 : Int32) : Option ((Nat × VX5_lowest) ⊕ OX5_lowest) := if ¬ x2 = 0 then (if x2 ≤ ((x1 - x1 / x2 * x2) + 1) then (some (.inl (3, (x1, x2, x3)))) else ((fX5_lower stone height x3 (x1 + 1)).bind (fun u8 => some (.inl (3, (x1, x2, u8)))))) else none
noncomputable def bX5_lowest_3 (columns rows : Int32) (stone height : Nat → Int32) (x1 x2 x3 : Int32) : Option ((Nat × VX5_lowest) ⊕ OX5_lowest) := (fX2_cells columns rows).bind (fun u9 => if u9 ≤ (x1 + x2) then (some (.inr x3)) else ((fX5_lower stone height x3 (x1 + x2)).bind (fun u11 => some (.inr u11))))
noncomputable def bX5_lowest_0 (columns rows : Int32) (stone height : Nat → Int32) (p0 : Int32) : Option ((Nat × VX5_lowest) ⊕ OX5_lowest) := if p0 < columns then (some (.inl (1, (p0, columns, (-1))))) else ((fX5_lower stone height (-1) (p0 - columns)).bind (fun u2 => some (.inl (1, (p0, columns, u2)))))
noncomputable def stX5_lowest (columns rows : Int32) (stone height : Nat → Int32) (z : Nat × VX5_lowest) : Option ((Nat × VX5_lowest) ⊕ OX5_lowest) := match z.1 with
  | 1 => bX5_lowest_1 columns rows stone height z.2.1 z.2.2.1 z.2.2.2
  | 2 => bX5_lowest_2 columns rows stone height z.2.1 z.2.2.1 z.2.2.2
  | 3 => bX5_lowest_3 columns rows stone height z.2.1 z.2.2.1 z.2.2.2
  | _ => none
noncomputable def fX5_lowest_1 (columns rows : Int32) (stone height : Nat → Int32) (x1 x2 x3 : Int32) : Option OX5_lowest := tk_lp (stX5_lowest columns rows stone height) (1, (x1, x2, x3))
noncomputable def fX5_lowest_2 (columns rows : Int32) (stone height : Nat → Int32) (x1 x2 x3 : Int32) : Option OX5_lowest := tk_lp (stX5_lowest columns rows stone height) (2, (x1, x2, x3))
noncomputable def fX5_lowest_3 (columns rows : Int32) (stone height : Nat → Int32) (x1 x2 x3 : Int32) : Option OX5_lowest := tk_lp (stX5_lowest columns rows stone height) (3, (x1, x2, x3))
noncomputable def fX5_lowest (columns rows : Int32) (stone height : Nat → Int32) (p0 : Int32) : Option OX5_lowest := tk_fin (stX5_lowest columns rows stone height) (bX5_lowest_0 columns rows stone height p0)
theorem fX5_lowest_1_eq (columns rows : Int32) (stone height : Nat → Int32) (x1 x2 x3 : Int32) : fX5_lowest_1 columns rows stone height x1 x2 x3 = if ¬ x2 = 0 then (if (x1 - x1 / x2 * x2) ≤ 0 then (fX5_lowest_2 columns rows stone height x1 x2 x3) else ((fX5_lower stone height x3 (x1 - 1)).bind (fun u5 => fX5_lowest_2 columns rows stone height x1 x2 u5))) else none := by
  unfold fX5_lowest_1
  rw [tk_lp_eq]
  show tk_fin _ (bX5_lowest_1 columns rows stone height x1 x2 x3) = _
  unfold bX5_lowest_1
  simp only [tk_fin_t, tk_fin_b, tk_fin_l, tk_fin_n, tk_fin_i, tk_fin_r, fX5_lowest_2]
  try rfl
theorem fX5_lowest_2_eq (columns rows : Int32) (stone height : Nat → Int32) (x1 x2 x3 : Int32) : fX5_lowest_2 columns rows stone height x1 x2 x3 = if ¬ x2 = 0 then (if x2 ≤ ((x1 - x1 / x2 * x2) + 1) then (fX5_lowest_3 columns rows stone height x1 x2 x3) else ((fX5_lower stone height x3 (x1 + 1)).bind (fun u8 => fX5_lowest_3 columns rows stone height x1 x2 u8))) else none := by
  unfold fX5_lowest_2
  rw [tk_lp_eq]
  show tk_fin _ (bX5_lowest_2 columns rows stone height x1 x2 x3) = _
  unfold bX5_lowest_2
  simp only [tk_fin_t, tk_fin_b, tk_fin_l, tk_fin_n, tk_fin_i, tk_fin_r, fX5_lowest_3]
  try rfl
theorem fX5_lowest_3_eq (columns rows : Int32) (stone height : Nat → Int32) (x1 x2 x3 : Int32) : fX5_lowest_3 columns rows stone height x1 x2 x3 = (fX2_cells columns rows).bind (fun u9 => if u9 ≤ (x1 + x2) then (some x3) else ((fX5_lower stone height x3 (x1 + x2)).bind (fun u11 => some u11))) := by
  unfold fX5_lowest_3
  rw [tk_lp_eq]
  show tk_fin _ (bX5_lowest_3 columns rows stone height x1 x2 x3) = _
  unfold bX5_lowest_3
  simp only [tk_fin_t, tk_fin_b, tk_fin_l, tk_fin_n, tk_fin_i, tk_fin_r]
  try rfl
theorem fX5_lowest_eq (columns rows : Int32) (stone height : Nat → Int32) (p0 : Int32) : fX5_lowest columns rows stone height p0 = if p0 < columns then (fX5_lowest_1 columns rows stone height p0 columns (-1)) else ((fX5_lower stone height (-1) (p0 - columns)).bind (fun u2 => fX5_lowest_1 columns rows stone height p0 columns u2)) := by
  unfold fX5_lowest bX5_lowest_0
  simp only [tk_fin_t, tk_fin_b, tk_fin_l, tk_fin_n, tk_fin_i, tk_fin_r, fX5_lowest_1]
  try rfl
noncomputable def fX5_act (p0 p1 p2 : Int32) (height stone wet pack : Nat → Int32) : Option ((Nat → Int32) × (Nat → Int32) × (Nat → Int32) × (Nat → Int32)) := if p0 = 0 then (if tk_in p1 64 then (if (height p1.toNatClampNeg) = 0 then (some (height, stone, wet, pack)) else (if (stone p1.toNatClampNeg) = 0 then (if tk_in p2 64 then (if (stone p2.toNatClampNeg) = 0 then ((fX5_go p1 p2 wet height pack).bind (fun u7 => some (u7.2.1, stone, u7.1, upd u7.2.2 p1.toNatClampNeg 0))) else (some (height, stone, wet, pack))) else none) else (some (height, stone, wet, pack)))) else none) else (if p0 = 1 then (if tk_in p1 64 then (tk_l (upd pack p1.toNatClampNeg (if (pack p1.toNatClampNeg) + 1 < 4 then (pack p1.toNatClampNeg) + 1 else 4)) (fun y10 => some (height, stone, wet, y10))) else none) else (if p0 = 2 then (if tk_in p1 64 then (tk_l (upd wet p1.toNatClampNeg (if (wet p1.toNatClampNeg) + 4 < 15 then (wet p1.toNatClampNeg) + 4 else 15)) (fun y13 => some (height, stone, y13, pack))) else none) else (if p0 = 3 then (if tk_in p1 64 then (some (height, upd stone p1.toNatClampNeg 1, wet, pack)) else none) else (some (height, stone, wet, pack)))))
abbrev VX5_sand : Type := Int32 × Int32
abbrev OX5_sand : Type := Int32
noncomputable def bX5_sand_1 (columns rows : Int32) (height : Nat → Int32) (x1 x2 : Int32) : Option ((Nat × VX5_sand) ⊕ OX5_sand) := (fX2_cells columns rows).bind (fun u1 => if u1 ≤ x2 then (some (.inr x1)) else (if tk_in x2 64 then (some (.inl (1, (x1 + (height x2.toNatClampNeg), x2 + 1)))) else none))
noncomputable def bX5_sand_0 (columns rows : Int32) (height : Nat → Int32) : Option ((Nat × VX5_sand) ⊕ OX5_sand) := some (.inl (1, (0, 0)))
noncomputable def stX5_sand (columns rows : Int32) (height : Nat → Int32) (z : Nat × VX5_sand) : Option ((Nat × VX5_sand) ⊕ OX5_sand) := match z.1 with
  | 1 => bX5_sand_1 columns rows height z.2.1 z.2.2
  | _ => none
noncomputable def fX5_sand_1 (columns rows : Int32) (height : Nat → Int32) (x1 x2 : Int32) : Option OX5_sand := tk_lp (stX5_sand columns rows height) (1, (x1, x2))
noncomputable def fX5_sand (columns rows : Int32) (height : Nat → Int32) : Option OX5_sand := tk_fin (stX5_sand columns rows height) (bX5_sand_0 columns rows height)
theorem fX5_sand_1_eq (columns rows : Int32) (height : Nat → Int32) (x1 x2 : Int32) : fX5_sand_1 columns rows height x1 x2 = (fX2_cells columns rows).bind (fun u1 => if u1 ≤ x2 then (some x1) else (if tk_in x2 64 then (fX5_sand_1 columns rows height (x1 + (height x2.toNatClampNeg)) (x2 + 1)) else none)) := by
  unfold fX5_sand_1
  rw [tk_lp_eq]
  show tk_fin _ (bX5_sand_1 columns rows height x1 x2) = _
  unfold bX5_sand_1
  simp only [tk_fin_t, tk_fin_b, tk_fin_l, tk_fin_n, tk_fin_i, tk_fin_r, fX5_sand_1]
  try rfl
theorem fX5_sand_eq (columns rows : Int32) (height : Nat → Int32) : fX5_sand columns rows height = fX5_sand_1 columns rows height 0 0 := by
  unfold fX5_sand bX5_sand_0
  simp only [tk_fin_t, tk_fin_b, tk_fin_l, tk_fin_n, tk_fin_i, tk_fin_r, fX5_sand_1]
  try rfl
abbrev VJ6_fill : Type := Int32 × Int32 × Int32 × (Nat → Int32)
abbrev OJ6_fill : Type := (Nat → Int32)
noncomputable def bJ6_fill_1 (n_p0 : Nat) (x1 x2 x3 : Int32) (p0 : Nat → Int32) : Option ((Nat × VJ6_fill) ⊕ OJ6_fill) := if x3 ≤ x2 then (some (.inr p0)) else (if tk_in x2 n_p0 then (some (.inl (1, (x1, x2 + 1, x3, upd p0 x2.toNatClampNeg x1)))) else none)
noncomputable def bJ6_fill_0 (n_p0 : Nat) (p1 : Int32) (p0 : Nat → Int32) : Option ((Nat × VJ6_fill) ⊕ OJ6_fill) := some (.inl (1, (p1, 0, Int32.ofNat n_p0, p0)))
noncomputable def stJ6_fill (n_p0 : Nat) (z : Nat × VJ6_fill) : Option ((Nat × VJ6_fill) ⊕ OJ6_fill) := match z.1 with
  | 1 => bJ6_fill_1 n_p0 z.2.1 z.2.2.1 z.2.2.2.1 z.2.2.2.2
  | _ => none
noncomputable def fJ6_fill_1 (n_p0 : Nat) (x1 x2 x3 : Int32) (p0 : Nat → Int32) : Option OJ6_fill := tk_lp (stJ6_fill n_p0) (1, (x1, x2, x3, p0))
noncomputable def fJ6_fill (n_p0 : Nat) (p1 : Int32) (p0 : Nat → Int32) : Option OJ6_fill := tk_fin (stJ6_fill n_p0) (bJ6_fill_0 n_p0 p1 p0)
theorem fJ6_fill_1_eq (n_p0 : Nat) (x1 x2 x3 : Int32) (p0 : Nat → Int32) : fJ6_fill_1 n_p0 x1 x2 x3 p0 = if x3 ≤ x2 then (some p0) else (if tk_in x2 n_p0 then (fJ6_fill_1 n_p0 x1 (x2 + 1) x3 (upd p0 x2.toNatClampNeg x1)) else none) := by
  unfold fJ6_fill_1
  rw [tk_lp_eq]
  show tk_fin _ (bJ6_fill_1 n_p0 x1 x2 x3 p0) = _
  unfold bJ6_fill_1
  simp only [tk_fin_t, tk_fin_b, tk_fin_l, tk_fin_n, tk_fin_i, tk_fin_r, fJ6_fill_1]
  try rfl
theorem fJ6_fill_eq (n_p0 : Nat) (p1 : Int32) (p0 : Nat → Int32) : fJ6_fill n_p0 p1 p0 = fJ6_fill_1 n_p0 p1 0 (Int32.ofNat n_p0) p0 := by
  unfold fJ6_fill bJ6_fill_0
  simp only [tk_fin_t, tk_fin_b, tk_fin_l, tk_fin_n, tk_fin_i, tk_fin_r, fJ6_fill_1]
  try rfl
abbrev VJ6_fill_2 : Type := Int32 × Int32 × Int32 × (Nat → Int32)
abbrev OJ6_fill_2 : Type := (Nat → Int32)
noncomputable def bJ6_fill_2_1 (n_p0 : Nat) (x1 x2 x3 : Int32) (p0 : Nat → Int32) : Option ((Nat × VJ6_fill_2) ⊕ OJ6_fill_2) := if x3 ≤ x2 then (some (.inr p0)) else (if tk_in x2 n_p0 then (some (.inl (1, (x1, x2 + 1, x3, upd p0 x2.toNatClampNeg (vp_nar .boolean x1))))) else none)
noncomputable def bJ6_fill_2_0 (n_p0 : Nat) (p1 : Int32) (p0 : Nat → Int32) : Option ((Nat × VJ6_fill_2) ⊕ OJ6_fill_2) := some (.inl (1, (p1, 0, Int32.ofNat n_p0, p0)))
noncomputable def stJ6_fill_2 (n_p0 : Nat) (z : Nat × VJ6_fill_2) : Option ((Nat × VJ6_fill_2) ⊕ OJ6_fill_2) := match z.1 with
  | 1 => bJ6_fill_2_1 n_p0 z.2.1 z.2.2.1 z.2.2.2.1 z.2.2.2.2
  | _ => none
noncomputable def fJ6_fill_2_1 (n_p0 : Nat) (x1 x2 x3 : Int32) (p0 : Nat → Int32) : Option OJ6_fill_2 := tk_lp (stJ6_fill_2 n_p0) (1, (x1, x2, x3, p0))
noncomputable def fJ6_fill_2 (n_p0 : Nat) (p1 : Int32) (p0 : Nat → Int32) : Option OJ6_fill_2 := tk_fin (stJ6_fill_2 n_p0) (bJ6_fill_2_0 n_p0 p1 p0)
theorem fJ6_fill_2_1_eq (n_p0 : Nat) (x1 x2 x3 : Int32) (p0 : Nat → Int32) : fJ6_fill_2_1 n_p0 x1 x2 x3 p0 = if x3 ≤ x2 then (some p0) else (if tk_in x2 n_p0 then (fJ6_fill_2_1 n_p0 x1 (x2 + 1) x3 (upd p0 x2.toNatClampNeg (vp_nar .boolean x1))) else none) := by
  unfold fJ6_fill_2_1
  rw [tk_lp_eq]
  show tk_fin _ (bJ6_fill_2_1 n_p0 x1 x2 x3 p0) = _
  unfold bJ6_fill_2_1
  simp only [tk_fin_t, tk_fin_b, tk_fin_l, tk_fin_n, tk_fin_i, tk_fin_r, fJ6_fill_2_1]
  try rfl
theorem fJ6_fill_2_eq (n_p0 : Nat) (p1 : Int32) (p0 : Nat → Int32) : fJ6_fill_2 n_p0 p1 p0 = fJ6_fill_2_1 n_p0 p1 0 (Int32.ofNat n_p0) p0 := by
  unfold fJ6_fill_2 bJ6_fill_2_0
  simp only [tk_fin_t, tk_fin_b, tk_fin_l, tk_fin_n, tk_fin_i, tk_fin_r, fJ6_fill_2_1]
  try rfl
noncomputable def fX5_hold (p0 plan : Int32) (nextAct done isResting : Nat → Int32) : Option (Int32 × (Nat → Int32) × (Nat → Int32) × (Nat → Int32)) := (fJ6_fill 4 0 nextAct).bind (fun u1 => (fJ6_fill 4 0 done).bind (fun u2 => (fJ6_fill_2 4 0 isResting).bind (fun u3 => some (p0, u1, u2, u3))))
abbrev VX5_sun : Type := Int32 × Int32 × Int32 × Int32 × Int32 × (Nat → Int32)
abbrev OX5_sun : Type := (Nat → Int32)
noncomputable def bX5_sun_1 (minute columns rows : Int32) (numbers height : Nat → Int32) (x1 : Int32) (wet : Nat → Int32) : Option ((Nat × VX5_sun) ⊕ OX5_sun) := (fX2_cells columns rows).bind (fun u4 => if u4 ≤ x1 then (some (.inr wet)) else (if tk_in x1 64 then (if (height x1.toNatClampNeg) < 10 then (some (.inl (2, (x1, x1, 0, wet x1.toNatClampNeg, 1, wet)))) else (some (.inl (2, (x1, x1, 0, wet x1.toNatClampNeg, 2, wet))))) else none))
noncomputable def bX5_sun_2 (minute columns rows : Int32) (numbers height : Nat → Int32) (x1 s1 s2 s3 s4 : Int32) (wet : Nat → Int32) : Option ((Nat × VX5_sun) ⊕ OX5_sun) := if tk_in s1 64 then (some (.inl (1, (x1 + 1, 0, 0, 0, 0, upd wet s1.toNatClampNeg (if s2 < s3 - s4 then s3 - s4 else s2))))) else none
noncomputable def bX5_sun_0 (minute columns rows : Int32) (numbers height wet : Nat → Int32) : Option ((Nat × VX5_sun) ⊕ OX5_sun) := (fX2_of numbers 2).bind (fun u1 => if ¬ u1 = 0 then (if ((minute + 1) - (minute + 1) / u1 * u1) = 0 then (some (.inl (1, (columns, 0, 0, 0, 0, wet)))) else (some (.inr wet))) else none)
noncomputable def stX5_sun (minute columns rows : Int32) (numbers height : Nat → Int32) (z : Nat × VX5_sun) : Option ((Nat × VX5_sun) ⊕ OX5_sun) := match z.1 with
  | 1 => bX5_sun_1 minute columns rows numbers height z.2.1 z.2.2.2.2.2.2
  | 2 => bX5_sun_2 minute columns rows numbers height z.2.1 z.2.2.1 z.2.2.2.1 z.2.2.2.2.1 z.2.2.2.2.2.1 z.2.2.2.2.2.2
  | _ => none
noncomputable def fX5_sun_1 (minute columns rows : Int32) (numbers height : Nat → Int32) (x1 : Int32) (wet : Nat → Int32) : Option OX5_sun := tk_lp (stX5_sun minute columns rows numbers height) (1, (x1, 0, 0, 0, 0, wet))
noncomputable def fX5_sun_2 (minute columns rows : Int32) (numbers height : Nat → Int32) (x1 s1 s2 s3 s4 : Int32) (wet : Nat → Int32) : Option OX5_sun := tk_lp (stX5_sun minute columns rows numbers height) (2, (x1, s1, s2, s3, s4, wet))
noncomputable def fX5_sun (minute columns rows : Int32) (numbers height wet : Nat → Int32) : Option OX5_sun := tk_fin (stX5_sun minute columns rows numbers height) (bX5_sun_0 minute columns rows numbers height wet)
theorem fX5_sun_1_eq (minute columns rows : Int32) (numbers height : Nat → Int32) (x1 : Int32) (wet : Nat → Int32) : fX5_sun_1 minute columns rows numbers height x1 wet = (fX2_cells columns rows).bind (fun u4 => if u4 ≤ x1 then (some wet) else (if tk_in x1 64 then (if (height x1.toNatClampNeg) < 10 then (fX5_sun_2 minute columns rows numbers height x1 x1 0 (wet x1.toNatClampNeg) 1 wet) else (fX5_sun_2 minute columns rows numbers height x1 x1 0 (wet x1.toNatClampNeg) 2 wet)) else none)) := by
  unfold fX5_sun_1
  rw [tk_lp_eq]
  show tk_fin _ (bX5_sun_1 minute columns rows numbers height x1 wet) = _
  unfold bX5_sun_1
  simp only [tk_fin_t, tk_fin_b, tk_fin_l, tk_fin_n, tk_fin_i, tk_fin_r, fX5_sun_2]
  try rfl
theorem fX5_sun_2_eq (minute columns rows : Int32) (numbers height : Nat → Int32) (x1 s1 s2 s3 s4 : Int32) (wet : Nat → Int32) : fX5_sun_2 minute columns rows numbers height x1 s1 s2 s3 s4 wet = if tk_in s1 64 then (fX5_sun_1 minute columns rows numbers height (x1 + 1) (upd wet s1.toNatClampNeg (if s2 < s3 - s4 then s3 - s4 else s2))) else none := by
  unfold fX5_sun_2
  rw [tk_lp_eq]
  show tk_fin _ (bX5_sun_2 minute columns rows numbers height x1 s1 s2 s3 s4 wet) = _
  unfold bX5_sun_2
  simp only [tk_fin_t, tk_fin_b, tk_fin_l, tk_fin_n, tk_fin_i, tk_fin_r, fX5_sun_1]
  try rfl
theorem fX5_sun_eq (minute columns rows : Int32) (numbers height wet : Nat → Int32) : fX5_sun minute columns rows numbers height wet = (fX2_of numbers 2).bind (fun u1 => if ¬ u1 = 0 then (if ((minute + 1) - (minute + 1) / u1 * u1) = 0 then (fX5_sun_1 minute columns rows numbers height columns wet) else (some wet)) else none) := by
  unfold fX5_sun bX5_sun_0
  simp only [tk_fin_t, tk_fin_b, tk_fin_l, tk_fin_n, tk_fin_i, tk_fin_r, fX5_sun_1]
  try rfl
abbrev VX5_run : Type := Int32 × Int32 × Int32 × Int32 × Int32 × (Nat → Int32) × (Nat → Int32)
abbrev OX5_run : Type := Int32 × (Nat → Int32) × (Nat → Int32)
noncomputable def bX5_run_1 (columns rows : Int32) (stone : Nat → Int32) (cut x1 x2 x3 x4 v_lost : Int32) (wet height : Nat → Int32) : Option ((Nat × VX5_run) ⊕ OX5_run) := if x2 ≤ x4 then (some (.inr (v_lost, wet, height))) else (if tk_in ((columns * x4) + x1) 64 then (if (stone ((columns * x4) + x1).toNatClampNeg) = 0 then (if x3 < (height ((columns * x4) + x1).toNatClampNeg) then (tk_l (height ((columns * x4) + x1).toNatClampNeg) (fun y5 => tk_l (upd height ((columns * x4) + x1).toNatClampNeg ((height ((columns * x4) + x1).toNatClampNeg) - (if y5 < cut then y5 else cut))) (fun y6 => some (.inr (v_lost + (if y5 < cut then y5 else cut), upd wet ((columns * x4) + x1).toNatClampNeg 16, y6))))) else (some (.inl (1, (x1, x2, x3, x4 + 1, v_lost, upd wet ((columns * x4) + x1).toNatClampNeg 16, height))))) else (if rows ≤ (x4 + 1) then (some (.inr (v_lost, wet, height))) else (if tk_in (((columns * x4) + x1) + columns) 64 then (some (.inr (v_lost, upd wet (((columns * x4) + x1) + columns).toNatClampNeg 16, height))) else none))) else none)
noncomputable def bX5_run_0 (columns rows : Int32) (stone : Nat → Int32) (cut p0 p1 p2 v_lost : Int32) (wet height : Nat → Int32) : Option ((Nat × VX5_run) ⊕ OX5_run) := some (.inl (1, (p0, p1, p2, 0, v_lost, wet, height)))
noncomputable def stX5_run (columns rows : Int32) (stone : Nat → Int32) (cut : Int32) (z : Nat × VX5_run) : Option ((Nat × VX5_run) ⊕ OX5_run) := match z.1 with
  | 1 => bX5_run_1 columns rows stone cut z.2.1 z.2.2.1 z.2.2.2.1 z.2.2.2.2.1 z.2.2.2.2.2.1 z.2.2.2.2.2.2.1 z.2.2.2.2.2.2.2
  | _ => none
noncomputable def fX5_run_1 (columns rows : Int32) (stone : Nat → Int32) (cut x1 x2 x3 x4 v_lost : Int32) (wet height : Nat → Int32) : Option OX5_run := tk_lp (stX5_run columns rows stone cut) (1, (x1, x2, x3, x4, v_lost, wet, height))
noncomputable def fX5_run (columns rows : Int32) (stone : Nat → Int32) (cut p0 p1 p2 v_lost : Int32) (wet height : Nat → Int32) : Option OX5_run := tk_fin (stX5_run columns rows stone cut) (bX5_run_0 columns rows stone cut p0 p1 p2 v_lost wet height)
theorem fX5_run_1_eq (columns rows : Int32) (stone : Nat → Int32) (cut x1 x2 x3 x4 v_lost : Int32) (wet height : Nat → Int32) : fX5_run_1 columns rows stone cut x1 x2 x3 x4 v_lost wet height = if x2 ≤ x4 then (some (v_lost, wet, height)) else (if tk_in ((columns * x4) + x1) 64 then (if (stone ((columns * x4) + x1).toNatClampNeg) = 0 then (if x3 < (height ((columns * x4) + x1).toNatClampNeg) then (tk_l (height ((columns * x4) + x1).toNatClampNeg) (fun y5 => tk_l (upd height ((columns * x4) + x1).toNatClampNeg ((height ((columns * x4) + x1).toNatClampNeg) - (if y5 < cut then y5 else cut))) (fun y6 => some (v_lost + (if y5 < cut then y5 else cut), upd wet ((columns * x4) + x1).toNatClampNeg 16, y6)))) else (fX5_run_1 columns rows stone cut x1 x2 x3 (x4 + 1) v_lost (upd wet ((columns * x4) + x1).toNatClampNeg 16) height)) else (if rows ≤ (x4 + 1) then (some (v_lost, wet, height)) else (if tk_in (((columns * x4) + x1) + columns) 64 then (some (v_lost, upd wet (((columns * x4) + x1) + columns).toNatClampNeg 16, height)) else none))) else none) := by
  unfold fX5_run_1
  rw [tk_lp_eq]
  show tk_fin _ (bX5_run_1 columns rows stone cut x1 x2 x3 x4 v_lost wet height) = _
  unfold bX5_run_1
  simp only [tk_fin_t, tk_fin_b, tk_fin_l, tk_fin_n, tk_fin_i, tk_fin_r, fX5_run_1]
  try rfl
theorem fX5_run_eq (columns rows : Int32) (stone : Nat → Int32) (cut p0 p1 p2 v_lost : Int32) (wet height : Nat → Int32) : fX5_run columns rows stone cut p0 p1 p2 v_lost wet height = fX5_run_1 columns rows stone cut p0 p1 p2 0 v_lost wet height := by
  unfold fX5_run bX5_run_0
  simp only [tk_fin_t, tk_fin_b, tk_fin_l, tk_fin_n, tk_fin_i, tk_fin_r, fX5_run_1]
  try rfl
abbrev VX5_wave : Type := Int32 × Int32 × Int32 × Int32 × Int32 × (Nat → Int32) × (Nat → Int32)
abbrev OX5_wave : Type := Int32 × Int32 × (Nat → Int32) × (Nat → Int32)
noncomputable def bX5_wave_1 (columns rows : Int32) (stone : Nat → Int32) (cut x1 x2 x3 v_lost came : Int32) (wet height : Nat → Int32) : Option ((Nat × VX5_wave) ⊕ OX5_wave) := if columns ≤ x3 then (some (.inr (v_lost, came, wet, height))) else ((fX5_run columns rows stone cut x3 (if rows < x1 then rows else x1) x2 v_lost wet height).bind (fun u2 => some (.inl (1, (x1, x2, x3 + 1, u2.1, came, u2.2.1, u2.2.2)))))
noncomputable def bX5_wave_0 (columns rows : Int32) (stone : Nat → Int32) (cut p0 p1 v_lost came : Int32) (wet height : Nat → Int32) : Option ((Nat × VX5_wave) ⊕ OX5_wave) := some (.inl (1, (p0, p1, 0, v_lost, came + 1, wet, height)))
noncomputable def stX5_wave (columns rows : Int32) (stone : Nat → Int32) (cut : Int32) (z : Nat × VX5_wave) : Option ((Nat × VX5_wave) ⊕ OX5_wave) := match z.1 with
  | 1 => bX5_wave_1 columns rows stone cut z.2.1 z.2.2.1 z.2.2.2.1 z.2.2.2.2.1 z.2.2.2.2.2.1 z.2.2.2.2.2.2.1 z.2.2.2.2.2.2.2
  | _ => none
noncomputable def fX5_wave_1 (columns rows : Int32) (stone : Nat → Int32) (cut x1 x2 x3 v_lost came : Int32) (wet height : Nat → Int32) : Option OX5_wave := tk_lp (stX5_wave columns rows stone cut) (1, (x1, x2, x3, v_lost, came, wet, height))
noncomputable def fX5_wave (columns rows : Int32) (stone : Nat → Int32) (cut p0 p1 v_lost came : Int32) (wet height : Nat → Int32) : Option OX5_wave := tk_fin (stX5_wave columns rows stone cut) (bX5_wave_0 columns rows stone cut p0 p1 v_lost came wet height)
theorem fX5_wave_1_eq (columns rows : Int32) (stone : Nat → Int32) (cut x1 x2 x3 v_lost came : Int32) (wet height : Nat → Int32) : fX5_wave_1 columns rows stone cut x1 x2 x3 v_lost came wet height = if columns ≤ x3 then (some (v_lost, came, wet, height)) else ((fX5_run columns rows stone cut x3 (if rows < x1 then rows else x1) x2 v_lost wet height).bind (fun u2 => fX5_wave_1 columns rows stone cut x1 x2 (x3 + 1) u2.1 came u2.2.1 u2.2.2)) := by
  unfold fX5_wave_1
  rw [tk_lp_eq]
  show tk_fin _ (bX5_wave_1 columns rows stone cut x1 x2 x3 v_lost came wet height) = _
  unfold bX5_wave_1
  simp only [tk_fin_t, tk_fin_b, tk_fin_l, tk_fin_n, tk_fin_i, tk_fin_r, fX5_wave_1]
  try rfl
theorem fX5_wave_eq (columns rows : Int32) (stone : Nat → Int32) (cut p0 p1 v_lost came : Int32) (wet height : Nat → Int32) : fX5_wave columns rows stone cut p0 p1 v_lost came wet height = fX5_wave_1 columns rows stone cut p0 p1 0 v_lost (came + 1) wet height := by
  unfold fX5_wave bX5_wave_0
  simp only [tk_fin_t, tk_fin_b, tk_fin_l, tk_fin_n, tk_fin_i, tk_fin_r, fX5_wave_1]
  try rfl
abbrev VX5_lookAtFlags : Type := Int32 × (Nat → Int32)
abbrev OX5_lookAtFlags : Type := (Nat → Int32)
noncomputable def bX5_lookAtFlags_1 (minute flags : Int32) (flagCell height putUp numbers : Nat → Int32) (x1 : Int32) (fell : Nat → Int32) : Option ((Nat × VX5_lookAtFlags) ⊕ OX5_lookAtFlags) := if flags ≤ x1 then (some (.inr fell)) else (if tk_in x1 3 then (if (fell x1.toNatClampNeg) = (-1) then (if tk_in (flagCell x1.toNatClampNeg) 64 then ((fX2_of numbers 4).bind (fun u5 => if ((putUp x1.toNatClampNeg) - u5) ≤ (height (flagCell x1.toNatClampNeg).toNatClampNeg) then (some (.inl (1, (x1 + 1, fell)))) else (some (.inl (1, (x1 + 1, upd fell x1.toNatClampNeg minute)))))) else none) else (some (.inl (1, (x1 + 1, fell))))) else none)
noncomputable def bX5_lookAtFlags_0 (minute flags : Int32) (flagCell height putUp numbers fell : Nat → Int32) : Option ((Nat × VX5_lookAtFlags) ⊕ OX5_lookAtFlags) := some (.inl (1, (0, fell)))
noncomputable def stX5_lookAtFlags (minute flags : Int32) (flagCell height putUp numbers : Nat → Int32) (z : Nat × VX5_lookAtFlags) : Option ((Nat × VX5_lookAtFlags) ⊕ OX5_lookAtFlags) := match z.1 with
  | 1 => bX5_lookAtFlags_1 minute flags flagCell height putUp numbers z.2.1 z.2.2
  | _ => none
noncomputable def fX5_lookAtFlags_1 (minute flags : Int32) (flagCell height putUp numbers : Nat → Int32) (x1 : Int32) (fell : Nat → Int32) : Option OX5_lookAtFlags := tk_lp (stX5_lookAtFlags minute flags flagCell height putUp numbers) (1, (x1, fell))
noncomputable def fX5_lookAtFlags (minute flags : Int32) (flagCell height putUp numbers fell : Nat → Int32) : Option OX5_lookAtFlags := tk_fin (stX5_lookAtFlags minute flags flagCell height putUp numbers) (bX5_lookAtFlags_0 minute flags flagCell height putUp numbers fell)
theorem fX5_lookAtFlags_1_eq (minute flags : Int32) (flagCell height putUp numbers : Nat → Int32) (x1 : Int32) (fell : Nat → Int32) : fX5_lookAtFlags_1 minute flags flagCell height putUp numbers x1 fell = if flags ≤ x1 then (some fell) else (if tk_in x1 3 then (if (fell x1.toNatClampNeg) = (-1) then (if tk_in (flagCell x1.toNatClampNeg) 64 then ((fX2_of numbers 4).bind (fun u5 => if ((putUp x1.toNatClampNeg) - u5) ≤ (height (flagCell x1.toNatClampNeg).toNatClampNeg) then (fX5_lookAtFlags_1 minute flags flagCell height putUp numbers (x1 + 1) fell) else (fX5_lookAtFlags_1 minute flags flagCell height putUp numbers (x1 + 1) (upd fell x1.toNatClampNeg minute)))) else none) else (fX5_lookAtFlags_1 minute flags flagCell height putUp numbers (x1 + 1) fell)) else none) := by
  unfold fX5_lookAtFlags_1
  rw [tk_lp_eq]
  show tk_fin _ (bX5_lookAtFlags_1 minute flags flagCell height putUp numbers x1 fell) = _
  unfold bX5_lookAtFlags_1
  simp only [tk_fin_t, tk_fin_b, tk_fin_l, tk_fin_n, tk_fin_i, tk_fin_r, fX5_lookAtFlags_1]
  try rfl
theorem fX5_lookAtFlags_eq (minute flags : Int32) (flagCell height putUp numbers fell : Nat → Int32) : fX5_lookAtFlags minute flags flagCell height putUp numbers fell = fX5_lookAtFlags_1 minute flags flagCell height putUp numbers 0 fell := by
  unfold fX5_lookAtFlags bX5_lookAtFlags_0
  simp only [tk_fin_t, tk_fin_b, tk_fin_l, tk_fin_n, tk_fin_i, tk_fin_r, fX5_lookAtFlags_1]
  try rfl
abbrev VX5_slides : Type := Int32 × Int32 × Int32 × Int32 × Int32 × Int32 × Int32 × Int32 × Int32 × (Nat → Int32) × (Nat → Int32) × (Nat → Int32)
abbrev OX5_slides : Type := Int32 × Int32 × Int32 × (Nat → Int32) × (Nat → Int32) × (Nat → Int32)
noncomputable def bX5_slides_1 (columns rows best top loss : Int32) (stone numbers : Nat → Int32) (x1 x2 slid slidNow rounds : Int32) (height wet pack : Nat → Int32) : Option ((Nat × VX5_slides) ⊕ OX5_slides) := if 50 ≤ x2 then (some (.inl (5, (0, 0, 0, 0, 0, 0, slid, slidNow, rounds, height, wet, pack)))) else (if x1 = 0 then (some (.inl (5, (0, 0, 0, 0, 0, 0, slid, slidNow, rounds, height, wet, pack)))) else (some (.inl (2, (0, x2, 0, 0, 0, 0, slid, slidNow, rounds, height, wet, pack)))))
noncomputable def bX5_slides_2 (columns rows best top loss : Int32) (stone numbers : Nat → Int32) (x1 x2 x3 slid slidNow rounds : Int32) (height wet pack : Nat → Int32) : Option ((Nat × VX5_slides) ⊕ OX5_slides) := (fX2_cells columns rows).bind (fun u3 => if u3 ≤ x3 then (if x1 = 0 then (some (.inl (4, (x1, x2, 0, 0, rounds, 0, slid, slidNow, rounds, height, wet, pack)))) else (some (.inl (4, (x1, x2, 0, 0, rounds, 1, slid, slidNow, rounds, height, wet, pack))))) else (if tk_in x3 64 then (if (stone x3.toNatClampNeg) = 0 then ((fX5_lowest columns rows stone height x3).bind (fun u8 => some (.inl (3, (x1, x2, x3, u8, 0, 0, slid, slidNow, rounds, height, wet, pack))))) else (some (.inl (3, (x1, x2, x3, (-1), 0, 0, slid, slidNow, rounds, height, wet, pack))))) else none))
noncomputable def bX5_slides_3 (columns rows best top loss : Int32) (stone numbers : Nat → Int32) (x1 x2 x3 s0 slid slidNow rounds : Int32) (height wet pack : Nat → Int32) : Option ((Nat × VX5_slides) ⊕ OX5_slides) := if s0 = (-1) then (some (.inl (2, (x1, x2, x3 + 1, 0, 0, 0, slid, slidNow, rounds, height, wet, pack)))) else (if tk_in x3 64 then (if tk_in s0 64 then ((fX5_holds wet pack best top loss numbers x3).bind (fun u12 => if u12 < ((height x3.toNatClampNeg) - (height s0.toNatClampNeg)) then ((fX5_go x3 s0 wet height pack).bind (fun u14 => some (.inl (2, (1, x2, x3 + 1, 0, 0, 0, slid, slidNow + 1, rounds, u14.2.1, u14.1, u14.2.2))))) else (some (.inl (2, (x1, x2, x3 + 1, 0, 0, 0, slid, slidNow, rounds, height, wet, pack)))))) else none) else none)
noncomputable def bX5_slides_4 (columns rows best top loss : Int32) (stone numbers : Nat → Int32) (x1 x2 s1 s2 slid slidNow rounds : Int32) (height wet pack : Nat → Int32) : Option ((Nat × VX5_slides) ⊕ OX5_slides) := some (.inl (1, (x1, x2 + 1, 0, 0, 0, 0, slid, slidNow, s1 + s2, height, wet, pack)))
noncomputable def bX5_slides_5 (columns rows best top loss : Int32) (stone numbers : Nat → Int32) (slid slidNow rounds : Int32) (height wet pack : Nat → Int32) : Option ((Nat × VX5_slides) ⊕ OX5_slides) := some (.inr (slid + slidNow, slidNow, rounds, height, wet, pack))
noncomputable def bX5_slides_0 (columns rows best top loss : Int32) (stone numbers : Nat → Int32) (slid slidNow rounds : Int32) (height wet pack : Nat → Int32) : Option ((Nat × VX5_slides) ⊕ OX5_slides) := some (.inl (1, (1, 0, 0, 0, 0, 0, slid, 0, 0, height, wet, pack)))
noncomputable def stX5_slides (columns rows best top loss : Int32) (stone numbers : Nat → Int32) (z : Nat × VX5_slides) : Option ((Nat × VX5_slides) ⊕ OX5_slides) := match z.1 with
  | 1 => bX5_slides_1 columns rows best top loss stone numbers z.2.1 z.2.2.1 z.2.2.2.2.2.2.2.1 z.2.2.2.2.2.2.2.2.1 z.2.2.2.2.2.2.2.2.2.1 z.2.2.2.2.2.2.2.2.2.2.1 z.2.2.2.2.2.2.2.2.2.2.2.1 z.2.2.2.2.2.2.2.2.2.2.2.2
  | 2 => bX5_slides_2 columns rows best top loss stone numbers z.2.1 z.2.2.1 z.2.2.2.1 z.2.2.2.2.2.2.2.1 z.2.2.2.2.2.2.2.2.1 z.2.2.2.2.2.2.2.2.2.1 z.2.2.2.2.2.2.2.2.2.2.1 z.2.2.2.2.2.2.2.2.2.2.2.1 z.2.2.2.2.2.2.2.2.2.2.2.2
  | 3 => bX5_slides_3 columns rows best top loss stone numbers z.2.1 z.2.2.1 z.2.2.2.1 z.2.2.2.2.1 z.2.2.2.2.2.2.2.1 z.2.2.2.2.2.2.2.2.1 z.2.2.2.2.2.2.2.2.2.1 z.2.2.2.2.2.2.2.2.2.2.1 z.2.2.2.2.2.2.2.2.2.2.2.1 z.2.2.2.2.2.2.2.2.2.2.2.2
  | 4 => bX5_slides_4 columns rows best top loss stone numbers z.2.1 z.2.2.1 z.2.2.2.2.2.1 z.2.2.2.2.2.2.1 z.2.2.2.2.2.2.2.1 z.2.2.2.2.2.2.2.2.1 z.2.2.2.2.2.2.2.2.2.1 z.2.2.2.2.2.2.2.2.2.2.1 z.2.2.2.2.2.2.2.2.2.2.2.1 z.2.2.2.2.2.2.2.2.2.2.2.2
  | 5 => bX5_slides_5 columns rows best top loss stone numbers z.2.2.2.2.2.2.2.1 z.2.2.2.2.2.2.2.2.1 z.2.2.2.2.2.2.2.2.2.1 z.2.2.2.2.2.2.2.2.2.2.1 z.2.2.2.2.2.2.2.2.2.2.2.1 z.2.2.2.2.2.2.2.2.2.2.2.2
  | _ => none
noncomputable def fX5_slides_1 (columns rows best top loss : Int32) (stone numbers : Nat → Int32) (x1 x2 slid slidNow rounds : Int32) (height wet pack : Nat → Int32) : Option OX5_slides := tk_lp (stX5_slides columns rows best top loss stone numbers) (1, (x1, x2, 0, 0, 0, 0, slid, slidNow, rounds, height, wet, pack))
noncomputable def fX5_slides_2 (columns rows best top loss : Int32) (stone numbers : Nat → Int32) (x1 x2 x3 slid slidNow rounds : Int32) (height wet pack : Nat → Int32) : Option OX5_slides := tk_lp (stX5_slides columns rows best top loss stone numbers) (2, (x1, x2, x3, 0, 0, 0, slid, slidNow, rounds, height, wet, pack))
noncomputable def fX5_slides_3 (columns rows best top loss : Int32) (stone numbers : Nat → Int32) (x1 x2 x3 s0 slid slidNow rounds : Int32) (height wet pack : Nat → Int32) : Option OX5_slides := tk_lp (stX5_slides columns rows best top loss stone numbers) (3, (x1, x2, x3, s0, 0, 0, slid, slidNow, rounds, height, wet, pack))
noncomputable def fX5_slides_4 (columns rows best top loss : Int32) (stone numbers : Nat → Int32) (x1 x2 s1 s2 slid slidNow rounds : Int32) (height wet pack : Nat → Int32) : Option OX5_slides := tk_lp (stX5_slides columns rows best top loss stone numbers) (4, (x1, x2, 0, 0, s1, s2, slid, slidNow, rounds, height, wet, pack))
noncomputable def fX5_slides_5 (columns rows best top loss : Int32) (stone numbers : Nat → Int32) (slid slidNow rounds : Int32) (height wet pack : Nat → Int32) : Option OX5_slides := tk_lp (stX5_slides columns rows best top loss stone numbers) (5, (0, 0, 0, 0, 0, 0, slid, slidNow, rounds, height, wet, pack))
noncomputable def fX5_slides (columns rows best top loss : Int32) (stone numbers : Nat → Int32) (slid slidNow rounds : Int32) (height wet pack : Nat → Int32) : Option OX5_slides := tk_fin (stX5_slides columns rows best top loss stone numbers) (bX5_slides_0 columns rows best top loss stone numbers slid slidNow rounds height wet pack)
theorem fX5_slides_1_eq (columns rows best top loss : Int32) (stone numbers : Nat → Int32) (x1 x2 slid slidNow rounds : Int32) (height wet pack : Nat → Int32) : fX5_slides_1 columns rows best top loss stone numbers x1 x2 slid slidNow rounds height wet pack = if 50 ≤ x2 then (fX5_slides_5 columns rows best top loss stone numbers slid slidNow rounds height wet pack) else (if x1 = 0 then (fX5_slides_5 columns rows best top loss stone numbers slid slidNow rounds height wet pack) else (fX5_slides_2 columns rows best top loss stone numbers 0 x2 0 slid slidNow rounds height wet pack)) := by
  unfold fX5_slides_1
  rw [tk_lp_eq]
  show tk_fin _ (bX5_slides_1 columns rows best top loss stone numbers x1 x2 slid slidNow rounds height wet pack) = _
  unfold bX5_slides_1
  simp only [tk_fin_t, tk_fin_b, tk_fin_l, tk_fin_n, tk_fin_i, tk_fin_r, fX5_slides_2, fX5_slides_5]
  try rfl
theorem fX5_slides_2_eq (columns rows best top loss : Int32) (stone numbers : Nat → Int32) (x1 x2 x3 slid slidNow rounds : Int32) (height wet pack : Nat → Int32) : fX5_slides_2 columns rows best top loss stone numbers x1 x2 x3 slid slidNow rounds height wet pack = (fX2_cells columns rows).bind (fun u3 => if u3 ≤ x3 then (if x1 = 0 then (fX5_slides_4 columns rows best top loss stone numbers x1 x2 rounds 0 slid slidNow rounds height wet pack) else (fX5_slides_4 columns rows best top loss stone numbers x1 x2 rounds 1 slid slidNow rounds height wet pack)) else (if tk_in x3 64 then (if (stone x3.toNatClampNeg) = 0 then ((fX5_lowest columns rows stone height x3).bind (fun u8 => fX5_slides_3 columns rows best top loss stone numbers x1 x2 x3 u8 slid slidNow rounds height wet pack)) else (fX5_slides_3 columns rows best top loss stone numbers x1 x2 x3 (-1) slid slidNow rounds height wet pack)) else none)) := by
  unfold fX5_slides_2
  rw [tk_lp_eq]
  show tk_fin _ (bX5_slides_2 columns rows best top loss stone numbers x1 x2 x3 slid slidNow rounds height wet pack) = _
  unfold bX5_slides_2
  simp only [tk_fin_t, tk_fin_b, tk_fin_l, tk_fin_n, tk_fin_i, tk_fin_r, fX5_slides_3, fX5_slides_4]
  try rfl
theorem fX5_slides_3_eq (columns rows best top loss : Int32) (stone numbers : Nat → Int32) (x1 x2 x3 s0 slid slidNow rounds : Int32) (height wet pack : Nat → Int32) : fX5_slides_3 columns rows best top loss stone numbers x1 x2 x3 s0 slid slidNow rounds height wet pack = if s0 = (-1) then (fX5_slides_2 columns rows best top loss stone numbers x1 x2 (x3 + 1) slid slidNow rounds height wet pack) else (if tk_in x3 64 then (if tk_in s0 64 then ((fX5_holds wet pack best top loss numbers x3).bind (fun u12 => if u12 < ((height x3.toNatClampNeg) - (height s0.toNatClampNeg)) then ((fX5_go x3 s0 wet height pack).bind (fun u14 => fX5_slides_2 columns rows best top loss stone numbers 1 x2 (x3 + 1) slid (slidNow + 1) rounds u14.2.1 u14.1 u14.2.2)) else (fX5_slides_2 columns rows best top loss stone numbers x1 x2 (x3 + 1) slid slidNow rounds height wet pack))) else none) else none) := by
  unfold fX5_slides_3
  rw [tk_lp_eq]
  show tk_fin _ (bX5_slides_3 columns rows best top loss stone numbers x1 x2 x3 s0 slid slidNow rounds height wet pack) = _
  unfold bX5_slides_3
  simp only [tk_fin_t, tk_fin_b, tk_fin_l, tk_fin_n, tk_fin_i, tk_fin_r, fX5_slides_2]
  try rfl
theorem fX5_slides_4_eq (columns rows best top loss : Int32) (stone numbers : Nat → Int32) (x1 x2 s1 s2 slid slidNow rounds : Int32) (height wet pack : Nat → Int32) : fX5_slides_4 columns rows best top loss stone numbers x1 x2 s1 s2 slid slidNow rounds height wet pack = fX5_slides_1 columns rows best top loss stone numbers x1 (x2 + 1) slid slidNow (s1 + s2) height wet pack := by
  unfold fX5_slides_4
  rw [tk_lp_eq]
  show tk_fin _ (bX5_slides_4 columns rows best top loss stone numbers x1 x2 s1 s2 slid slidNow rounds height wet pack) = _
  unfold bX5_slides_4
  simp only [tk_fin_t, tk_fin_b, tk_fin_l, tk_fin_n, tk_fin_i, tk_fin_r, fX5_slides_1]
  try rfl
theorem fX5_slides_5_eq (columns rows best top loss : Int32) (stone numbers : Nat → Int32) (slid slidNow rounds : Int32) (height wet pack : Nat → Int32) : fX5_slides_5 columns rows best top loss stone numbers slid slidNow rounds height wet pack = some (slid + slidNow, slidNow, rounds, height, wet, pack) := by
  unfold fX5_slides_5
  rw [tk_lp_eq]
  show tk_fin _ (bX5_slides_5 columns rows best top loss stone numbers slid slidNow rounds height wet pack) = _
  unfold bX5_slides_5
  simp only [tk_fin_t, tk_fin_b, tk_fin_l, tk_fin_n, tk_fin_i, tk_fin_r]
  try rfl
theorem fX5_slides_eq (columns rows best top loss : Int32) (stone numbers : Nat → Int32) (slid slidNow rounds : Int32) (height wet pack : Nat → Int32) : fX5_slides columns rows best top loss stone numbers slid slidNow rounds height wet pack = fX5_slides_1 columns rows best top loss stone numbers 1 0 slid 0 0 height wet pack := by
  unfold fX5_slides bX5_slides_0
  simp only [tk_fin_t, tk_fin_b, tk_fin_l, tk_fin_n, tk_fin_i, tk_fin_r, fX5_slides_1]
  try rfl
abbrev VX5_begin : Type := Int32 × Int32 × Int32 × Int32 × Int32 × Int32 × Int32 × Int32 × Int32 × Int32 × (Nat → Int32) × (Nat → Int32) × (Nat → Int32) × (Nat → Int32) × (Nat → Int32) × (Nat → Int32) × (Nat → Int32) × (Nat → Int32) × (Nat → Int32)
abbrev OX5_begin : Type := Int32 × Int32 × Int32 × Int32 × Int32 × Int32 × Int32 × (Nat → Int32) × (Nat → Int32) × (Nat → Int32) × (Nat → Int32) × (Nat → Int32) × (Nat → Int32) × (Nat → Int32) × (Nat → Int32) × (Nat → Int32)
noncomputable def bX5_begin_1 (columns rows flags : Int32) (numbers heaps flagCell stones : Nat → Int32) (x1 minute v_lost slid slidNow rounds came plan : Int32) (nextAct done isResting height putUp fell wet pack stone : Nat → Int32) : Option ((Nat × VX5_begin) ⊕ OX5_begin) := if 64 ≤ x1 then (some (.inl (3, (0, 0, 0, minute, v_lost, slid, slidNow, rounds, came, plan, nextAct, done, isResting, height, putUp, fell, wet, pack, stone)))) else ((fX2_cells columns rows).bind (fun u2 => if u2 ≤ x1 then (some (.inl (2, (x1, x1, 0, minute, v_lost, slid, slidNow, rounds, came, plan, nextAct, done, isResting, height, putUp, fell, wet, pack, stone)))) else ((fX2_of numbers 0).bind (fun u4 => if tk_in x1 64 then (some (.inl (2, (x1, x1, u4 + (heaps x1.toNatClampNeg), minute, v_lost, slid, slidNow, rounds, came, plan, nextAct, done, isResting, height, putUp, fell, wet, pack, stone)))) else none))))
noncomputable def bX5_begin_2 (columns rows flags : Int32) (numbers heaps flagCell stones : Nat → Int32) (x1 s1 s2 minute v_lost slid slidNow rounds came plan : Int32) (nextAct done isResting height putUp fell wet pack stone : Nat → Int32) : Option ((Nat × VX5_begin) ⊕ OX5_begin) := if tk_in s1 64 then ((fX2_of numbers 3).bind (fun u7 => if tk_in x1 64 then (some (.inl (1, (x1 + 1, 0, 0, minute, v_lost, slid, slidNow, rounds, came, plan, nextAct, done, isResting, upd height s1.toNatClampNeg s2, putUp, fell, upd wet x1.toNatClampNeg u7, upd pack x1.toNatClampNeg 0, upd stone x1.toNatClampNeg (vp_nar .boolean (stones x1.toNatClampNeg)))))) else none)) else none
noncomputable def bX5_begin_3 (columns rows flags : Int32) (numbers heaps flagCell stones : Nat → Int32) (x1 minute v_lost slid slidNow rounds came plan : Int32) (nextAct done isResting height putUp fell wet pack stone : Nat → Int32) : Option ((Nat × VX5_begin) ⊕ OX5_begin) := if flags ≤ x1 then ((fX5_hold (-1) plan nextAct done isResting).bind (fun u10 => some (.inr (0, 0, 0, 0, 0, 0, u10.1, u10.2.1, u10.2.2.1, u10.2.2.2, height, putUp, fell, wet, pack, stone)))) else (if tk_in x1 3 then (if tk_in (flagCell x1.toNatClampNeg) 64 then (tk_l (upd putUp x1.toNatClampNeg (height (flagCell x1.toNatClampNeg).toNatClampNeg)) (fun y13 => some (.inl (3, (x1 + 1, 0, 0, minute, v_lost, slid, slidNow, rounds, came, plan, nextAct, done, isResting, height, y13, upd fell x1.toNatClampNeg (-1), wet, pack, stone))))) else none) else none)
noncomputable def bX5_begin_0 (columns rows flags : Int32) (numbers heaps flagCell stones : Nat → Int32) (minute v_lost slid slidNow rounds came plan : Int32) (nextAct done isResting height putUp fell wet pack stone : Nat → Int32) : Option ((Nat × VX5_begin) ⊕ OX5_begin) := some (.inl (1, (0, 0, 0, minute, v_lost, slid, slidNow, rounds, came, plan, nextAct, done, isResting, height, putUp, fell, wet, pack, stone)))
noncomputable def stX5_begin (columns rows flags : Int32) (numbers heaps flagCell stones : Nat → Int32) (z : Nat × VX5_begin) : Option ((Nat × VX5_begin) ⊕ OX5_begin) := match z.1 with
  | 1 => bX5_begin_1 columns rows flags numbers heaps flagCell stones z.2.1 z.2.2.2.2.1 z.2.2.2.2.2.1 z.2.2.2.2.2.2.1 z.2.2.2.2.2.2.2.1 z.2.2.2.2.2.2.2.2.1 z.2.2.2.2.2.2.2.2.2.1 z.2.2.2.2.2.2.2.2.2.2.1 z.2.2.2.2.2.2.2.2.2.2.2.1 z.2.2.2.2.2.2.2.2.2.2.2.2.1 z.2.2.2.2.2.2.2.2.2.2.2.2.2.1 z.2.2.2.2.2.2.2.2.2.2.2.2.2.2.1 z.2.2.2.2.2.2.2.2.2.2.2.2.2.2.2.1 z.2.2.2.2.2.2.2.2.2.2.2.2.2.2.2.2.1 z.2.2.2.2.2.2.2.2.2.2.2.2.2.2.2.2.2.1 z.2.2.2.2.2.2.2.2.2.2.2.2.2.2.2.2.2.2.1 z.2.2.2.2.2.2.2.2.2.2.2.2.2.2.2.2.2.2.2
  | 2 => bX5_begin_2 columns rows flags numbers heaps flagCell stones z.2.1 z.2.2.1 z.2.2.2.1 z.2.2.2.2.1 z.2.2.2.2.2.1 z.2.2.2.2.2.2.1 z.2.2.2.2.2.2.2.1 z.2.2.2.2.2.2.2.2.1 z.2.2.2.2.2.2.2.2.2.1 z.2.2.2.2.2.2.2.2.2.2.1 z.2.2.2.2.2.2.2.2.2.2.2.1 z.2.2.2.2.2.2.2.2.2.2.2.2.1 z.2.2.2.2.2.2.2.2.2.2.2.2.2.1 z.2.2.2.2.2.2.2.2.2.2.2.2.2.2.1 z.2.2.2.2.2.2.2.2.2.2.2.2.2.2.2.1 z.2.2.2.2.2.2.2.2.2.2.2.2.2.2.2.2.1 z.2.2.2.2.2.2.2.2.2.2.2.2.2.2.2.2.2.1 z.2.2.2.2.2.2.2.2.2.2.2.2.2.2.2.2.2.2.1 z.2.2.2.2.2.2.2.2.2.2.2.2.2.2.2.2.2.2.2
  | 3 => bX5_begin_3 columns rows flags numbers heaps flagCell stones z.2.1 z.2.2.2.2.1 z.2.2.2.2.2.1 z.2.2.2.2.2.2.1 z.2.2.2.2.2.2.2.1 z.2.2.2.2.2.2.2.2.1 z.2.2.2.2.2.2.2.2.2.1 z.2.2.2.2.2.2.2.2.2.2.1 z.2.2.2.2.2.2.2.2.2.2.2.1 z.2.2.2.2.2.2.2.2.2.2.2.2.1 z.2.2.2.2.2.2.2.2.2.2.2.2.2.1 z.2.2.2.2.2.2.2.2.2.2.2.2.2.2.1 z.2.2.2.2.2.2.2.2.2.2.2.2.2.2.2.1 z.2.2.2.2.2.2.2.2.2.2.2.2.2.2.2.2.1 z.2.2.2.2.2.2.2.2.2.2.2.2.2.2.2.2.2.1 z.2.2.2.2.2.2.2.2.2.2.2.2.2.2.2.2.2.2.1 z.2.2.2.2.2.2.2.2.2.2.2.2.2.2.2.2.2.2.2
  | _ => none
noncomputable def fX5_begin_1 (columns rows flags : Int32) (numbers heaps flagCell stones : Nat → Int32) (x1 minute v_lost slid slidNow rounds came plan : Int32) (nextAct done isResting height putUp fell wet pack stone : Nat → Int32) : Option OX5_begin := tk_lp (stX5_begin columns rows flags numbers heaps flagCell stones) (1, (x1, 0, 0, minute, v_lost, slid, slidNow, rounds, came, plan, nextAct, done, isResting, height, putUp, fell, wet, pack, stone))
noncomputable def fX5_begin_2 (columns rows flags : Int32) (numbers heaps flagCell stones : Nat → Int32) (x1 s1 s2 minute v_lost slid slidNow rounds came plan : Int32) (nextAct done isResting height putUp fell wet pack stone : Nat → Int32) : Option OX5_begin := tk_lp (stX5_begin columns rows flags numbers heaps flagCell stones) (2, (x1, s1, s2, minute, v_lost, slid, slidNow, rounds, came, plan, nextAct, done, isResting, height, putUp, fell, wet, pack, stone))
noncomputable def fX5_begin_3 (columns rows flags : Int32) (numbers heaps flagCell stones : Nat → Int32) (x1 minute v_lost slid slidNow rounds came plan : Int32) (nextAct done isResting height putUp fell wet pack stone : Nat → Int32) : Option OX5_begin := tk_lp (stX5_begin columns rows flags numbers heaps flagCell stones) (3, (x1, 0, 0, minute, v_lost, slid, slidNow, rounds, came, plan, nextAct, done, isResting, height, putUp, fell, wet, pack, stone))
noncomputable def fX5_begin (columns rows flags : Int32) (numbers heaps flagCell stones : Nat → Int32) (minute v_lost slid slidNow rounds came plan : Int32) (nextAct done isResting height putUp fell wet pack stone : Nat → Int32) : Option OX5_begin := tk_fin (stX5_begin columns rows flags numbers heaps flagCell stones) (bX5_begin_0 columns rows flags numbers heaps flagCell stones minute v_lost slid slidNow rounds came plan nextAct done isResting height putUp fell wet pack stone)
theorem fX5_begin_1_eq (columns rows flags : Int32) (numbers heaps flagCell stones : Nat → Int32) (x1 minute v_lost slid slidNow rounds came plan : Int32) (nextAct done isResting height putUp fell wet pack stone : Nat → Int32) : fX5_begin_1 columns rows flags numbers heaps flagCell stones x1 minute v_lost slid slidNow rounds came plan nextAct done isResting height putUp fell wet pack stone = if 64 ≤ x1 then (fX5_begin_3 columns rows flags numbers heaps flagCell stones 0 minute v_lost slid slidNow rounds came plan nextAct done isResting height putUp fell wet pack stone) else ((fX2_cells columns rows).bind (fun u2 => if u2 ≤ x1 then (fX5_begin_2 columns rows flags numbers heaps flagCell stones x1 x1 0 minute v_lost slid slidNow rounds came plan nextAct done isResting height putUp fell wet pack stone) else ((fX2_of numbers 0).bind (fun u4 => if tk_in x1 64 then (fX5_begin_2 columns rows flags numbers heaps flagCell stones x1 x1 (u4 + (heaps x1.toNatClampNeg)) minute v_lost slid slidNow rounds came plan nextAct done isResting height putUp fell wet pack stone) else none)))) := by
  unfold fX5_begin_1
  rw [tk_lp_eq]
  show tk_fin _ (bX5_begin_1 columns rows flags numbers heaps flagCell stones x1 minute v_lost slid slidNow rounds came plan nextAct done isResting height putUp fell wet pack stone) = _
  unfold bX5_begin_1
  simp only [tk_fin_t, tk_fin_b, tk_fin_l, tk_fin_n, tk_fin_i, tk_fin_r, fX5_begin_2, fX5_begin_3]
  try rfl
theorem fX5_begin_2_eq (columns rows flags : Int32) (numbers heaps flagCell stones : Nat → Int32) (x1 s1 s2 minute v_lost slid slidNow rounds came plan : Int32) (nextAct done isResting height putUp fell wet pack stone : Nat → Int32) : fX5_begin_2 columns rows flags numbers heaps flagCell stones x1 s1 s2 minute v_lost slid slidNow rounds came plan nextAct done isResting height putUp fell wet pack stone = if tk_in s1 64 then ((fX2_of numbers 3).bind (fun u7 => if tk_in x1 64 then (fX5_begin_1 columns rows flags numbers heaps flagCell stones (x1 + 1) minute v_lost slid slidNow rounds came plan nextAct done isResting (upd height s1.toNatClampNeg s2) putUp fell (upd wet x1.toNatClampNeg u7) (upd pack x1.toNatClampNeg 0) (upd stone x1.toNatClampNeg (vp_nar .boolean (stones x1.toNatClampNeg)))) else none)) else none := by
  unfold fX5_begin_2
  rw [tk_lp_eq]
  show tk_fin _ (bX5_begin_2 columns rows flags numbers heaps flagCell stones x1 s1 s2 minute v_lost slid slidNow rounds came plan nextAct done isResting height putUp fell wet pack stone) = _
  unfold bX5_begin_2
  simp only [tk_fin_t, tk_fin_b, tk_fin_l, tk_fin_n, tk_fin_i, tk_fin_r, fX5_begin_1]
  try rfl
theorem fX5_begin_3_eq (columns rows flags : Int32) (numbers heaps flagCell stones : Nat → Int32) (x1 minute v_lost slid slidNow rounds came plan : Int32) (nextAct done isResting height putUp fell wet pack stone : Nat → Int32) : fX5_begin_3 columns rows flags numbers heaps flagCell stones x1 minute v_lost slid slidNow rounds came plan nextAct done isResting height putUp fell wet pack stone = if flags ≤ x1 then ((fX5_hold (-1) plan nextAct done isResting).bind (fun u10 => some (0, 0, 0, 0, 0, 0, u10.1, u10.2.1, u10.2.2.1, u10.2.2.2, height, putUp, fell, wet, pack, stone))) else (if tk_in x1 3 then (if tk_in (flagCell x1.toNatClampNeg) 64 then (tk_l (upd putUp x1.toNatClampNeg (height (flagCell x1.toNatClampNeg).toNatClampNeg)) (fun y13 => fX5_begin_3 columns rows flags numbers heaps flagCell stones (x1 + 1) minute v_lost slid slidNow rounds came plan nextAct done isResting height y13 (upd fell x1.toNatClampNeg (-1)) wet pack stone)) else none) else none) := by
  unfold fX5_begin_3
  rw [tk_lp_eq]
  show tk_fin _ (bX5_begin_3 columns rows flags numbers heaps flagCell stones x1 minute v_lost slid slidNow rounds came plan nextAct done isResting height putUp fell wet pack stone) = _
  unfold bX5_begin_3
  simp only [tk_fin_t, tk_fin_b, tk_fin_l, tk_fin_n, tk_fin_i, tk_fin_r, fX5_begin_3]
  try rfl
theorem fX5_begin_eq (columns rows flags : Int32) (numbers heaps flagCell stones : Nat → Int32) (minute v_lost slid slidNow rounds came plan : Int32) (nextAct done isResting height putUp fell wet pack stone : Nat → Int32) : fX5_begin columns rows flags numbers heaps flagCell stones minute v_lost slid slidNow rounds came plan nextAct done isResting height putUp fell wet pack stone = fX5_begin_1 columns rows flags numbers heaps flagCell stones 0 minute v_lost slid slidNow rounds came plan nextAct done isResting height putUp fell wet pack stone := by
  unfold fX5_begin bX5_begin_0
  simp only [tk_fin_t, tk_fin_b, tk_fin_l, tk_fin_n, tk_fin_i, tk_fin_r, fX5_begin_1]
  try rfl
abbrev VX5_become : Type := Int32 × Int32 × Int32 × Int32 × Int32 × Int32 × Int32 × Int32 × Int64 × (Nat → Int32) × (Nat → Int32) × (Nat → Int32) × (Nat → Int32) × (Nat → Int32) × (Nat → Int32) × (Nat → Int32) × (Nat → Int32) × (Nat → Int32)
abbrev OX5_become : Type := Int32 × Int32 × Int32 × Int32 × Int32 × Int32 × Int32 × Int64 × (Nat → Int32) × (Nat → Int32) × (Nat → Int32) × (Nat → Int32) × (Nat → Int32) × (Nat → Int32) × (Nat → Int32) × (Nat → Int32) × (Nat → Int32)
noncomputable def bX5_become_1 (minute v_lost slid slidNow rounds came plan : Int32) (chance : Int64) (height wet pack stone nextAct done isResting putUp fell : Nat → Int32) (x2 minute_2 v_lost_2 slid_2 slidNow_2 rounds_2 came_2 plan_2 : Int32) (chance_2 : Int64) (height_2 wet_2 pack_2 stone_2 nextAct_2 done_2 isResting_2 putUp_2 fell_2 : Nat → Int32) : Option ((Nat × VX5_become) ⊕ OX5_become) := if 64 ≤ x2 then (some (.inl (2, (0, minute_2, v_lost_2, slid_2, slidNow_2, rounds_2, came_2, plan_2, chance_2, height_2, wet_2, pack_2, stone_2, nextAct_2, done_2, isResting_2, putUp_2, fell_2)))) else (if tk_in x2 64 then (tk_l (upd stone_2 x2.toNatClampNeg (vp_nar .boolean (stone x2.toNatClampNeg))) (fun y3 => some (.inl (1, (x2 + 1, minute_2, v_lost_2, slid_2, slidNow_2, rounds_2, came_2, plan_2, chance_2, upd height_2 x2.toNatClampNeg (height x2.toNatClampNeg), upd wet_2 x2.toNatClampNeg (wet x2.toNatClampNeg), upd pack_2 x2.toNatClampNeg (pack x2.toNatClampNeg), y3, nextAct_2, done_2, isResting_2, putUp_2, fell_2))))) else none)
noncomputable def bX5_become_2 (minute v_lost slid slidNow rounds came plan : Int32) (chance : Int64) (height wet pack stone nextAct done isResting putUp fell : Nat → Int32) (x2 minute_2 v_lost_2 slid_2 slidNow_2 rounds_2 came_2 plan_2 : Int32) (chance_2 : Int64) (height_2 wet_2 pack_2 stone_2 nextAct_2 done_2 isResting_2 putUp_2 fell_2 : Nat → Int32) : Option ((Nat × VX5_become) ⊕ OX5_become) := if 4 ≤ x2 then (some (.inl (3, (0, minute_2, v_lost_2, slid_2, slidNow_2, rounds_2, came_2, plan_2, chance_2, height_2, wet_2, pack_2, stone_2, nextAct_2, done_2, isResting_2, putUp_2, fell_2)))) else (if tk_in x2 4 then (tk_l (upd isResting_2 x2.toNatClampNeg (vp_nar .boolean (isResting x2.toNatClampNeg))) (fun y6 => some (.inl (2, (x2 + 1, minute_2, v_lost_2, slid_2, slidNow_2, rounds_2, came_2, plan_2, chance_2, height_2, wet_2, pack_2, stone_2, upd nextAct_2 x2.toNatClampNeg (nextAct x2.toNatClampNeg), upd done_2 x2.toNatClampNeg (done x2.toNatClampNeg), y6, putUp_2, fell_2))))) else none)
noncomputable def bX5_become_3 (minute v_lost slid slidNow rounds came plan : Int32) (chance : Int64) (height wet pack stone nextAct done isResting putUp fell : Nat → Int32) (x2 minute_2 v_lost_2 slid_2 slidNow_2 rounds_2 came_2 plan_2 : Int32) (chance_2 : Int64) (height_2 wet_2 pack_2 stone_2 nextAct_2 done_2 isResting_2 putUp_2 fell_2 : Nat → Int32) : Option ((Nat × VX5_become) ⊕ OX5_become) := if 3 ≤ x2 then (some (.inr (minute, v_lost, slid, slidNow, rounds, came, plan, chance, height_2, wet_2, pack_2, stone_2, nextAct_2, done_2, isResting_2, putUp_2, fell_2))) else (if tk_in x2 3 then (some (.inl (3, (x2 + 1, minute_2, v_lost_2, slid_2, slidNow_2, rounds_2, came_2, plan_2, chance_2, height_2, wet_2, pack_2, stone_2, nextAct_2, done_2, isResting_2, upd putUp_2 x2.toNatClampNeg (putUp x2.toNatClampNeg), upd fell_2 x2.toNatClampNeg (fell x2.toNatClampNeg))))) else none)
noncomputable def bX5_become_0 (minute v_lost slid slidNow rounds came plan : Int32) (chance : Int64) (height wet pack stone nextAct done isResting putUp fell : Nat → Int32) (minute_2 v_lost_2 slid_2 slidNow_2 rounds_2 came_2 plan_2 : Int32) (chance_2 : Int64) (height_2 wet_2 pack_2 stone_2 nextAct_2 done_2 isResting_2 putUp_2 fell_2 : Nat → Int32) : Option ((Nat × VX5_become) ⊕ OX5_become) := some (.inl (1, (0, minute_2, v_lost_2, slid_2, slidNow_2, rounds_2, came_2, plan_2, chance_2, height_2, wet_2, pack_2, stone_2, nextAct_2, done_2, isResting_2, putUp_2, fell_2)))
noncomputable def stX5_become (minute v_lost slid slidNow rounds came plan : Int32) (chance : Int64) (height wet pack stone nextAct done isResting putUp fell : Nat → Int32) (z : Nat × VX5_become) : Option ((Nat × VX5_become) ⊕ OX5_become) := match z.1 with
  | 1 => bX5_become_1 minute v_lost slid slidNow rounds came plan chance height wet pack stone nextAct done isResting putUp fell z.2.1 z.2.2.1 z.2.2.2.1 z.2.2.2.2.1 z.2.2.2.2.2.1 z.2.2.2.2.2.2.1 z.2.2.2.2.2.2.2.1 z.2.2.2.2.2.2.2.2.1 z.2.2.2.2.2.2.2.2.2.1 z.2.2.2.2.2.2.2.2.2.2.1 z.2.2.2.2.2.2.2.2.2.2.2.1 z.2.2.2.2.2.2.2.2.2.2.2.2.1 z.2.2.2.2.2.2.2.2.2.2.2.2.2.1 z.2.2.2.2.2.2.2.2.2.2.2.2.2.2.1 z.2.2.2.2.2.2.2.2.2.2.2.2.2.2.2.1 z.2.2.2.2.2.2.2.2.2.2.2.2.2.2.2.2.1 z.2.2.2.2.2.2.2.2.2.2.2.2.2.2.2.2.2.1 z.2.2.2.2.2.2.2.2.2.2.2.2.2.2.2.2.2.2
  | 2 => bX5_become_2 minute v_lost slid slidNow rounds came plan chance height wet pack stone nextAct done isResting putUp fell z.2.1 z.2.2.1 z.2.2.2.1 z.2.2.2.2.1 z.2.2.2.2.2.1 z.2.2.2.2.2.2.1 z.2.2.2.2.2.2.2.1 z.2.2.2.2.2.2.2.2.1 z.2.2.2.2.2.2.2.2.2.1 z.2.2.2.2.2.2.2.2.2.2.1 z.2.2.2.2.2.2.2.2.2.2.2.1 z.2.2.2.2.2.2.2.2.2.2.2.2.1 z.2.2.2.2.2.2.2.2.2.2.2.2.2.1 z.2.2.2.2.2.2.2.2.2.2.2.2.2.2.1 z.2.2.2.2.2.2.2.2.2.2.2.2.2.2.2.1 z.2.2.2.2.2.2.2.2.2.2.2.2.2.2.2.2.1 z.2.2.2.2.2.2.2.2.2.2.2.2.2.2.2.2.2.1 z.2.2.2.2.2.2.2.2.2.2.2.2.2.2.2.2.2.2
  | 3 => bX5_become_3 minute v_lost slid slidNow rounds came plan chance height wet pack stone nextAct done isResting putUp fell z.2.1 z.2.2.1 z.2.2.2.1 z.2.2.2.2.1 z.2.2.2.2.2.1 z.2.2.2.2.2.2.1 z.2.2.2.2.2.2.2.1 z.2.2.2.2.2.2.2.2.1 z.2.2.2.2.2.2.2.2.2.1 z.2.2.2.2.2.2.2.2.2.2.1 z.2.2.2.2.2.2.2.2.2.2.2.1 z.2.2.2.2.2.2.2.2.2.2.2.2.1 z.2.2.2.2.2.2.2.2.2.2.2.2.2.1 z.2.2.2.2.2.2.2.2.2.2.2.2.2.2.1 z.2.2.2.2.2.2.2.2.2.2.2.2.2.2.2.1 z.2.2.2.2.2.2.2.2.2.2.2.2.2.2.2.2.1 z.2.2.2.2.2.2.2.2.2.2.2.2.2.2.2.2.2.1 z.2.2.2.2.2.2.2.2.2.2.2.2.2.2.2.2.2.2
  | _ => none
noncomputable def fX5_become_1 (minute v_lost slid slidNow rounds came plan : Int32) (chance : Int64) (height wet pack stone nextAct done isResting putUp fell : Nat → Int32) (x2 minute_2 v_lost_2 slid_2 slidNow_2 rounds_2 came_2 plan_2 : Int32) (chance_2 : Int64) (height_2 wet_2 pack_2 stone_2 nextAct_2 done_2 isResting_2 putUp_2 fell_2 : Nat → Int32) : Option OX5_become := tk_lp (stX5_become minute v_lost slid slidNow rounds came plan chance height wet pack stone nextAct done isResting putUp fell) (1, (x2, minute_2, v_lost_2, slid_2, slidNow_2, rounds_2, came_2, plan_2, chance_2, height_2, wet_2, pack_2, stone_2, nextAct_2, done_2, isResting_2, putUp_2, fell_2))
noncomputable def fX5_become_2 (minute v_lost slid slidNow rounds came plan : Int32) (chance : Int64) (height wet pack stone nextAct done isResting putUp fell : Nat → Int32) (x2 minute_2 v_lost_2 slid_2 slidNow_2 rounds_2 came_2 plan_2 : Int32) (chance_2 : Int64) (height_2 wet_2 pack_2 stone_2 nextAct_2 done_2 isResting_2 putUp_2 fell_2 : Nat → Int32) : Option OX5_become := tk_lp (stX5_become minute v_lost slid slidNow rounds came plan chance height wet pack stone nextAct done isResting putUp fell) (2, (x2, minute_2, v_lost_2, slid_2, slidNow_2, rounds_2, came_2, plan_2, chance_2, height_2, wet_2, pack_2, stone_2, nextAct_2, done_2, isResting_2, putUp_2, fell_2))
noncomputable def fX5_become_3 (minute v_lost slid slidNow rounds came plan : Int32) (chance : Int64) (height wet pack stone nextAct done isResting putUp fell : Nat → Int32) (x2 minute_2 v_lost_2 slid_2 slidNow_2 rounds_2 came_2 plan_2 : Int32) (chance_2 : Int64) (height_2 wet_2 pack_2 stone_2 nextAct_2 done_2 isResting_2 putUp_2 fell_2 : Nat → Int32) : Option OX5_become := tk_lp (stX5_become minute v_lost slid slidNow rounds came plan chance height wet pack stone nextAct done isResting putUp fell) (3, (x2, minute_2, v_lost_2, slid_2, slidNow_2, rounds_2, came_2, plan_2, chance_2, height_2, wet_2, pack_2, stone_2, nextAct_2, done_2, isResting_2, putUp_2, fell_2))
noncomputable def fX5_become (minute v_lost slid slidNow rounds came plan : Int32) (chance : Int64) (height wet pack stone nextAct done isResting putUp fell : Nat → Int32) (minute_2 v_lost_2 slid_2 slidNow_2 rounds_2 came_2 plan_2 : Int32) (chance_2 : Int64) (height_2 wet_2 pack_2 stone_2 nextAct_2 done_2 isResting_2 putUp_2 fell_2 : Nat → Int32) : Option OX5_become := tk_fin (stX5_become minute v_lost slid slidNow rounds came plan chance height wet pack stone nextAct done isResting putUp fell) (bX5_become_0 minute v_lost slid slidNow rounds came plan chance height wet pack stone nextAct done isResting putUp fell minute_2 v_lost_2 slid_2 slidNow_2 rounds_2 came_2 plan_2 chance_2 height_2 wet_2 pack_2 stone_2 nextAct_2 done_2 isResting_2 putUp_2 fell_2)
theorem fX5_become_1_eq (minute v_lost slid slidNow rounds came plan : Int32) (chance : Int64) (height wet pack stone nextAct done isResting putUp fell : Nat → Int32) (x2 minute_2 v_lost_2 slid_2 slidNow_2 rounds_2 came_2 plan_2 : Int32) (chance_2 : Int64) (height_2 wet_2 pack_2 stone_2 nextAct_2 done_2 isResting_2 putUp_2 fell_2 : Nat → Int32) : fX5_become_1 minute v_lost slid slidNow rounds came plan chance height wet pack stone nextAct done isResting putUp fell x2 minute_2 v_lost_2 slid_2 slidNow_2 rounds_2 came_2 plan_2 chance_2 height_2 wet_2 pack_2 stone_2 nextAct_2 done_2 isResting_2 putUp_2 fell_2 = if 64 ≤ x2 then (fX5_become_2 minute v_lost slid slidNow rounds came plan chance height wet pack stone nextAct done isResting putUp fell 0 minute_2 v_lost_2 slid_2 slidNow_2 rounds_2 came_2 plan_2 chance_2 height_2 wet_2 pack_2 stone_2 nextAct_2 done_2 isResting_2 putUp_2 fell_2) else (if tk_in x2 64 then (tk_l (upd stone_2 x2.toNatClampNeg (vp_nar .boolean (stone x2.toNatClampNeg))) (fun y3 => fX5_become_1 minute v_lost slid slidNow rounds came plan chance height wet pack stone nextAct done isResting putUp fell (x2 + 1) minute_2 v_lost_2 slid_2 slidNow_2 rounds_2 came_2 plan_2 chance_2 (upd height_2 x2.toNatClampNeg (height x2.toNatClampNeg)) (upd wet_2 x2.toNatClampNeg (wet x2.toNatClampNeg)) (upd pack_2 x2.toNatClampNeg (pack x2.toNatClampNeg)) y3 nextAct_2 done_2 isResting_2 putUp_2 fell_2)) else none) := by
  unfold fX5_become_1
  rw [tk_lp_eq]
  show tk_fin _ (bX5_become_1 minute v_lost slid slidNow rounds came plan chance height wet pack stone nextAct done isResting putUp fell x2 minute_2 v_lost_2 slid_2 slidNow_2 rounds_2 came_2 plan_2 chance_2 height_2 wet_2 pack_2 stone_2 nextAct_2 done_2 isResting_2 putUp_2 fell_2) = _
  unfold bX5_become_1
  simp only [tk_fin_t, tk_fin_b, tk_fin_l, tk_fin_n, tk_fin_i, tk_fin_r, fX5_become_1, fX5_become_2]
  try rfl
theorem fX5_become_2_eq (minute v_lost slid slidNow rounds came plan : Int32) (chance : Int64) (height wet pack stone nextAct done isResting putUp fell : Nat → Int32) (x2 minute_2 v_lost_2 slid_2 slidNow_2 rounds_2 came_2 plan_2 : Int32) (chance_2 : Int64) (height_2 wet_2 pack_2 stone_2 nextAct_2 done_2 isResting_2 putUp_2 fell_2 : Nat → Int32) : fX5_become_2 minute v_lost slid slidNow rounds came plan chance height wet pack stone nextAct done isResting putUp fell x2 minute_2 v_lost_2 slid_2 slidNow_2 rounds_2 came_2 plan_2 chance_2 height_2 wet_2 pack_2 stone_2 nextAct_2 done_2 isResting_2 putUp_2 fell_2 = if 4 ≤ x2 then (fX5_become_3 minute v_lost slid slidNow rounds came plan chance height wet pack stone nextAct done isResting putUp fell 0 minute_2 v_lost_2 slid_2 slidNow_2 rounds_2 came_2 plan_2 chance_2 height_2 wet_2 pack_2 stone_2 nextAct_2 done_2 isResting_2 putUp_2 fell_2) else (if tk_in x2 4 then (tk_l (upd isResting_2 x2.toNatClampNeg (vp_nar .boolean (isResting x2.toNatClampNeg))) (fun y6 => fX5_become_2 minute v_lost slid slidNow rounds came plan chance height wet pack stone nextAct done isResting putUp fell (x2 + 1) minute_2 v_lost_2 slid_2 slidNow_2 rounds_2 came_2 plan_2 chance_2 height_2 wet_2 pack_2 stone_2 (upd nextAct_2 x2.toNatClampNeg (nextAct x2.toNatClampNeg)) (upd done_2 x2.toNatClampNeg (done x2.toNatClampNeg)) y6 putUp_2 fell_2)) else none) := by
  unfold fX5_become_2
  rw [tk_lp_eq]
  show tk_fin _ (bX5_become_2 minute v_lost slid slidNow rounds came plan chance height wet pack stone nextAct done isResting putUp fell x2 minute_2 v_lost_2 slid_2 slidNow_2 rounds_2 came_2 plan_2 chance_2 height_2 wet_2 pack_2 stone_2 nextAct_2 done_2 isResting_2 putUp_2 fell_2) = _
  unfold bX5_become_2
  simp only [tk_fin_t, tk_fin_b, tk_fin_l, tk_fin_n, tk_fin_i, tk_fin_r, fX5_become_2, fX5_become_3]
  try rfl
theorem fX5_become_3_eq (minute v_lost slid slidNow rounds came plan : Int32) (chance : Int64) (height wet pack stone nextAct done isResting putUp fell : Nat → Int32) (x2 minute_2 v_lost_2 slid_2 slidNow_2 rounds_2 came_2 plan_2 : Int32) (chance_2 : Int64) (height_2 wet_2 pack_2 stone_2 nextAct_2 done_2 isResting_2 putUp_2 fell_2 : Nat → Int32) : fX5_become_3 minute v_lost slid slidNow rounds came plan chance height wet pack stone nextAct done isResting putUp fell x2 minute_2 v_lost_2 slid_2 slidNow_2 rounds_2 came_2 plan_2 chance_2 height_2 wet_2 pack_2 stone_2 nextAct_2 done_2 isResting_2 putUp_2 fell_2 = if 3 ≤ x2 then (some (minute, v_lost, slid, slidNow, rounds, came, plan, chance, height_2, wet_2, pack_2, stone_2, nextAct_2, done_2, isResting_2, putUp_2, fell_2)) else (if tk_in x2 3 then (fX5_become_3 minute v_lost slid slidNow rounds came plan chance height wet pack stone nextAct done isResting putUp fell (x2 + 1) minute_2 v_lost_2 slid_2 slidNow_2 rounds_2 came_2 plan_2 chance_2 height_2 wet_2 pack_2 stone_2 nextAct_2 done_2 isResting_2 (upd putUp_2 x2.toNatClampNeg (putUp x2.toNatClampNeg)) (upd fell_2 x2.toNatClampNeg (fell x2.toNatClampNeg))) else none) := by
  unfold fX5_become_3
  rw [tk_lp_eq]
  show tk_fin _ (bX5_become_3 minute v_lost slid slidNow rounds came plan chance height wet pack stone nextAct done isResting putUp fell x2 minute_2 v_lost_2 slid_2 slidNow_2 rounds_2 came_2 plan_2 chance_2 height_2 wet_2 pack_2 stone_2 nextAct_2 done_2 isResting_2 putUp_2 fell_2) = _
  unfold bX5_become_3
  simp only [tk_fin_t, tk_fin_b, tk_fin_l, tk_fin_n, tk_fin_i, tk_fin_r, fX5_become_3]
  try rfl
theorem fX5_become_eq (minute v_lost slid slidNow rounds came plan : Int32) (chance : Int64) (height wet pack stone nextAct done isResting putUp fell : Nat → Int32) (minute_2 v_lost_2 slid_2 slidNow_2 rounds_2 came_2 plan_2 : Int32) (chance_2 : Int64) (height_2 wet_2 pack_2 stone_2 nextAct_2 done_2 isResting_2 putUp_2 fell_2 : Nat → Int32) : fX5_become minute v_lost slid slidNow rounds came plan chance height wet pack stone nextAct done isResting putUp fell minute_2 v_lost_2 slid_2 slidNow_2 rounds_2 came_2 plan_2 chance_2 height_2 wet_2 pack_2 stone_2 nextAct_2 done_2 isResting_2 putUp_2 fell_2 = fX5_become_1 minute v_lost slid slidNow rounds came plan chance height wet pack stone nextAct done isResting putUp fell 0 minute_2 v_lost_2 slid_2 slidNow_2 rounds_2 came_2 plan_2 chance_2 height_2 wet_2 pack_2 stone_2 nextAct_2 done_2 isResting_2 putUp_2 fell_2 := by
  unfold fX5_become bX5_become_0
  simp only [tk_fin_t, tk_fin_b, tk_fin_l, tk_fin_n, tk_fin_i, tk_fin_r, fX5_become_1]
  try rfl
set_option maxHeartbeats 4000000 in
theorem mX5_go (l : Launch) (D : va_G) (ar : Nat → ClassId) (ad : Nat → Nat → Nat) (xs : va_W) (sz : Nat) (h0 : Nat) (r0 : Nat → Nat) (i0 : Nat → Int32) (j0 : Nat → Int64) (p0 p1 : Int32) (wet height pack : Nat → Int32) (o : (Nat → Int32) × (Nat → Int32) × (Nat → Int32)) (hF : fX5_go p0 p1 wet height pack = some o) : Met l yX5_go (ws_ yX5_go cX5_go 3 none) ({ frames := 0, cells := 0, slots := 0, locals := 0 }) (va_Pc [.ref h0, .int p0, .int p1] (tk_Pre D ar ad [((r0 1), .inl (ar 0, 64, .inl wet)), ((r0 0), .inl (ar 0, 64, .inl height)), ((r0 2), .inl (ar 0, 64, .inl pack))] [(h0, .inr (4, oX5 r0 i0 j0))] xs sz)) (va_Qv (fun _ : Unit => True) (fun _ t => tk_Post D (va_A [((r0 1), .inl (ar 0, 64, .inl wet)), ((r0 0), .inl (ar 0, 64, .inl height)), ((r0 2), .inl (ar 0, 64, .inl pack))] sz) [((r0 1), .inl (ar 0, 64, .inl o.1)), ((r0 0), .inl (ar 0, 64, .inl o.2.1)), ((r0 2), .inl (ar 0, 64, .inl o.2.2))] t) (va_A [((r0 1), .inl (ar 0, 64, .inl wet)), ((r0 0), .inl (ar 0, 64, .inl height)), ((r0 2), .inl (ar 0, 64, .inl pack))] sz)) 0 0 (va_A [((r0 1), .inl (ar 0, 64, .inl wet)), ((r0 0), .inl (ar 0, 64, .inl height)), ((r0 2), .inl (ar 0, 64, .inl pack))] sz) := by
  refine Met.ofW (cc := cX5_go) (maxL := 3) (ret := none) (by decide) rfl ?_
  intro p e s m args below meth c s₁ B hml hv
  obtain ⟨rfl, hsz, hP, hD0, hR, hX, hE⟩ := hv
  have hx := B.exec
  have hb := B.bytes
  have hr := B.returns
  have hts := atoms_spec (ws := (ws_ yX5_go cX5_go 3 none)) B.pre
  have hts : ∀ w ∈ lw_all, w.before _ s = true := fun w h => hts w (List.mem_cons_of_mem _ h)
  have hown : s.vm.findClass RX5 = some m.cls := findClass_of_methodNamed B.named
  have hlocks := B.notSynchronized
  subst hsz
  have hD := hD0.self (sz := s.heap.size)
  generalize hAe : va_A [((r0 1), .inl (ar 0, 64, .inl wet)), ((r0 0), .inl (ar 0, 64, .inl height)), ((r0 2), .inl (ar 0, 64, .inl pack))] s.heap.size = A at hD hR hX hE ⊢
  have hA : ∀ q : Nat, s.heap.size ≤ q → A q := fun q h => by rw [← hAe]; exact Or.inr h
  have hS : va_S A s.heap s.heap [] := va_S.rf
  have hK := hE.1
  have hl := lv_entry ([.ref h0, .int p0, .int p1]) (n := 3) (Nat.le_of_ble_eq_true rfl)
  rw [lg_entry_eq]
  generalize (lg_sl ([.ref h0, .int p0, .int p1]) ++ List.replicate (3 - (lg_sl ([.ref h0, .int p0, .int p1])).length) Slot.unset).toArray = ls at hl ⊢
  have hl : lv_has ls 3 [(0, .ref h0), (1, .int p0), (2, .int p1)] := hl
  have hP : va_P D tkCl [((r0 1), .inl (ar 0, 64, .inl wet)), ((r0 0), .inl (ar 0, 64, .inl height)), ((r0 2), .inl (ar 0, 64, .inl pack))] s.heap := hP
  unfold fX5_go at hF
  refine lv_aload_n hx hb dX5_go_0 rfl (lv_at hl 0 rfl) ?_
  refine va_get (D := D) (ci := 4) (v := .ref (r0 1)) (C := RX5) (T := TX5) (N := 18) hx hb hts in_X5 hown hK (hR.at hS) 0 rfl rfl 1 (by decide) (hts _ q357) (fun _ h9 => h9) rfl dX5_go_1 ?_
  refine lv_iload_n hx hb dX5_go_4 rfl (lv_at hl 2 rfl) ?_
  refine lv_aload_n hx hb dX5_go_5 rfl (lv_at hl 0 rfl) ?_
  refine va_get (D := D) (ci := 4) (v := .ref (r0 1)) (C := RX5) (T := TX5) (N := 18) hx hb hts in_X5 hown hK (hR.at hS) 0 rfl rfl 1 (by decide) (hts _ q357) (fun _ h9 => h9) rfl dX5_go_6 ?_
  refine lv_iload_n hx hb dX5_go_9 rfl (lv_at hl 2 rfl) ?_
  obtain ⟨gd1, hF⟩ := tk_pg hF
  refine va_iald hx hb hK hP 0 0 rfl rfl gd1 dX5_go_10 ?_
  refine lv_aload_n hx hb dX5_go_11 rfl (lv_at hl 0 rfl) ?_
  refine va_get (D := D) (ci := 4) (v := .ref (r0 0)) (C := RX5) (T := TX5) (N := 18) hx hb hts in_X5 hown hK (hR.at hS) 0 rfl rfl 0 (by decide) (hts _ q355) (fun _ h9 => h9) rfl dX5_go_12 ?_
  refine lv_iload_n hx hb dX5_go_15 rfl (lv_at hl 2 rfl) ?_
  refine va_iald hx hb hK hP 1 0 rfl rfl gd1 dX5_go_16 ?_
  refine lv_imul hx hb dX5_go_17 ?_
  refine lv_aload_n hx hb dX5_go_18 rfl (lv_at hl 0 rfl) ?_
  refine va_get (D := D) (ci := 4) (v := .ref (r0 1)) (C := RX5) (T := TX5) (N := 18) hx hb hts in_X5 hown hK (hR.at hS) 0 rfl rfl 1 (by decide) (hts _ q357) (fun _ h9 => h9) rfl dX5_go_19 ?_
  refine lv_iload_n hx hb dX5_go_22 rfl (lv_at hl 1 rfl) ?_
  obtain ⟨gd2, hF⟩ := tk_pg hF
  refine va_iald hx hb hK hP 0 0 rfl rfl gd2 dX5_go_23 ?_
  refine lv_iadd hx hb dX5_go_24 ?_
  refine lv_aload_n hx hb dX5_go_25 rfl (lv_at hl 0 rfl) ?_
  refine va_get (D := D) (ci := 4) (v := .ref (r0 0)) (C := RX5) (T := TX5) (N := 18) hx hb hts in_X5 hown hK (hR.at hS) 0 rfl rfl 0 (by decide) (hts _ q355) (fun _ h9 => h9) rfl dX5_go_26 ?_
  refine lv_iload_n hx hb dX5_go_29 rfl (lv_at hl 2 rfl) ?_
  refine va_iald hx hb hK hP 1 0 rfl rfl gd1 dX5_go_30 ?_
  refine lv_iconst (v := 1) hx hb dX5_go_31 (by decide) ?_
  refine lv_iadd hx hb dX5_go_32 ?_
  obtain ⟨gd3, hF⟩ := tk_pg hF
  refine lv_idiv hx hb dX5_go_33 gd3 ?_
  refine va_iast hx hb hK hP hD hS 0 0 rfl rfl gd1 dX5_go_34 (fun H locs hP hD hS => ?_)
  obtain ⟨y4, ey4, hF⟩ := tk_pl hF
  have hP : va_P D tkCl [((r0 1), .inl (ar 0, 64, .inl y4)), ((r0 0), .inl (ar 0, 64, .inl height)), ((r0 2), .inl (ar 0, 64, .inl pack))] H := by rw [ey4]; exact hP
  have hD : va_D A [((r0 1), .inl (ar 0, 64, .inl y4)), ((r0 0), .inl (ar 0, 64, .inl height)), ((r0 2), .inl (ar 0, 64, .inl pack))] := by rw [ey4]; exact hD
  refine lv_aload_n hx hb dX5_go_35 rfl (lv_at hl 0 rfl) ?_
  refine va_get (D := D) (ci := 4) (v := .ref (r0 2)) (C := RX5) (T := TX5) (N := 18) hx hb hts in_X5 hown hK (hR.at hS) 0 rfl rfl 2 (by decide) (hts _ q359) (fun _ h9 => h9) rfl dX5_go_36 ?_
  refine lv_iload_n hx hb dX5_go_39 rfl (lv_at hl 2 rfl) ?_
  refine lv_iconst (v := 0) hx hb dX5_go_40 (by decide) ?_
  refine va_iast hx hb hK hP hD hS 2 0 rfl rfl gd1 dX5_go_41 (fun H locs hP hD hS => ?_)
  have hP : va_P D tkCl [((r0 1), .inl (ar 0, 64, .inl y4)), ((r0 0), .inl (ar 0, 64, .inl height)), ((r0 2), .inl (ar 0, 64, .inl (upd pack p1.toNatClampNeg 0)))] H := hP
  have hD : va_D A [((r0 1), .inl (ar 0, 64, .inl y4)), ((r0 0), .inl (ar 0, 64, .inl height)), ((r0 2), .inl (ar 0, 64, .inl (upd pack p1.toNatClampNeg 0)))] := hD
  refine lv_aload_n hx hb dX5_go_42 rfl (lv_at hl 0 rfl) ?_
  refine va_get (D := D) (ci := 4) (v := .ref (r0 0)) (C := RX5) (T := TX5) (N := 18) hx hb hts in_X5 hown hK (hR.at hS) 0 rfl rfl 0 (by decide) (hts _ q355) (fun _ h9 => h9) rfl dX5_go_43 ?_
  refine lv_iload_n hx hb dX5_go_46 rfl (lv_at hl 1 rfl) ?_
  refine lv_dup2_11 hx hb dX5_go_47 rfl rfl ?_
  refine va_iald hx hb hK hP 1 0 rfl rfl gd2 dX5_go_48 ?_
  refine lv_iconst (v := 1) hx hb dX5_go_49 (by decide) ?_
  refine lv_isub hx hb dX5_go_50 ?_
  refine va_iast hx hb hK hP hD hS 1 0 rfl rfl gd2 dX5_go_51 (fun H locs hP hD hS => ?_)
  have hP : va_P D tkCl [((r0 1), .inl (ar 0, 64, .inl y4)), ((r0 0), .inl (ar 0, 64, .inl (upd height p0.toNatClampNeg ((height p0.toNatClampNeg) - 1)))), ((r0 2), .inl (ar 0, 64, .inl (upd pack p1.toNatClampNeg 0)))] H := hP
  have hD : va_D A [((r0 1), .inl (ar 0, 64, .inl y4)), ((r0 0), .inl (ar 0, 64, .inl (upd height p0.toNatClampNeg ((height p0.toNatClampNeg) - 1)))), ((r0 2), .inl (ar 0, 64, .inl (upd pack p1.toNatClampNeg 0)))] := hD
  refine lv_aload_n hx hb dX5_go_52 rfl (lv_at hl 0 rfl) ?_
  refine va_get (D := D) (ci := 4) (v := .ref (r0 0)) (C := RX5) (T := TX5) (N := 18) hx hb hts in_X5 hown hK (hR.at hS) 0 rfl rfl 0 (by decide) (hts _ q355) (fun _ h9 => h9) rfl dX5_go_53 ?_
  refine lv_iload_n hx hb dX5_go_56 rfl (lv_at hl 2 rfl) ?_
  refine lv_dup2_11 hx hb dX5_go_57 rfl rfl ?_
  refine va_iald hx hb hK hP 1 0 rfl rfl gd1 dX5_go_58 ?_
  refine lv_iconst (v := 1) hx hb dX5_go_59 (by decide) ?_
  refine lv_iadd hx hb dX5_go_60 ?_
  refine va_iast hx hb hK hP hD hS 1 0 rfl rfl gd1 dX5_go_61 (fun H locs hP hD hS => ?_)
  obtain ⟨y5, ey5, hF⟩ := tk_pl hF
  have hP : va_P D tkCl [((r0 1), .inl (ar 0, 64, .inl y4)), ((r0 0), .inl (ar 0, 64, .inl y5)), ((r0 2), .inl (ar 0, 64, .inl (upd pack p1.toNatClampNeg 0)))] H := by rw [ey5]; exact hP
  have hD : va_D A [((r0 1), .inl (ar 0, 64, .inl y4)), ((r0 0), .inl (ar 0, 64, .inl y5)), ((r0 2), .inl (ar 0, 64, .inl (upd pack p1.toNatClampNeg 0)))] := by rw [ey5]; exact hD
  have eo := tk_pr hF
  subst eo
  exact W.vret hx hb hr (fun t ht hW => ⟨⟨(), rfl, trivial, tk_pst ht hP hD⟩, hS.F ht⟩) hS.2.2 dX5_go_62
set_option maxHeartbeats 4000000 in
theorem mX5_draw (l : Launch) (D : va_G) (ar : Nat → ClassId) (ad : Nat → Nat → Nat) (xs : va_W) (sz : Nat) (h0 : Nat) (r0 : Nat → Nat) (i0 : Nat → Int32) (j0 : Nat → Int64) (p0 : Int32) (chance : Int64) (o : Int32 × Int64) (hF : fX5_draw p0 chance = some o) : Met l yX5_draw (ws_ yX5_draw cX5_draw 2 (some .int)) ({ frames := 0, cells := 0, slots := 0, locals := 0 }) (va_Pc [.ref h0, .int p0] (tk_Pre D ar ad [(h0, .inr (4, oX5 r0 i0 (tul j0 16 chance)))] [] xs sz)) (va_Qi (fun (zr : Int32) (_ : Unit) => zr = o.1) (fun _ t => tk_Post D (va_A [(h0, .inr (4, oX5 r0 i0 (tul j0 16 chance)))] sz) [(h0, .inr (4, oX5 r0 i0 (tul j0 16 o.2)))] t) (va_A [(h0, .inr (4, oX5 r0 i0 (tul j0 16 chance)))] sz)) 0 0 (va_A [(h0, .inr (4, oX5 r0 i0 (tul j0 16 chance)))] sz) := by
  refine Met.ofW (cc := cX5_draw) (maxL := 2) (ret := (some .int)) (by decide) rfl ?_
  intro p e s m args below meth c s₁ B hml hv
  obtain ⟨rfl, hsz, hP, hD0, hR, hX, hE⟩ := hv
  have hx := B.exec
  have hb := B.bytes
  have hr := B.returns
  have hts := atoms_spec (ws := (ws_ yX5_draw cX5_draw 2 (some .int))) B.pre
  have hts : ∀ w ∈ lw_all, w.before _ s = true := fun w h => hts w (List.mem_cons_of_mem _ h)
  have hown : s.vm.findClass RX5 = some m.cls := findClass_of_methodNamed B.named
  have hlocks := B.notSynchronized
  subst hsz
  have hD := hD0.self (sz := s.heap.size)
  generalize hAe : va_A [(h0, .inr (4, oX5 r0 i0 (tul j0 16 chance)))] s.heap.size = A at hD hR hX hE ⊢
  have hA : ∀ q : Nat, s.heap.size ≤ q → A q := fun q h => by rw [← hAe]; exact Or.inr h
  have hS : va_S A s.heap s.heap [] := va_S.rf
  have hK := hE.1
  have hl := lv_entry ([.ref h0, .int p0]) (n := 2) (Nat.le_of_ble_eq_true rfl)
  rw [lg_entry_eq]
  generalize (lg_sl ([.ref h0, .int p0]) ++ List.replicate (2 - (lg_sl ([.ref h0, .int p0])).length) Slot.unset).toArray = ls at hl ⊢
  have hl : lv_has ls 2 [(0, .ref h0), (1, .int p0)] := hl
  have hP : va_P D tkCl [(h0, .inr (4, oX5 r0 i0 (tul j0 16 chance)))] s.heap := hP
  unfold fX5_draw at hF
  refine lv_aload_n hx hb dX5_draw_0 rfl (lv_at hl 0 rfl) ?_
  refine lv_ldc2 hx hb hown (hts _ q1129) dX5_draw_1 ?_
  refine lv_aload_n hx hb dX5_draw_4 rfl (lv_at hl 0 rfl) ?_
  refine va_get (D := D) (ci := 4) (v := .long chance) (C := RX5) (T := TX5) (N := 18) hx hb hts in_X5 hown hK hP 0 rfl rfl 16 (by decide) (hts _ q384) (fun _ h9 => h9) rfl dX5_draw_5 ?_
  refine lv_lmul hx hb dX5_draw_8 ?_
  refine lv_ldc2 hx hb hown (hts _ q1130) dX5_draw_9 ?_
  refine lv_ladd hx hb dX5_draw_12 ?_
  refine lv_ldc2 hx hb hown (hts _ q1131) dX5_draw_13 ?_
  refine lv_lrem hx hb dX5_draw_16 (by decide) ?_
  obtain ⟨y1, ey1, hF⟩ := tk_pl hF
  refine W.eq (g2 := F0 m 17 ls [.long y1, .ref h0]) (by rw [ey1]) ?_
  refine va_put (D := D) (ci := 4) (v := .long y1) (ty := .long) (C := RX5) (T := TX5) (N := 18) hx hb hts in_X5 tyX5 tyX5_ok nmX5 hown hK hP hD hS 0 rfl rfl 16 (by decide) (hts _ q384) (fun _ h9 => h9) rfl (by decide +kernel) rfl rfl (Nat.le_of_ble_eq_true rfl) dX5_draw_17 (fun H locs hP hD hS => ?_)
  have hP : va_P D tkCl [(h0, .inr (4, oX5 r0 i0 (tul j0 16 y1)))] H := hP
  have hD : va_D A [(h0, .inr (4, oX5 r0 i0 (tul j0 16 y1)))] := hD
  refine lv_aload_n hx hb dX5_draw_20 rfl (lv_at hl 0 rfl) ?_
  refine va_get (D := D) (ci := 4) (v := .long y1) (C := RX5) (T := TX5) (N := 18) hx hb hts in_X5 hown hK hP 0 rfl rfl 16 (by decide) (hts _ q384) (fun _ h9 => h9) rfl dX5_draw_21 ?_
  refine lv_ldc2 hx hb hown (hts _ q1132) dX5_draw_24 ?_
  refine lv_ldiv hx hb dX5_draw_27 (by decide) ?_
  refine lv_iload_n hx hb dX5_draw_28 rfl (lv_at hl 1 rfl) ?_
  refine lv_i2l hx hb dX5_draw_29 rfl ?_
  obtain ⟨gd2, hF⟩ := tk_pg hF
  refine lv_lrem hx hb dX5_draw_30 gd2 ?_
  refine lv_l2i hx hb dX5_draw_31 rfl ?_
  have eo := tk_pr hF
  subst eo
  exact W.iret (v := ((y1 / 65536) - (y1 / 65536) / p0.toInt64 * p0.toInt64).toInt32) hx hb hr (fun t ht hW => ⟨⟨_, (), rfl, rfl, tk_pst ht hP hD⟩, hS.F ht⟩) hS.2.2 dX5_draw_32
set_option maxHeartbeats 4000000 in
theorem mX5_lower (l : Launch) (D : va_G) (ar : Nat → ClassId) (ad : Nat → Nat → Nat) (xs : va_W) (sz : Nat) (h0 : Nat) (r0 : Nat → Nat) (i0 : Nat → Int32) (j0 : Nat → Int64) (stone height : Nat → Int32) (p0 p1 : Int32) (o : Int32) (hF : fX5_lower stone height p0 p1 = some o) : Met l yX5_lower (ws_ yX5_lower cX5_lower 3 (some .int)) ({ frames := 0, cells := 0, slots := 0, locals := 0 }) (va_Pc [.ref h0, .int p0, .int p1] (tk_Pre D ar ad [] [(h0, .inr (4, oX5 r0 i0 j0)), ((r0 7), .inl (ar 2, 64, .inl stone)), ((r0 0), .inl (ar 0, 64, .inl height))] xs sz)) (va_Qi (fun (zr : Int32) (_ : Unit) => zr = o) (fun _ t => tk_Post D (va_A [] sz) [] t) (va_A [] sz)) 0 0 (va_A [] sz) := by
  refine Met.ofW (cc := cX5_lower) (maxL := 3) (ret := (some .int)) (by decide) rfl ?_
  intro p e s m args below meth c s₁ B hml hv
  obtain ⟨rfl, hsz, hP, hD0, hR, hX, hE⟩ := hv
  have hx := B.exec
  have hb := B.bytes
  have hr := B.returns
  have hts := atoms_spec (ws := (ws_ yX5_lower cX5_lower 3 (some .int))) B.pre
  have hts : ∀ w ∈ lw_all, w.before _ s = true := fun w h => hts w (List.mem_cons_of_mem _ h)
  have hown : s.vm.findClass RX5 = some m.cls := findClass_of_methodNamed B.named
  have hlocks := B.notSynchronized
  subst hsz
  have hD := hD0.self (sz := s.heap.size)
  generalize hAe : va_A [] s.heap.size = A at hD hR hX hE ⊢
  have hA : ∀ q : Nat, s.heap.size ≤ q → A q := fun q h => by rw [← hAe]; exact Or.inr h
  have hS : va_S A s.heap s.heap [] := va_S.rf
  have hK := hE.1
  have hl := lv_entry ([.ref h0, .int p0, .int p1]) (n := 3) (Nat.le_of_ble_eq_true rfl)
  rw [lg_entry_eq]
  generalize (lg_sl ([.ref h0, .int p0, .int p1]) ++ List.replicate (3 - (lg_sl ([.ref h0, .int p0, .int p1])).length) Slot.unset).toArray = ls at hl ⊢
  have hl : lv_has ls 3 [(0, .ref h0), (1, .int p0), (2, .int p1)] := hl
  have hP : va_P D tkCl [] s.heap := hP
  obtain ⟨n0, hF⟩ : ∃ n, tk_k (stX5_lower stone height) n (bX5_lower_0 stone height p0 p1) = some o := tk_fin_it hF
  have key : ∀ n : Nat, (∀ (x1 : Int32) (H : Heap) (locs : List Loc) (ls : Array Slot), tk_it (stX5_lower stone height) n (1, x1) = some o → va_P D tkCl [] H → va_D A [] → va_S A s.heap H locs → lv_has ls 3 [(1, .int x1)] → W p l e (headSpec (ws_ yX5_lower cX5_lower 3 (some .int)) ({ frames := 0, cells := 0, slots := 0, locals := 0 })).room s m ([.ref h0, .int p0, .int p1] : List Value).toArray below meth c H locs 0 0 (MQ below (va_Qi (fun (zr : Int32) (_ : Unit) => zr = o) (fun _ t => tk_Post D A [] t) A) ([.ref h0, .int p0, .int p1] : List Value).toArray s 0 0 A) (F0 m 29 ls [])) := by
    intro n
    induction n with
    | zero => exact fun x1 H locs ls hF => (by cases hF)
    | succ n ih =>
      have ih29 := ih
      intro x1 H locs ls hF hP hD hS hl
      have hF : tk_k (stX5_lower stone height) n (bX5_lower_1 stone height x1) = some o := hF
      unfold bX5_lower_1 at hF
      refine lv_iload_n hx hb dX5_lower_29 rfl (lv_at hl 0 rfl) ?_
      refine lv_goto (tgt := 34) hx hb dX5_lower_30 (by decide) ?_
      have eo := tk_kr hF
      subst eo
      exact W.iret (v := x1) hx hb hr (fun t ht hW => ⟨⟨_, (), rfl, rfl, tk_pst ht hP hD⟩, hS.F ht⟩) hS.2.2 dX5_lower_34
  have ih29 := key n0
  clear key
  unfold bX5_lower_0 at hF
  have hF : tk_k (stX5_lower stone height) n0 _ = some o := hF
  refine lv_aload_n hx hb dX5_lower_0 rfl (lv_at hl 0 rfl) ?_
  refine va_get (D := D) (ci := 4) (v := .ref (r0 7)) (C := RX5) (T := TX5) (N := 18) hx hb hts in_X5 hown hK (hR.at hS) 0 rfl rfl 7 (by decide) (hts _ q367) (fun _ h9 => h9) rfl dX5_lower_1 ?_
  refine lv_iload_n hx hb dX5_lower_4 rfl (lv_at hl 2 rfl) ?_
  obtain ⟨gd1, hF⟩ := tk_kg hF
  refine va_zald hx hb hK (hR.at hS) 1 2 rfl rfl gd1 dX5_lower_5 ?_
  refine lv_if_ne (tgt := 29) hx hb dX5_lower_6 (by decide) (fun c2 => ?_) (fun c2 => ?_)
  · have hF := tk_kf hF c2
    exact ih29 p0 _ _ _ hF hP hD hS (lv_sub hl [1] rfl)
  · have hF := tk_kt hF c2
    refine lv_iload_n hx hb dX5_lower_9 rfl (lv_at hl 1 rfl) ?_
    refine lv_iconst (v := (-1)) hx hb dX5_lower_10 (by decide) ?_
    refine lv_icmp_eq (tgt := 33) hx hb dX5_lower_11 (by decide) (fun c3 => ?_) (fun c3 => ?_)
    · have hF := tk_kt hF c3
      refine lv_iload_n hx hb dX5_lower_33 rfl (lv_at hl 2 rfl) ?_
      have eo := tk_kr hF
      subst eo
      exact W.iret (v := p1) hx hb hr (fun t ht hW => ⟨⟨_, (), rfl, rfl, tk_pst ht hP hD⟩, hS.F ht⟩) hS.2.2 dX5_lower_34
    · have hF := tk_kf hF c3
      refine lv_aload_n hx hb dX5_lower_14 rfl (lv_at hl 0 rfl) ?_
      refine va_get (D := D) (ci := 4) (v := .ref (r0 0)) (C := RX5) (T := TX5) (N := 18) hx hb hts in_X5 hown hK (hR.at hS) 0 rfl rfl 0 (by decide) (hts _ q355) (fun _ h9 => h9) rfl dX5_lower_15 ?_
      refine lv_iload_n hx hb dX5_lower_18 rfl (lv_at hl 1 rfl) ?_
      obtain ⟨gd4, hF⟩ := tk_kg hF
      refine va_iald hx hb hK (hR.at hS) 2 0 rfl rfl gd4 dX5_lower_19 ?_
      refine lv_aload_n hx hb dX5_lower_20 rfl (lv_at hl 0 rfl) ?_
      refine va_get (D := D) (ci := 4) (v := .ref (r0 0)) (C := RX5) (T := TX5) (N := 18) hx hb hts in_X5 hown hK (hR.at hS) 0 rfl rfl 0 (by decide) (hts _ q355) (fun _ h9 => h9) rfl dX5_lower_21 ?_
      refine lv_iload_n hx hb dX5_lower_24 rfl (lv_at hl 2 rfl) ?_
      refine va_iald hx hb hK (hR.at hS) 2 0 rfl rfl gd1 dX5_lower_25 ?_
      refine lv_icmp_gt (tgt := 33) hx hb dX5_lower_26 (by decide) (fun c5 => ?_) (fun c5 => ?_)
      · have hF := tk_kt hF c5
        refine lv_iload_n hx hb dX5_lower_33 rfl (lv_at hl 2 rfl) ?_
        have eo := tk_kr hF
        subst eo
        exact W.iret (v := p1) hx hb hr (fun t ht hW => ⟨⟨_, (), rfl, rfl, tk_pst ht hP hD⟩, hS.F ht⟩) hS.2.2 dX5_lower_34
      · have hF := tk_kf hF c5
        exact ih29 p0 _ _ _ hF hP hD hS (lv_sub hl [1] rfl)
set_option maxHeartbeats 4000000 in
theorem mX2_cells (l : Launch) (D : va_G) (ar : Nat → ClassId) (ad : Nat → Nat → Nat) (xs : va_W) (sz : Nat) (h0 : Nat) (r0 : Nat → Nat) (i0 : Nat → Int32) (columns rows : Int32) (o : Int32) (hF : fX2_cells columns rows = some o) : Met l yX2_cells (ws_ yX2_cells cX2_cells 1 (some .int)) ({ frames := 0, cells := 0, slots := 0, locals := 0 }) (va_Pc [.ref h0] (tk_Pre D ar ad [] [(h0, .inr (2, oX2 r0 (tu (tu i0 0 columns) 1 rows)))] xs sz)) (va_Qi (fun (zr : Int32) (_ : Unit) => zr = o) (fun _ t => tk_Post D (va_A [] sz) [] t) (va_A [] sz)) 0 0 (va_A [] sz) := by
  refine Met.ofW (cc := cX2_cells) (maxL := 1) (ret := (some .int)) (by decide) rfl ?_
  intro p e s m args below meth c s₁ B hml hv
  obtain ⟨rfl, hsz, hP, hD0, hR, hX, hE⟩ := hv
  have hx := B.exec
  have hb := B.bytes
  have hr := B.returns
  have hts := atoms_spec (ws := (ws_ yX2_cells cX2_cells 1 (some .int))) B.pre
  have hts : ∀ w ∈ lw_all, w.before _ s = true := fun w h => hts w (List.mem_cons_of_mem _ h)
  have hown : s.vm.findClass RX2 = some m.cls := findClass_of_methodNamed B.named
  have hlocks := B.notSynchronized
  subst hsz
  have hD := hD0.self (sz := s.heap.size)
  generalize hAe : va_A [] s.heap.size = A at hD hR hX hE ⊢
  have hA : ∀ q : Nat, s.heap.size ≤ q → A q := fun q h => by rw [← hAe]; exact Or.inr h
  have hS : va_S A s.heap s.heap [] := va_S.rf
  have hK := hE.1
  have hl := lv_entry ([.ref h0]) (n := 1) (Nat.le_of_ble_eq_true rfl)
  rw [lg_entry_eq]
  generalize (lg_sl ([.ref h0]) ++ List.replicate (1 - (lg_sl ([.ref h0])).length) Slot.unset).toArray = ls at hl ⊢
  have hl : lv_has ls 1 [(0, .ref h0)] := hl
  have hP : va_P D tkCl [] s.heap := hP
  unfold fX2_cells at hF
  refine lv_aload_n hx hb dX2_cells_0 rfl (lv_at hl 0 rfl) ?_
  refine va_get (D := D) (ci := 2) (v := .int columns) (C := RX2) (T := TX2) (N := 11) hx hb hts in_X2 hown hK (hR.at hS) 0 rfl rfl 0 (by decide) (hts _ q217) (fun _ h9 => h9) rfl dX2_cells_1 ?_
  refine lv_aload_n hx hb dX2_cells_4 rfl (lv_at hl 0 rfl) ?_
  refine va_get (D := D) (ci := 2) (v := .int rows) (C := RX2) (T := TX2) (N := 11) hx hb hts in_X2 hown hK (hR.at hS) 0 rfl rfl 1 (by decide) (hts _ q222) (fun _ h9 => h9) rfl dX2_cells_5 ?_
  refine lv_imul hx hb dX2_cells_8 ?_
  have eo := tk_pr hF
  subst eo
  exact W.iret (v := columns * rows) hx hb hr (fun t ht hW => ⟨⟨_, (), rfl, rfl, tk_pst ht hP hD⟩, hS.F ht⟩) hS.2.2 dX2_cells_9
set_option maxHeartbeats 4000000 in
theorem mX2_of (l : Launch) (D : va_G) (ar : Nat → ClassId) (ad : Nat → Nat → Nat) (xs : va_W) (sz : Nat) (h0 : Nat) (r0 : Nat → Nat) (i0 numbers : Nat → Int32) (p0 : Nat) (hk_p0 : p0 < 6) (o : Int32) (hF : fX2_of numbers p0 = some o) : Met l yX2_of (ws_ yX2_of cX2_of 2 (some .int)) ({ frames := 1, cells := 0, slots := 0, locals := 20 }) (va_Pc [.ref h0, .ref (ad 2 p0)] (tk_Pre D ar ad [] [(h0, .inr (2, oX2 r0 i0)), ((r0 7), .inl (ar 0, 6, .inl numbers))] xs sz)) (va_Qi (fun (zr : Int32) (_ : Unit) => zr = o) (fun _ t => tk_Post D (va_A [] sz) [] t) (va_A [] sz)) 0 0 (va_A [] sz) := by
  refine Met.ofW (cc := cX2_of) (maxL := 2) (ret := (some .int)) (by decide) rfl ?_
  intro p e s m args below meth c s₁ B hml hv
  obtain ⟨rfl, hsz, hP, hD0, hR, hX, hE⟩ := hv
  have hx := B.exec
  have hb := B.bytes
  have hr := B.returns
  have hts := atoms_spec (ws := (ws_ yX2_of cX2_of 2 (some .int))) B.pre
  have hts : ∀ w ∈ lw_all, w.before _ s = true := fun w h => hts w (List.mem_cons_of_mem _ h)
  have hown : s.vm.findClass RX2 = some m.cls := findClass_of_methodNamed B.named
  have hlocks := B.notSynchronized
  subst hsz
  have hD := hD0.self (sz := s.heap.size)
  generalize hAe : va_A [] s.heap.size = A at hD hR hX hE ⊢
  have hA : ∀ q : Nat, s.heap.size ≤ q → A q := fun q h => by rw [← hAe]; exact Or.inr h
  have hS : va_S A s.heap s.heap [] := va_S.rf
  have hK := hE.1
  have hl := lv_entry ([.ref h0, .ref (ad 2 p0)]) (n := 2) (Nat.le_of_ble_eq_true rfl)
  rw [lg_entry_eq]
  generalize (lg_sl ([.ref h0, .ref (ad 2 p0)]) ++ List.replicate (2 - (lg_sl ([.ref h0, .ref (ad 2 p0)])).length) Slot.unset).toArray = ls at hl ⊢
  have hl : lv_has ls 2 [(0, .ref h0), (1, .ref (ad 2 p0))] := hl
  have hP : va_P D tkCl [] s.heap := hP
  unfold fX2_of at hF
  refine lv_aload_n hx hb dX2_of_0 rfl (lv_at hl 0 rfl) ?_
  refine va_get (D := D) (ci := 2) (v := .ref (r0 7)) (C := RX2) (T := TX2) (N := 11) hx hb hts in_X2 hown hK (hR.at hS) 0 rfl rfl 7 (by decide) (hts _ q241) (fun _ h9 => h9) rfl dX2_of_1 ?_
  refine lv_aload_n hx hb dX2_of_4 rfl (lv_at hl 1 rfl) ?_
  refine va_calli (va_runU (As := []) (rest := [.ref (r0 7)]) ⟨hx, hb, hml, hown, hts⟩ (mJ2_ordinal (l := l) (D := D) (ar := ar) (ad := ad) (xs := xs) (sz := s.heap.size) (k := p0) hk_p0) (va_cwU (C := "TideKeep$Told") (owner := RJ2) (x := ⟨"TideKeep$Told", "ordinal", "()I"⟩) 0 hts (tk_lwU q201 q202 q204 q205 q93 q206) rfl rfl rfl rfl (by decide +kernel) ⟨(Nat.le_of_ble_eq_true rfl), (Nat.le_of_ble_eq_true rfl)⟩) ⟨tk_blind, hE.recv hS p0 hk_p0, fun U hU hW => ⟨rfl, tk_mk hP hD hS hA hE hR hX [] [] rfl rfl rfl rfl U hU hW⟩⟩ rfl rfl hl.1 rfl (lv_room (Nat.le_of_ble_eq_true rfl)) dX2_of_5 ⟨(Nat.le_of_ble_eq_true rfl), (Nat.le_of_ble_eq_true rfl)⟩) hS (fun q _ h => (va_free hD hS hA [] rfl) q h) (va_free hD hS hA [] rfl) (fun zr zu zt H1 zl zht zvm zw zB zz zk zS => ?_)
  obtain ⟨hP, hD⟩ := tk_join hP hD zk [] rfl rfl (va_free hD hS hA [] rfl) (zht ▸ zB.1) zB.2 (Nat.le_of_ble_eq_true rfl)
  have hS := zS
  have zw := Eq.symm zw
  subst zw
  generalize H1 = H at hP hS ⊢
  have hP : va_P D tkCl [] H := hP
  have hD : va_D A [] := hD
  obtain ⟨gd1, hF⟩ := tk_pg hF
  refine va_iald hx hb hK (hR.at hS) 1 0 rfl rfl gd1 dX2_of_8 ?_
  have eo := tk_pr hF
  subst eo
  exact W.iret (v := numbers (tk_ord.getD p0 0).toNatClampNeg) hx hb hr (fun t ht hW => ⟨⟨_, (), rfl, rfl, tk_pst ht hP hD⟩, hS.F ht⟩) hS.2.2 dX2_of_9
set_option maxHeartbeats 4000000 in
theorem mX2_strength (l : Launch) (D : va_G) (ar : Nat → ClassId) (ad : Nat → Nat → Nat) (xs : va_W) (sz : Nat) (p0 p1 p2 p3 : Int32) (o : Int32) (hF : fX2_strength p0 p1 p2 p3 = some o) : Met l yX2_strength (ws_ yX2_strength cX2_strength 4 (some .int)) ({ frames := 1, cells := 0, slots := 0, locals := 40 }) (va_Pc [.int p0, .int p1, .int p2, .int p3] (tk_Pre D ar ad [] [] xs sz)) (va_Qi (fun (zr : Int32) (_ : Unit) => zr = o) (fun _ t => tk_Post D (va_A [] sz) [] t) (va_A [] sz)) 0 0 (va_A [] sz) := by
  refine Met.ofW (cc := cX2_strength) (maxL := 4) (ret := (some .int)) (by decide) rfl ?_
  intro p e s m args below meth c s₁ B hml hv
  obtain ⟨rfl, hsz, hP, hD0, hR, hX, hE⟩ := hv
  have hx := B.exec
  have hb := B.bytes
  have hr := B.returns
  have hts := atoms_spec (ws := (ws_ yX2_strength cX2_strength 4 (some .int))) B.pre
  have hts : ∀ w ∈ lw_all, w.before _ s = true := fun w h => hts w (List.mem_cons_of_mem _ h)
  have hown : s.vm.findClass RX2 = some m.cls := findClass_of_methodNamed B.named
  have hlocks := B.notSynchronized
  subst hsz
  have hD := hD0.self (sz := s.heap.size)
  generalize hAe : va_A [] s.heap.size = A at hD hR hX hE ⊢
  have hA : ∀ q : Nat, s.heap.size ≤ q → A q := fun q h => by rw [← hAe]; exact Or.inr h
  have hS : va_S A s.heap s.heap [] := va_S.rf
  have hK := hE.1
  have hl := lv_entry ([.int p0, .int p1, .int p2, .int p3]) (n := 4) (Nat.le_of_ble_eq_true rfl)
  rw [lg_entry_eq]
  generalize (lg_sl ([.int p0, .int p1, .int p2, .int p3]) ++ List.replicate (4 - (lg_sl ([.int p0, .int p1, .int p2, .int p3])).length) Slot.unset).toArray = ls at hl ⊢
  have hl : lv_has ls 4 [(0, .int p0), (1, .int p1), (2, .int p2), (3, .int p3)] := hl
  have hP : va_P D tkCl [] s.heap := hP
  obtain ⟨n0, hF⟩ : ∃ n, tk_k (stX2_strength ) n (bX2_strength_0 p0 p1 p2 p3) = some o := tk_fin_it hF
  have key : ∀ n : Nat, (∀  (H : Heap) (locs : List Loc) (ls : Array Slot), tk_it (stX2_strength ) n (1, ()) = some o → va_P D tkCl [] H → va_D A [] → va_S A s.heap H locs → lv_has ls 4 [] → W p l e (headSpec (ws_ yX2_strength cX2_strength 4 (some .int)) ({ frames := 1, cells := 0, slots := 0, locals := 40 })).room s m ([.int p0, .int p1, .int p2, .int p3] : List Value).toArray below meth c H locs 0 0 (MQ below (va_Qi (fun (zr : Int32) (_ : Unit) => zr = o) (fun _ t => tk_Post D A [] t) A) ([.int p0, .int p1, .int p2, .int p3] : List Value).toArray s 0 0 A) (F0 m 10 ls [])) := by
    intro n
    induction n with
    | zero => exact fun  H locs ls hF => (by cases hF)
    | succ n ih =>
      have ih10 := ih
      intro  H locs ls hF hP hD hS hl
      have hF : tk_k (stX2_strength ) n (bX2_strength_1  ) = some o := hF
      unfold bX2_strength_1 at hF
      refine lv_iconst (v := 0) hx hb dX2_strength_10 (by decide) ?_
      refine lv_goto (tgt := 28) hx hb dX2_strength_11 (by decide) ?_
      have eo := tk_kr hF
      subst eo
      exact W.iret (v := 0) hx hb hr (fun t ht hW => ⟨⟨_, (), rfl, rfl, tk_pst ht hP hD⟩, hS.F ht⟩) hS.2.2 dX2_strength_28
  have ih10 := key n0
  clear key
  unfold bX2_strength_0 at hF
  have hF : tk_k (stX2_strength ) n0 _ = some o := hF
  refine lv_iload_n hx hb dX2_strength_0 rfl (lv_at hl 0 rfl) ?_
  refine lv_if_eq (tgt := 10) hx hb dX2_strength_1 (by decide) (fun c1 => ?_) (fun c1 => ?_)
  · have hF := tk_kt hF c1
    exact ih10  _ _ _ hF hP hD hS (lv_sub hl [] rfl)
  · have hF := tk_kf hF c1
    refine lv_iload_n hx hb dX2_strength_4 rfl (lv_at hl 0 rfl) ?_
    refine lv_bipush (v := 16) hx hb dX2_strength_5 (by decide) ?_
    refine lv_icmp_ne (tgt := 14) hx hb dX2_strength_7 (by decide) (fun c2 => ?_) (fun c2 => ?_)
    · have hF := tk_kf hF c2
      refine lv_iconst (v := 0) hx hb dX2_strength_14 (by decide) ?_
      refine lv_iload_n hx hb dX2_strength_15 rfl (lv_at hl 2 rfl) ?_
      refine lv_iload_n hx hb dX2_strength_16 rfl (lv_at hl 3 rfl) ?_
      refine lv_iload_n hx hb dX2_strength_17 rfl (lv_at hl 0 rfl) ?_
      refine lv_iload_n hx hb dX2_strength_18 rfl (lv_at hl 1 rfl) ?_
      refine lv_isub hx hb dX2_strength_19 ?_
      refine va_mabs hx hb (hml.trans hl.1.symm) hown (hts _ q1162) (hts _ q1163) (hts _ q111) (hts _ q1164) (Nat.le_of_ble_eq_true rfl) (Nat.le_of_ble_eq_true rfl) (Nat.le_of_ble_eq_true rfl) (Nat.le_of_ble_eq_true rfl) dX2_strength_20 ?_
      refine lv_imul hx hb dX2_strength_23 ?_
      refine lv_isub hx hb dX2_strength_24 ?_
      obtain ⟨y3, ey3, hF⟩ := tk_kl hF
      refine W.eq (g2 := F0 m 25 ls [.int y3, .int 0]) (by rw [ey3]) ?_
      refine va_mmax hx hb (hml.trans hl.1.symm) hown (hts _ q1165) (hts _ q846) (hts _ q111) (hts _ q847) (Nat.le_of_ble_eq_true rfl) (Nat.le_of_ble_eq_true rfl) (Nat.le_of_ble_eq_true rfl) (Nat.le_of_ble_eq_true rfl) dX2_strength_25 ?_
      have eo := tk_kr hF
      subst eo
      exact W.iret (v := (if 0 < y3 then y3 else 0)) hx hb hr (fun t ht hW => ⟨⟨_, (), rfl, rfl, tk_pst ht hP hD⟩, hS.F ht⟩) hS.2.2 dX2_strength_28
    · have hF := tk_kt hF c2
      exact ih10  _ _ _ hF hP hD hS (lv_sub hl [] rfl)
set_option maxHeartbeats 4000000 in
theorem mX2_holds (l : Launch) (D : va_G) (ar : Nat → ClassId) (ad : Nat → Nat → Nat) (xs : va_W) (sz : Nat) (h0 : Nat) (r0 : Nat → Nat) (i0 : Nat → Int32) (best top loss : Int32) (numbers : Nat → Int32) (p0 p1 : Int32) (o : Int32) (hF : fX2_holds best top loss numbers p0 p1 = some o) : Met l yX2_holds (ws_ yX2_holds cX2_holds 3 (some .int)) ({ frames := 2, cells := 0, slots := 0, locals := 63 }) (va_Pc [.ref h0, .int p0, .int p1] (tk_Pre D ar ad [] [(h0, .inr (2, oX2 r0 (tu (tu (tu i0 2 best) 3 top) 4 loss))), ((r0 7), .inl (ar 0, 6, .inl numbers))] xs sz)) (va_Qi (fun (zr : Int32) (_ : Unit) => zr = o) (fun _ t => tk_Post D (va_A [] sz) [] t) (va_A [] sz)) 0 0 (va_A [] sz) := by
  refine Met.ofW (cc := cX2_holds) (maxL := 3) (ret := (some .int)) (by decide) rfl ?_
  intro p e s m args below meth c s₁ B hml hv
  obtain ⟨rfl, hsz, hP, hD0, hR, hX, hE⟩ := hv
  have hx := B.exec
  have hb := B.bytes
  have hr := B.returns
  have hts := atoms_spec (ws := (ws_ yX2_holds cX2_holds 3 (some .int))) B.pre
  have hts : ∀ w ∈ lw_all, w.before _ s = true := fun w h => hts w (List.mem_cons_of_mem _ h)
  have hown : s.vm.findClass RX2 = some m.cls := findClass_of_methodNamed B.named
  have hlocks := B.notSynchronized
  subst hsz
  have hD := hD0.self (sz := s.heap.size)
  generalize hAe : va_A [] s.heap.size = A at hD hR hX hE ⊢
  have hA : ∀ q : Nat, s.heap.size ≤ q → A q := fun q h => by rw [← hAe]; exact Or.inr h
  have hS : va_S A s.heap s.heap [] := va_S.rf
  have hK := hE.1
  have hl := lv_entry ([.ref h0, .int p0, .int p1]) (n := 3) (Nat.le_of_ble_eq_true rfl)
  rw [lg_entry_eq]
  generalize (lg_sl ([.ref h0, .int p0, .int p1]) ++ List.replicate (3 - (lg_sl ([.ref h0, .int p0, .int p1])).length) Slot.unset).toArray = ls at hl ⊢
  have hl : lv_has ls 3 [(0, .ref h0), (1, .int p0), (2, .int p1)] := hl
  have hP : va_P D tkCl [] s.heap := hP
  unfold fX2_holds at hF
  refine lv_iconst (v := 1) hx hb dX2_holds_0 (by decide) ?_
  refine lv_iload_n hx hb dX2_holds_1 rfl (lv_at hl 1 rfl) ?_
  refine lv_aload_n hx hb dX2_holds_2 rfl (lv_at hl 0 rfl) ?_
  refine va_get (D := D) (ci := 2) (v := .int best) (C := RX2) (T := TX2) (N := 11) hx hb hts in_X2 hown hK (hR.at hS) 0 rfl rfl 2 (by decide) (hts _ q227) (fun _ h9 => h9) rfl dX2_holds_3 ?_
  refine lv_aload_n hx hb dX2_holds_6 rfl (lv_at hl 0 rfl) ?_
  refine va_get (D := D) (ci := 2) (v := .int top) (C := RX2) (T := TX2) (N := 11) hx hb hts in_X2 hown hK (hR.at hS) 0 rfl rfl 3 (by decide) (hts _ q230) (fun _ h9 => h9) rfl dX2_holds_7 ?_
  refine lv_aload_n hx hb dX2_holds_10 rfl (lv_at hl 0 rfl) ?_
  refine va_get (D := D) (ci := 2) (v := .int loss) (C := RX2) (T := TX2) (N := 11) hx hb hts in_X2 hown hK (hR.at hS) 0 rfl rfl 4 (by decide) (hts _ q233) (fun _ h9 => h9) rfl dX2_holds_11 ?_
  obtain ⟨u1, hGu1, hF⟩ := tk_pb hF
  refine va_calli (va_runS (As := [.int p0, .int best, .int top, .int loss]) (rest := [.int 1]) ⟨hx, hb, hml, hown, hts⟩ (mX2_strength (l := l) (D := D) (ar := ar) (ad := ad) (xs := xs) (sz := s.heap.size) (p0 := p0) (p1 := best) (p2 := top) (p3 := loss) (hF := hGu1)) (va_cwS 4 hts (lw_S q1159 q1160 q92 q1161) rfl rfl rfl (by decide +kernel) ⟨(Nat.le_of_ble_eq_true rfl), (Nat.le_of_ble_eq_true rfl)⟩) ⟨tk_blind, fun U hU hW => ⟨rfl, tk_mk hP hD hS hA hE hR hX [] [] rfl rfl rfl rfl U hU hW⟩⟩ rfl rfl hl.1 rfl (lv_room (Nat.le_of_ble_eq_true rfl)) dX2_holds_14 ⟨(Nat.le_of_ble_eq_true rfl), (Nat.le_of_ble_eq_true rfl)⟩) hS (fun q _ h => (va_free hD hS hA [] rfl) q h) (va_free hD hS hA [] rfl) (fun zr zu zt H1 zl zht zvm zw zB zz zk zS => ?_)
  obtain ⟨hP, hD⟩ := tk_join hP hD zk [] rfl rfl (va_free hD hS hA [] rfl) (zht ▸ zB.1) zB.2 (Nat.le_of_ble_eq_true rfl)
  have hS := zS
  have zw := Eq.symm zw
  subst zw
  generalize H1 = H at hP hS ⊢
  have hP : va_P D tkCl [] H := hP
  have hD : va_D A [] := hD
  refine lv_iadd hx hb dX2_holds_17 ?_
  refine lv_aload_n hx hb dX2_holds_18 rfl (lv_at hl 0 rfl) ?_
  refine va_gets (n := "PACK") hx hb (hE.z 1 (by decide)) hS hown (hts _ q207) (fun _ h9 => h9) dX2_holds_19 ?_
  obtain ⟨u2, hGu2, hF⟩ := tk_pb hF
  refine va_calli (va_runV (As := [.ref (ad 2 1)]) (rest := [.int (1 + u1)]) ⟨hx, hb, hml, hown, hts⟩ (mX2_of (l := l) (D := D) (ar := ar) (ad := ad) (xs := xs) (sz := H.size) (h0 := h0) (r0 := r0) (i0 := (tu (tu (tu i0 2 best) 3 top) 4 loss)) (numbers := numbers) (p0 := 1) (hk_p0 := by decide) (hF := hGu2)) (cwV 1 hts (lw_V q1166 q435 q436 q92 q437) rfl rfl rfl (by decide +kernel) ⟨(Nat.le_of_ble_eq_true rfl), (Nat.le_of_ble_eq_true rfl)⟩) ⟨tk_blind, va_recv hK (hR.at hS) (ci := 2) (q0 := 0) rfl rfl, fun U hU hW => ⟨rfl, tk_mk hP hD hS hA hE hR hX [] [0, 1] rfl rfl rfl rfl U hU hW⟩⟩ rfl rfl hl.1 rfl (lv_room (Nat.le_of_ble_eq_true rfl)) dX2_holds_22 ⟨(Nat.le_of_ble_eq_true rfl), (Nat.le_of_ble_eq_true rfl)⟩) hS (fun q _ h => (va_free hD hS hA [] rfl) q h) (va_free hD hS hA [] rfl) (fun zr zu zt H1 zl zht zvm zw zB zz zk zS => ?_)
  obtain ⟨hP, hD⟩ := tk_join hP hD zk [] rfl rfl (va_free hD hS hA [] rfl) (zht ▸ zB.1) zB.2 (Nat.le_of_ble_eq_true rfl)
  have hS := zS
  have zw := Eq.symm zw
  subst zw
  generalize H1 = H at hP hS ⊢
  have hP : va_P D tkCl [] H := hP
  have hD : va_D A [] := hD
  refine lv_iload_n hx hb dX2_holds_25 rfl (lv_at hl 2 rfl) ?_
  refine lv_imul hx hb dX2_holds_26 ?_
  refine lv_iadd hx hb dX2_holds_27 ?_
  have eo := tk_pr hF
  subst eo
  exact W.iret (v := (1 + u1) + (u2 * p1)) hx hb hr (fun t ht hW => ⟨⟨_, (), rfl, rfl, tk_pst ht hP hD⟩, hS.F ht⟩) hS.2.2 dX2_holds_28
set_option maxHeartbeats 4000000 in
theorem mX5_holds (l : Launch) (D : va_G) (ar : Nat → ClassId) (ad : Nat → Nat → Nat) (xs : va_W) (sz : Nat) (h0 : Nat) (r0 : Nat → Nat) (i0 : Nat → Int32) (j0 : Nat → Int64) (r1 : Nat → Nat) (i1 : Nat → Int32) (r2 : Nat → Nat) (i2 wet pack : Nat → Int32) (best top loss : Int32) (numbers : Nat → Int32) (p0 : Int32) (o : Int32) (hF : fX5_holds wet pack best top loss numbers p0 = some o) : Met l yX5_holds (ws_ yX5_holds cX5_holds 2 (some .int)) ({ frames := 3, cells := 0, slots := 0, locals := 85 }) (va_Pc [.ref h0, .int p0] (tk_Pre D ar ad [] [(h0, .inr (4, oX5 r0 i0 j0)), ((r0 17), .inr (0, oX0 r1 i1)), ((r0 1), .inl (ar 0, 64, .inl wet)), ((r0 2), .inl (ar 0, 64, .inl pack)), ((r1 5), .inr (2, oX2 r2 (tu (tu (tu i2 2 best) 3 top) 4 loss))), ((r2 7), .inl (ar 0, 6, .inl numbers))] xs sz)) (va_Qi (fun (zr : Int32) (_ : Unit) => zr = o) (fun _ t => tk_Post D (va_A [] sz) [] t) (va_A [] sz)) 0 0 (va_A [] sz) := by
  refine Met.ofW (cc := cX5_holds) (maxL := 2) (ret := (some .int)) (by decide) rfl ?_
  intro p e s m args below meth c s₁ B hml hv
  obtain ⟨rfl, hsz, hP, hD0, hR, hX, hE⟩ := hv
  have hx := B.exec
  have hb := B.bytes
  have hr := B.returns
  have hts := atoms_spec (ws := (ws_ yX5_holds cX5_holds 2 (some .int))) B.pre
  have hts : ∀ w ∈ lw_all, w.before _ s = true := fun w h => hts w (List.mem_cons_of_mem _ h)
  have hown : s.vm.findClass RX5 = some m.cls := findClass_of_methodNamed B.named
  have hlocks := B.notSynchronized
  subst hsz
  have hD := hD0.self (sz := s.heap.size)
  generalize hAe : va_A [] s.heap.size = A at hD hR hX hE ⊢
  have hA : ∀ q : Nat, s.heap.size ≤ q → A q := fun q h => by rw [← hAe]; exact Or.inr h
  have hS : va_S A s.heap s.heap [] := va_S.rf
  have hK := hE.1
  have hl := lv_entry ([.ref h0, .int p0]) (n := 2) (Nat.le_of_ble_eq_true rfl)
  rw [lg_entry_eq]
  generalize (lg_sl ([.ref h0, .int p0]) ++ List.replicate (2 - (lg_sl ([.ref h0, .int p0])).length) Slot.unset).toArray = ls at hl ⊢
  have hl : lv_has ls 2 [(0, .ref h0), (1, .int p0)] := hl
  have hP : va_P D tkCl [] s.heap := hP
  unfold fX5_holds at hF
  refine lv_aload_n hx hb dX5_holds_0 rfl (lv_at hl 0 rfl) ?_
  refine va_get (D := D) (ci := 4) (v := .ref (r0 17)) (C := RX5) (T := TX5) (N := 18) hx hb hts in_X5 hown hK (hR.at hS) 0 rfl rfl 17 (by decide) (hts _ q386) (fun _ h9 => h9) rfl dX5_holds_1 ?_
  refine va_getN (D := D) (ci := 0) (v := .ref (r1 5)) (C := RX0) (T := TX0) (N := 25) hx hb hts in_X0 hown hK (hR.at hS) 1 rfl rfl 5 (by decide) (hE.2.1.use q456 rfl rfl) (fun _ h9 => h9) rfl dX5_holds_4 ?_
  refine lv_aload_n hx hb dX5_holds_7 rfl (lv_at hl 0 rfl) ?_
  refine va_get (D := D) (ci := 4) (v := .ref (r0 1)) (C := RX5) (T := TX5) (N := 18) hx hb hts in_X5 hown hK (hR.at hS) 0 rfl rfl 1 (by decide) (hts _ q357) (fun _ h9 => h9) rfl dX5_holds_8 ?_
  refine lv_iload_n hx hb dX5_holds_11 rfl (lv_at hl 1 rfl) ?_
  obtain ⟨gd1, hF⟩ := tk_pg hF
  refine va_iald hx hb hK (hR.at hS) 2 0 rfl rfl gd1 dX5_holds_12 ?_
  refine lv_aload_n hx hb dX5_holds_13 rfl (lv_at hl 0 rfl) ?_
  refine va_get (D := D) (ci := 4) (v := .ref (r0 2)) (C := RX5) (T := TX5) (N := 18) hx hb hts in_X5 hown hK (hR.at hS) 0 rfl rfl 2 (by decide) (hts _ q359) (fun _ h9 => h9) rfl dX5_holds_14 ?_
  refine lv_iload_n hx hb dX5_holds_17 rfl (lv_at hl 1 rfl) ?_
  refine va_iald hx hb hK (hR.at hS) 3 0 rfl rfl gd1 dX5_holds_18 ?_
  obtain ⟨u2, hGu2, hF⟩ := tk_pb hF
  refine va_calli (va_runV (As := [.int (wet p0.toNatClampNeg), .int (pack p0.toNatClampNeg)]) (rest := []) ⟨hx, hb, hml, hown, hts⟩ (mX2_holds (l := l) (D := D) (ar := ar) (ad := ad) (xs := xs) (sz := s.heap.size) (h0 := (r1 5)) (r0 := r2) (i0 := (tu (tu (tu i2 2 best) 3 top) 4 loss)) (best := best) (top := top) (loss := loss) (numbers := numbers) (p0 := wet p0.toNatClampNeg) (p1 := pack p0.toNatClampNeg) (hF := hGu2)) (cwV 2 hts (lw_V q1155 q1156 q1157 q92 q1158) rfl rfl rfl (by decide +kernel) ⟨(Nat.le_of_ble_eq_true rfl), (Nat.le_of_ble_eq_true rfl)⟩) ⟨tk_blind, va_recv hK (hR.at hS) (ci := 2) (q0 := 4) rfl rfl, fun U hU hW => ⟨rfl, tk_mk hP hD hS hA hE hR hX [] [4, 5] rfl rfl rfl rfl U hU hW⟩⟩ rfl rfl hl.1 rfl (lv_room (Nat.le_of_ble_eq_true rfl)) dX5_holds_19 ⟨(Nat.le_of_ble_eq_true rfl), (Nat.le_of_ble_eq_true rfl)⟩) hS (fun q _ h => (va_free hD hS hA [] rfl) q h) (va_free hD hS hA [] rfl) (fun zr zu zt H1 zl zht zvm zw zB zz zk zS => ?_)
  obtain ⟨hP, hD⟩ := tk_join hP hD zk [] rfl rfl (va_free hD hS hA [] rfl) (zht ▸ zB.1) zB.2 (Nat.le_of_ble_eq_true rfl)
  have hS := zS
  have zw := Eq.symm zw
  subst zw
  generalize H1 = H at hP hS ⊢
  have hP : va_P D tkCl [] H := hP
  have hD : va_D A [] := hD
  have eo := tk_pr hF
  subst eo
  exact W.iret (v := u2) hx hb hr (fun t ht hW => ⟨⟨_, (), rfl, rfl, tk_pst ht hP hD⟩, hS.F ht⟩) hS.2.2 dX5_holds_22
set_option maxHeartbeats 4000000 in
theorem mX5_lowest (l : Launch) (D : va_G) (ar : Nat → ClassId) (ad : Nat → Nat → Nat) (xs : va_W) (sz : Nat) (h0 : Nat) (r0 : Nat → Nat) (i0 : Nat → Int32) (j0 : Nat → Int64) (r1 : Nat → Nat) (i1 : Nat → Int32) (r2 : Nat → Nat) (i2 : Nat → Int32) (columns rows : Int32) (stone height : Nat → Int32) (p0 : Int32) (o : Int32) (hF : fX5_lowest columns rows stone height p0 = some o) : Met l yX5_lowest (ws_ yX5_lowest cX5_lowest 4 (some .int)) ({ frames := 1, cells := 0, slots := 0, locals := 22 }) (va_Pc [.ref h0, .int p0] (tk_Pre D ar ad [] [(h0, .inr (4, oX5 r0 i0 j0)), ((r0 17), .inr (0, oX0 r1 i1)), ((r1 5), .inr (2, oX2 r2 (tu (tu i2 0 columns) 1 rows))), ((r0 7), .inl (ar 2, 64, .inl stone)), ((r0 0), .inl (ar 0, 64, .inl height))] xs sz)) (va_Qi (fun (zr : Int32) (_ : Unit) => zr = o) (fun _ t => tk_Post D (va_A [] sz) [] t) (va_A [] sz)) 0 0 (va_A [] sz) := by
  refine Met.ofW (cc := cX5_lowest) (maxL := 4) (ret := (some .int)) (by decide) rfl ?_
  intro p e s m args below meth c s₁ B hml hv
  obtain ⟨rfl, hsz, hP, hD0, hR, hX, hE⟩ := hv
  have hx := B.exec
  have hb := B.bytes
  have hr := B.returns
  have hts := atoms_spec (ws := (ws_ yX5_lowest cX5_lowest 4 (some .int))) B.pre
  have hts : ∀ w ∈ lw_all, w.before _ s = true := fun w h => hts w (List.mem_cons_of_mem _ h)
  have hown : s.vm.findClass RX5 = some m.cls := findClass_of_methodNamed B.named
  have hlocks := B.notSynchronized
  subst hsz
  have hD := hD0.self (sz := s.heap.size)
  generalize hAe : va_A [] s.heap.size = A at hD hR hX hE ⊢
  have hA : ∀ q : Nat, s.heap.size ≤ q → A q := fun q h => by rw [← hAe]; exact Or.inr h
  have hS : va_S A s.heap s.heap [] := va_S.rf
  have hK := hE.1
  have hl := lv_entry ([.ref h0, .int p0]) (n := 4) (Nat.le_of_ble_eq_true rfl)
  rw [lg_entry_eq]
  generalize (lg_sl ([.ref h0, .int p0]) ++ List.replicate (4 - (lg_sl ([.ref h0, .int p0])).length) Slot.unset).toArray = ls at hl ⊢
  have hl : lv_has ls 4 [(0, .ref h0), (1, .int p0)] := hl
  have hP : va_P D tkCl [] s.heap := hP
  obtain ⟨n0, hF⟩ : ∃ n, tk_k (stX5_lowest columns rows stone height) n (bX5_lowest_0 columns rows stone height p0) = some o := tk_fin_it hF
  have key : ∀ n : Nat, (∀ (x1 x2 x3 : Int32) (H : Heap) (locs : List Loc) (ls : Array Slot), tk_it (stX5_lowest columns rows stone height) n (1, (x1, x2, x3)) = some o → va_P D tkCl [] H → va_D A [] → va_S A s.heap H locs → lv_has ls 4 [(0, .ref h0), (1, .int x1), (2, .int x2), (3, .int x3)] → W p l e (headSpec (ws_ yX5_lowest cX5_lowest 4 (some .int)) ({ frames := 1, cells := 0, slots := 0, locals := 22 })).room s m ([.ref h0, .int p0] : List Value).toArray below meth c H locs 0 0 (MQ below (va_Qi (fun (zr : Int32) (_ : Unit) => zr = o) (fun _ t => tk_Post D A [] t) A) ([.ref h0, .int p0] : List Value).toArray s 0 0 A) (F0 m 27 ls [])) ∧ (∀ (x1 x2 x3 : Int32) (H : Heap) (locs : List Loc) (ls : Array Slot), tk_it (stX5_lowest columns rows stone height) n (2, (x1, x2, x3)) = some o → va_P D tkCl [] H → va_D A [] → va_S A s.heap H locs → lv_has ls 4 [(0, .ref h0), (1, .int x1), (2, .int x2), (3, .int x3)] → W p l e (headSpec (ws_ yX5_lowest cX5_lowest 4 (some .int)) ({ frames := 1, cells := 0, slots := 0, locals := 22 })).room s m ([.ref h0, .int p0] : List Value).toArray below meth c H locs 0 0 (MQ below (va_Qi (fun (zr : Int32) (_ : Unit) => zr = o) (fun _ t => tk_Post D A [] t) A) ([.ref h0, .int p0] : List Value).toArray s 0 0 A) (F0 m 42 ls [])) ∧ (∀ (x1 x2 x3 : Int32) (H : Heap) (locs : List Loc) (ls : Array Slot), tk_it (stX5_lowest columns rows stone height) n (3, (x1, x2, x3)) = some o → va_P D tkCl [] H → va_D A [] → va_S A s.heap H locs → lv_has ls 4 [(0, .ref h0), (1, .int x1), (2, .int x2), (3, .int x3)] → W p l e (headSpec (ws_ yX5_lowest cX5_lowest 4 (some .int)) ({ frames := 1, cells := 0, slots := 0, locals := 22 })).room s m ([.ref h0, .int p0] : List Value).toArray below meth c H locs 0 0 (MQ below (va_Qi (fun (zr : Int32) (_ : Unit) => zr = o) (fun _ t => tk_Post D A [] t) A) ([.ref h0, .int p0] : List Value).toArray s 0 0 A) (F0 m 60 ls [])) := by
    intro n
    induction n with
    | zero => exact ⟨fun x1 x2 x3 H locs ls hF => (by cases hF), fun x1 x2 x3 H locs ls hF => (by cases hF), fun x1 x2 x3 H locs ls hF => (by cases hF)⟩
    | succ n ih =>
      obtain ⟨ih27, ih42, ih60⟩ := ih
      refine ⟨?_, ?_, ?_⟩
      · intro x1 x2 x3 H locs ls hF hP hD hS hl
        have hF : tk_k (stX5_lowest columns rows stone height) n (bX5_lowest_1 columns rows stone height x1 x2 x3) = some o := hF
        unfold bX5_lowest_1 at hF
        refine lv_iload_n hx hb dX5_lowest_27 rfl (lv_at hl 1 rfl) ?_
        refine lv_iload_n hx hb dX5_lowest_28 rfl (lv_at hl 2 rfl) ?_
        obtain ⟨gd3, hF⟩ := tk_kg hF
        refine lv_irem hx hb dX5_lowest_29 gd3 ?_
        refine lv_if_le (tgt := 42) hx hb dX5_lowest_30 (by decide) (fun c4 => ?_) (fun c4 => ?_)
        · have hF := tk_kt hF c4
          exact ih42 x1 x2 x3 _ _ _ hF hP hD hS (lv_sub hl [0, 1, 2, 3] rfl)
        · have hF := tk_kf hF c4
          refine lv_aload_n hx hb dX5_lowest_33 rfl (lv_at hl 0 rfl) ?_
          refine lv_iload_n hx hb dX5_lowest_34 rfl (lv_at hl 3 rfl) ?_
          refine lv_iload_n hx hb dX5_lowest_35 rfl (lv_at hl 1 rfl) ?_
          refine lv_iconst (v := 1) hx hb dX5_lowest_36 (by decide) ?_
          refine lv_isub hx hb dX5_lowest_37 ?_
          obtain ⟨u5, hGu5, hF⟩ := tk_kb hF
          refine va_calli (va_runV (As := [.int x3, .int (x1 - 1)]) (rest := []) ⟨hx, hb, hml, hown, hts⟩ (mX5_lower (l := l) (D := D) (ar := ar) (ad := ad) (xs := xs) (sz := H.size) (h0 := h0) (r0 := r0) (i0 := i0) (j0 := j0) (stone := stone) (height := height) (p0 := x3) (p1 := x1 - 1) (hF := hGu5)) (cwV 2 hts (lw_V q1147 q1149 qs20 q99 q1150) rfl rfl rfl (by decide +kernel) ⟨(Nat.le_of_ble_eq_true rfl), (Nat.le_of_ble_eq_true rfl)⟩) ⟨tk_blind, va_recv hK (hR.at hS) (ci := 4) (q0 := 0) rfl rfl, fun U hU hW => ⟨rfl, tk_mk hP hD hS hA hE hR hX [] [0, 3, 4] rfl rfl rfl rfl U hU hW⟩⟩ rfl rfl hl.1 rfl (lv_room (Nat.le_of_ble_eq_true rfl)) dX5_lowest_38 ⟨(Nat.le_of_ble_eq_true rfl), (Nat.le_of_ble_eq_true rfl)⟩) hS (fun q _ h => (va_free hD hS hA [] rfl) q h) (va_free hD hS hA [] rfl) (fun zr zu zt H1 zl zht zvm zw zB zz zk zS => ?_)
          obtain ⟨hP, hD⟩ := tk_join hP hD zk [] rfl rfl (va_free hD hS hA [] rfl) (zht ▸ zB.1) zB.2 (Nat.le_of_ble_eq_true rfl)
          have hS := zS
          have zw := Eq.symm zw
          subst zw
          generalize H1 = H at hP hS ⊢
          have hP : va_P D tkCl [] H := hP
          have hD : va_D A [] := hD
          refine lv_istore_n (lv' := [(3, .int u5), (0, .ref h0), (1, .int x1), (2, .int x2)]) hx hb dX5_lowest_41 rfl hl (Nat.le_of_ble_eq_true rfl) rfl (fun ls hl => ?_)
          exact ih42 x1 x2 u5 _ _ _ hF hP hD hS (lv_sub hl [1, 2, 3, 0] rfl)
      · intro x1 x2 x3 H locs ls hF hP hD hS hl
        have hF : tk_k (stX5_lowest columns rows stone height) n (bX5_lowest_2 columns rows stone height x1 x2 x3) = some o := hF
        unfold bX5_lowest_2 at hF
        refine lv_iload_n hx hb dX5_lowest_42 rfl (lv_at hl 1 rfl) ?_
        refine lv_iload_n hx hb dX5_lowest_43 rfl (lv_at hl 2 rfl) ?_
        obtain ⟨gd6, hF⟩ := tk_kg hF
        refine lv_irem hx hb dX5_lowest_44 gd6 ?_
        refine lv_iconst (v := 1) hx hb dX5_lowest_45 (by decide) ?_
        refine lv_iadd hx hb dX5_lowest_46 ?_
        refine lv_iload_n hx hb dX5_lowest_47 rfl (lv_at hl 2 rfl) ?_
        refine lv_icmp_ge (tgt := 60) hx hb dX5_lowest_48 (by decide) (fun c7 => ?_) (fun c7 => ?_)
        · have hF := tk_kt hF c7
          exact ih60 x1 x2 x3 _ _ _ hF hP hD hS (lv_sub hl [0, 1, 2, 3] rfl)
        · have hF := tk_kf hF c7
          refine lv_aload_n hx hb dX5_lowest_51 rfl (lv_at hl 0 rfl) ?_
          refine lv_iload_n hx hb dX5_lowest_52 rfl (lv_at hl 3 rfl) ?_
          refine lv_iload_n hx hb dX5_lowest_53 rfl (lv_at hl 1 rfl) ?_
          refine lv_iconst (v := 1) hx hb dX5_lowest_54 (by decide) ?_
          refine lv_iadd hx hb dX5_lowest_55 ?_
          obtain ⟨u8, hGu8, hF⟩ := tk_kb hF
          refine va_calli (va_runV (As := [.int x3, .int (x1 + 1)]) (rest := []) ⟨hx, hb, hml, hown, hts⟩ (mX5_lower (l := l) (D := D) (ar := ar) (ad := ad) (xs := xs) (sz := H.size) (h0 := h0) (r0 := r0) (i0 := i0) (j0 := j0) (stone := stone) (height := height) (p0 := x3) (p1 := x1 + 1) (hF := hGu8)) (cwV 2 hts (lw_V q1147 q1149 qs20 q99 q1150) rfl rfl rfl (by decide +kernel) ⟨(Nat.le_of_ble_eq_true rfl), (Nat.le_of_ble_eq_true rfl)⟩) ⟨tk_blind, va_recv hK (hR.at hS) (ci := 4) (q0 := 0) rfl rfl, fun U hU hW => ⟨rfl, tk_mk hP hD hS hA hE hR hX [] [0, 3, 4] rfl rfl rfl rfl U hU hW⟩⟩ rfl rfl hl.1 rfl (lv_room (Nat.le_of_ble_eq_true rfl)) dX5_lowest_56 ⟨(Nat.le_of_ble_eq_true rfl), (Nat.le_of_ble_eq_true rfl)⟩) hS (fun q _ h => (va_free hD hS hA [] rfl) q h) (va_free hD hS hA [] rfl) (fun zr zu zt H1 zl zht zvm zw zB zz zk zS => ?_)
          obtain ⟨hP, hD⟩ := tk_join hP hD zk [] rfl rfl (va_free hD hS hA [] rfl) (zht ▸ zB.1) zB.2 (Nat.le_of_ble_eq_true rfl)
          have hS := zS
          have zw := Eq.symm zw
          subst zw
          generalize H1 = H at hP hS ⊢
          have hP : va_P D tkCl [] H := hP
          have hD : va_D A [] := hD
          refine lv_istore_n (lv' := [(3, .int u8), (0, .ref h0), (1, .int x1), (2, .int x2)]) hx hb dX5_lowest_59 rfl hl (Nat.le_of_ble_eq_true rfl) rfl (fun ls hl => ?_)
          exact ih60 x1 x2 u8 _ _ _ hF hP hD hS (lv_sub hl [1, 2, 3, 0] rfl)
      · intro x1 x2 x3 H locs ls hF hP hD hS hl
        have hF : tk_k (stX5_lowest columns rows stone height) n (bX5_lowest_3 columns rows stone height x1 x2 x3) = some o := hF
        unfold bX5_lowest_3 at hF
        refine lv_iload_n hx hb dX5_lowest_60 rfl (lv_at hl 1 rfl) ?_
        refine lv_iload_n hx hb dX5_lowest_61 rfl (lv_at hl 2 rfl) ?_
        refine lv_iadd hx hb dX5_lowest_62 ?_
        refine lv_aload_n hx hb dX5_lowest_63 rfl (lv_at hl 0 rfl) ?_
        refine va_get (D := D) (ci := 4) (v := .ref (r0 17)) (C := RX5) (T := TX5) (N := 18) hx hb hts in_X5 hown hK (hR.at hS) 0 rfl rfl 17 (by decide) (hts _ q386) (fun _ h9 => h9) rfl dX5_lowest_64 ?_
        refine va_getN (D := D) (ci := 0) (v := .ref (r1 5)) (C := RX0) (T := TX0) (N := 25) hx hb hts in_X0 hown hK (hR.at hS) 1 rfl rfl 5 (by decide) (hE.2.1.use q456 rfl rfl) (fun _ h9 => h9) rfl dX5_lowest_67 ?_
        obtain ⟨u9, hGu9, hF⟩ := tk_kb hF
        refine va_calli (va_runV (As := []) (rest := [.int (x1 + x2)]) ⟨hx, hb, hml, hown, hts⟩ (mX2_cells (l := l) (D := D) (ar := ar) (ad := ad) (xs := xs) (sz := H.size) (h0 := (r1 5)) (r0 := r2) (i0 := (tu (tu i2 0 columns) 1 rows)) (columns := columns) (rows := rows) (hF := hGu9)) (cwV 0 hts (lw_V q429 q430 q431 q92 q432) rfl rfl rfl (by decide +kernel) ⟨(Nat.le_of_ble_eq_true rfl), (Nat.le_of_ble_eq_true rfl)⟩) ⟨tk_blind, va_recv hK (hR.at hS) (ci := 2) (q0 := 2) rfl rfl, fun U hU hW => ⟨rfl, tk_mk hP hD hS hA hE hR hX [] [2] rfl rfl rfl rfl U hU hW⟩⟩ rfl rfl hl.1 rfl (lv_room (Nat.le_of_ble_eq_true rfl)) dX5_lowest_70 ⟨(Nat.le_of_ble_eq_true rfl), (Nat.le_of_ble_eq_true rfl)⟩) hS (fun q _ h => (va_free hD hS hA [] rfl) q h) (va_free hD hS hA [] rfl) (fun zr zu zt H1 zl zht zvm zw zB zz zk zS => ?_)
        obtain ⟨hP, hD⟩ := tk_join hP hD zk [] rfl rfl (va_free hD hS hA [] rfl) (zht ▸ zB.1) zB.2 (Nat.le_of_ble_eq_true rfl)
        have hS := zS
        have zw := Eq.symm zw
        subst zw
        generalize H1 = H at hP hS ⊢
        have hP : va_P D tkCl [] H := hP
        have hD : va_D A [] := hD
        refine lv_icmp_ge (tgt := 87) hx hb dX5_lowest_73 (by decide) (fun c10 => ?_) (fun c10 => ?_)
        · have hF := tk_kt hF c10
          refine lv_iload_n hx hb dX5_lowest_87 rfl (lv_at hl 3 rfl) ?_
          have eo := tk_kr hF
          subst eo
          exact W.iret (v := x3) hx hb hr (fun t ht hW => ⟨⟨_, (), rfl, rfl, tk_pst ht hP hD⟩, hS.F ht⟩) hS.2.2 dX5_lowest_88
        · have hF := tk_kf hF c10
          refine lv_aload_n hx hb dX5_lowest_76 rfl (lv_at hl 0 rfl) ?_
          refine lv_iload_n hx hb dX5_lowest_77 rfl (lv_at hl 3 rfl) ?_
          refine lv_iload_n hx hb dX5_lowest_78 rfl (lv_at hl 1 rfl) ?_
          refine lv_iload_n hx hb dX5_lowest_79 rfl (lv_at hl 2 rfl) ?_
          refine lv_iadd hx hb dX5_lowest_80 ?_
          obtain ⟨u11, hGu11, hF⟩ := tk_kb hF
          refine va_calli (va_runV (As := [.int x3, .int (x1 + x2)]) (rest := []) ⟨hx, hb, hml, hown, hts⟩ (mX5_lower (l := l) (D := D) (ar := ar) (ad := ad) (xs := xs) (sz := H.size) (h0 := h0) (r0 := r0) (i0 := i0) (j0 := j0) (stone := stone) (height := height) (p0 := x3) (p1 := x1 + x2) (hF := hGu11)) (cwV 2 hts (lw_V q1147 q1149 qs20 q99 q1150) rfl rfl rfl (by decide +kernel) ⟨(Nat.le_of_ble_eq_true rfl), (Nat.le_of_ble_eq_true rfl)⟩) ⟨tk_blind, va_recv hK (hR.at hS) (ci := 4) (q0 := 0) rfl rfl, fun U hU hW => ⟨rfl, tk_mk hP hD hS hA hE hR hX [] [0, 3, 4] rfl rfl rfl rfl U hU hW⟩⟩ rfl rfl hl.1 rfl (lv_room (Nat.le_of_ble_eq_true rfl)) dX5_lowest_81 ⟨(Nat.le_of_ble_eq_true rfl), (Nat.le_of_ble_eq_true rfl)⟩) hS (fun q _ h => (va_free hD hS hA [] rfl) q h) (va_free hD hS hA [] rfl) (fun zr zu zt H1 zl zht zvm zw zB zz zk zS => ?_)
          obtain ⟨hP, hD⟩ := tk_join hP hD zk [] rfl rfl (va_free hD hS hA [] rfl) (zht ▸ zB.1) zB.2 (Nat.le_of_ble_eq_true rfl)
          have hS := zS
          have zw := Eq.symm zw
          subst zw
          generalize H1 = H at hP hS ⊢
          have hP : va_P D tkCl [] H := hP
          have hD : va_D A [] := hD
          refine lv_goto (tgt := 88) hx hb dX5_lowest_84 (by decide) ?_
          have eo := tk_kr hF
          subst eo
          exact W.iret (v := u11) hx hb hr (fun t ht hW => ⟨⟨_, (), rfl, rfl, tk_pst ht hP hD⟩, hS.F ht⟩) hS.2.2 dX5_lowest_88
  obtain ⟨ih27, ih42, ih60⟩ := key n0
  clear key
  unfold bX5_lowest_0 at hF
  have hF : tk_k (stX5_lowest columns rows stone height) n0 _ = some o := hF
  refine lv_aload_n hx hb dX5_lowest_0 rfl (lv_at hl 0 rfl) ?_
  refine va_get (D := D) (ci := 4) (v := .ref (r0 17)) (C := RX5) (T := TX5) (N := 18) hx hb hts in_X5 hown hK (hR.at hS) 0 rfl rfl 17 (by decide) (hts _ q386) (fun _ h9 => h9) rfl dX5_lowest_1 ?_
  refine va_getN (D := D) (ci := 0) (v := .ref (r1 5)) (C := RX0) (T := TX0) (N := 25) hx hb hts in_X0 hown hK (hR.at hS) 1 rfl rfl 5 (by decide) (hE.2.1.use q456 rfl rfl) (fun _ h9 => h9) rfl dX5_lowest_4 ?_
  refine va_getN (D := D) (ci := 2) (v := .int columns) (C := RX2) (T := TX2) (N := 11) hx hb hts in_X2 hown hK (hR.at hS) 2 rfl rfl 0 (by decide) (hE.2.1.use q220 rfl rfl) (fun _ h9 => h9) rfl dX5_lowest_7 ?_
  refine lv_istore_n (lv' := [(2, .int columns), (0, .ref h0), (1, .int p0)]) hx hb dX5_lowest_10 rfl hl (Nat.le_of_ble_eq_true rfl) rfl (fun ls hl => ?_)
  refine lv_iconst (v := (-1)) hx hb dX5_lowest_11 (by decide) ?_
  refine lv_istore_n (lv' := [(3, .int (-1)), (2, .int columns), (0, .ref h0), (1, .int p0)]) hx hb dX5_lowest_12 rfl hl (Nat.le_of_ble_eq_true rfl) rfl (fun ls hl => ?_)
  refine lv_iload_n hx hb dX5_lowest_13 rfl (lv_at hl 3 rfl) ?_
  refine lv_iload_n hx hb dX5_lowest_14 rfl (lv_at hl 1 rfl) ?_
  refine lv_icmp_lt (tgt := 27) hx hb dX5_lowest_15 (by decide) (fun c1 => ?_) (fun c1 => ?_)
  · have hF := tk_kt hF c1
    exact ih27 p0 columns (-1) _ _ _ hF hP hD hS (lv_sub hl [2, 3, 1, 0] rfl)
  · have hF := tk_kf hF c1
    refine lv_aload_n hx hb dX5_lowest_18 rfl (lv_at hl 2 rfl) ?_
    refine lv_iload_n hx hb dX5_lowest_19 rfl (lv_at hl 0 rfl) ?_
    refine lv_iload_n hx hb dX5_lowest_20 rfl (lv_at hl 3 rfl) ?_
    refine lv_iload_n hx hb dX5_lowest_21 rfl (lv_at hl 1 rfl) ?_
    refine lv_isub hx hb dX5_lowest_22 ?_
    obtain ⟨u2, hGu2, hF⟩ := tk_kb hF
    refine va_calli (va_runV (As := [.int (-1), .int (p0 - columns)]) (rest := []) ⟨hx, hb, hml, hown, hts⟩ (mX5_lower (l := l) (D := D) (ar := ar) (ad := ad) (xs := xs) (sz := s.heap.size) (h0 := h0) (r0 := r0) (i0 := i0) (j0 := j0) (stone := stone) (height := height) (p0 := (-1)) (p1 := p0 - columns) (hF := hGu2)) (cwV 2 hts (lw_V q1147 q1149 qs20 q99 q1150) rfl rfl rfl (by decide +kernel) ⟨(Nat.le_of_ble_eq_true rfl), (Nat.le_of_ble_eq_true rfl)⟩) ⟨tk_blind, va_recv hK (hR.at hS) (ci := 4) (q0 := 0) rfl rfl, fun U hU hW => ⟨rfl, tk_mk hP hD hS hA hE hR hX [] [0, 3, 4] rfl rfl rfl rfl U hU hW⟩⟩ rfl rfl hl.1 rfl (lv_room (Nat.le_of_ble_eq_true rfl)) dX5_lowest_23 ⟨(Nat.le_of_ble_eq_true rfl), (Nat.le_of_ble_eq_true rfl)⟩) hS (fun q _ h => (va_free hD hS hA [] rfl) q h) (va_free hD hS hA [] rfl) (fun zr zu zt H1 zl zht zvm zw zB zz zk zS => ?_)
    obtain ⟨hP, hD⟩ := tk_join hP hD zk [] rfl rfl (va_free hD hS hA [] rfl) (zht ▸ zB.1) zB.2 (Nat.le_of_ble_eq_true rfl)
    have hS := zS
    have zw := Eq.symm zw
    subst zw
    generalize H1 = H at hP hS ⊢
    have hP : va_P D tkCl [] H := hP
    have hD : va_D A [] := hD
    refine lv_istore_n (lv' := [(3, .int u2), (2, .int columns), (0, .ref h0), (1, .int p0)]) hx hb dX5_lowest_26 rfl hl (Nat.le_of_ble_eq_true rfl) rfl (fun ls hl => ?_)
    exact ih27 p0 columns u2 _ _ _ hF hP hD hS (lv_sub hl [2, 3, 1, 0] rfl)
set_option maxHeartbeats 4000000 in
theorem mX5_act (l : Launch) (D : va_G) (ar : Nat → ClassId) (ad : Nat → Nat → Nat) (xs : va_W) (sz : Nat) (h0 : Nat) (r0 : Nat → Nat) (i0 : Nat → Int32) (j0 : Nat → Int64) (p0 p1 p2 : Int32) (height stone wet pack : Nat → Int32) (o : (Nat → Int32) × (Nat → Int32) × (Nat → Int32) × (Nat → Int32)) (hF : fX5_act p0 p1 p2 height stone wet pack = some o) : Met l yX5_act (ws_ yX5_act cX5_act 4 none) ({ frames := 1, cells := 0, slots := 0, locals := 40 }) (va_Pc [.ref h0, .int p0, .int p1, .int p2] (tk_Pre D ar ad [((r0 0), .inl (ar 0, 64, .inl height)), ((r0 7), .inl (ar 2, 64, .inl stone)), ((r0 1), .inl (ar 0, 64, .inl wet)), ((r0 2), .inl (ar 0, 64, .inl pack))] [(h0, .inr (4, oX5 r0 i0 j0))] xs sz)) (va_Qv (fun _ : Unit => True) (fun _ t => tk_Post D (va_A [((r0 0), .inl (ar 0, 64, .inl height)), ((r0 7), .inl (ar 2, 64, .inl stone)), ((r0 1), .inl (ar 0, 64, .inl wet)), ((r0 2), .inl (ar 0, 64, .inl pack))] sz) [((r0 0), .inl (ar 0, 64, .inl o.1)), ((r0 7), .inl (ar 2, 64, .inl o.2.1)), ((r0 1), .inl (ar 0, 64, .inl o.2.2.1)), ((r0 2), .inl (ar 0, 64, .inl o.2.2.2))] t) (va_A [((r0 0), .inl (ar 0, 64, .inl height)), ((r0 7), .inl (ar 2, 64, .inl stone)), ((r0 1), .inl (ar 0, 64, .inl wet)), ((r0 2), .inl (ar 0, 64, .inl pack))] sz)) 0 0 (va_A [((r0 0), .inl (ar 0, 64, .inl height)), ((r0 7), .inl (ar 2, 64, .inl stone)), ((r0 1), .inl (ar 0, 64, .inl wet)), ((r0 2), .inl (ar 0, 64, .inl pack))] sz) := by
  refine Met.ofW (cc := cX5_act) (maxL := 4) (ret := none) (by decide) rfl ?_
  intro p e s m args below meth c s₁ B hml hv
  obtain ⟨rfl, hsz, hP, hD0, hR, hX, hE⟩ := hv
  have hx := B.exec
  have hb := B.bytes
  have hr := B.returns
  have hts := atoms_spec (ws := (ws_ yX5_act cX5_act 4 none)) B.pre
  have hts : ∀ w ∈ lw_all, w.before _ s = true := fun w h => hts w (List.mem_cons_of_mem _ h)
  have hown : s.vm.findClass RX5 = some m.cls := findClass_of_methodNamed B.named
  have hlocks := B.notSynchronized
  subst hsz
  have hD := hD0.self (sz := s.heap.size)
  generalize hAe : va_A [((r0 0), .inl (ar 0, 64, .inl height)), ((r0 7), .inl (ar 2, 64, .inl stone)), ((r0 1), .inl (ar 0, 64, .inl wet)), ((r0 2), .inl (ar 0, 64, .inl pack))] s.heap.size = A at hD hR hX hE ⊢
  have hA : ∀ q : Nat, s.heap.size ≤ q → A q := fun q h => by rw [← hAe]; exact Or.inr h
  have hS : va_S A s.heap s.heap [] := va_S.rf
  have hK := hE.1
  have hl := lv_entry ([.ref h0, .int p0, .int p1, .int p2]) (n := 4) (Nat.le_of_ble_eq_true rfl)
  rw [lg_entry_eq]
  generalize (lg_sl ([.ref h0, .int p0, .int p1, .int p2]) ++ List.replicate (4 - (lg_sl ([.ref h0, .int p0, .int p1, .int p2])).length) Slot.unset).toArray = ls at hl ⊢
  have hl : lv_has ls 4 [(0, .ref h0), (1, .int p0), (2, .int p1), (3, .int p2)] := hl
  have hP : va_P D tkCl [((r0 0), .inl (ar 0, 64, .inl height)), ((r0 7), .inl (ar 2, 64, .inl stone)), ((r0 1), .inl (ar 0, 64, .inl wet)), ((r0 2), .inl (ar 0, 64, .inl pack))] s.heap := hP
  unfold fX5_act at hF
  refine lv_iload_n hx hb dX5_act_0 rfl (lv_at hl 1 rfl) ?_
  by_cases c1 : p0 = 0
  · have hF := tk_pt hF c1
    refine lv_tableIn (tgt := 32) (off := 31) hx hb dX5_act_1 (by rw [c1]; decide) (by rw [c1]; decide) (by rw [c1]; rfl) (by decide) ?_
    refine lv_aload_n hx hb dX5_act_32 rfl (lv_at hl 0 rfl) ?_
    refine va_get (D := D) (ci := 4) (v := .ref (r0 0)) (C := RX5) (T := TX5) (N := 18) hx hb hts in_X5 hown hK (hR.at hS) 0 rfl rfl 0 (by decide) (hts _ q355) (fun _ h9 => h9) rfl dX5_act_33 ?_
    refine lv_iload_n hx hb dX5_act_36 rfl (lv_at hl 2 rfl) ?_
    obtain ⟨gd2, hF⟩ := tk_pg hF
    refine va_iald hx hb hK hP 0 0 rfl rfl gd2 dX5_act_37 ?_
    refine lv_if_eq (tgt := 59) hx hb dX5_act_38 (by decide) (fun c3 => ?_) (fun c3 => ?_)
    · have hF := tk_pt hF c3
      have eo := tk_pr hF
      subst eo
      exact W.vret hx hb hr (fun t ht hW => ⟨⟨(), rfl, trivial, tk_pst ht hP hD⟩, hS.F ht⟩) hS.2.2 dX5_act_59
    · have hF := tk_pf hF c3
      refine lv_aload_n hx hb dX5_act_41 rfl (lv_at hl 0 rfl) ?_
      refine va_get (D := D) (ci := 4) (v := .ref (r0 7)) (C := RX5) (T := TX5) (N := 18) hx hb hts in_X5 hown hK (hR.at hS) 0 rfl rfl 7 (by decide) (hts _ q367) (fun _ h9 => h9) rfl dX5_act_42 ?_
      refine lv_iload_n hx hb dX5_act_45 rfl (lv_at hl 2 rfl) ?_
      refine va_zald hx hb hK hP 1 2 rfl rfl gd2 dX5_act_46 ?_
      refine lv_if_ne (tgt := 59) hx hb dX5_act_47 (by decide) (fun c4 => ?_) (fun c4 => ?_)
      · have hF := tk_pf hF c4
        have eo := tk_pr hF
        subst eo
        exact W.vret hx hb hr (fun t ht hW => ⟨⟨(), rfl, trivial, tk_pst ht hP hD⟩, hS.F ht⟩) hS.2.2 dX5_act_59
      · have hF := tk_pt hF c4
        refine lv_aload_n hx hb dX5_act_50 rfl (lv_at hl 0 rfl) ?_
        refine va_get (D := D) (ci := 4) (v := .ref (r0 7)) (C := RX5) (T := TX5) (N := 18) hx hb hts in_X5 hown hK (hR.at hS) 0 rfl rfl 7 (by decide) (hts _ q367) (fun _ h9 => h9) rfl dX5_act_51 ?_
        refine lv_iload_n hx hb dX5_act_54 rfl (lv_at hl 3 rfl) ?_
        obtain ⟨gd5, hF⟩ := tk_pg hF
        refine va_zald hx hb hK hP 1 2 rfl rfl gd5 dX5_act_55 ?_
        refine lv_if_eq (tgt := 60) hx hb dX5_act_56 (by decide) (fun c6 => ?_) (fun c6 => ?_)
        · have hF := tk_pt hF c6
          refine lv_aload_n hx hb dX5_act_60 rfl (lv_at hl 0 rfl) ?_
          refine lv_iload_n hx hb dX5_act_61 rfl (lv_at hl 2 rfl) ?_
          refine lv_iload_n hx hb dX5_act_62 rfl (lv_at hl 3 rfl) ?_
          obtain ⟨u7, hGu7, hF⟩ := tk_pb hF
          refine va_callv (va_runV (As := [.int p1, .int p2]) (rest := []) ⟨hx, hb, hml, hown, hts⟩ (mX5_go (l := l) (D := D) (ar := ar) (ad := ad) (xs := xs) (sz := s.heap.size) (h0 := h0) (r0 := r0) (i0 := i0) (j0 := j0) (wet := wet) (height := height) (pack := pack) (p0 := p1) (p1 := p2) (hF := hGu7)) (cwV 2 hts (lw_V q1098 q1100 qs14 q99 q1101) rfl rfl rfl (by decide +kernel) ⟨(Nat.le_of_ble_eq_true rfl), (Nat.le_of_ble_eq_true rfl)⟩) ⟨tk_blind, va_recv hK (hR.at hS) (ci := 4) (q0 := 0) rfl rfl, fun U hU hW => ⟨rfl, tk_mk hP hD hS hA hE hR hX [2, 0, 3] [4] rfl rfl rfl rfl U hU hW⟩⟩ rfl rfl hl.1 rfl (lv_room (Nat.le_of_ble_eq_true rfl)) dX5_act_63 ⟨(Nat.le_of_ble_eq_true rfl), (Nat.le_of_ble_eq_true rfl)⟩) hS (fun q _ h => (va_free hD hS hA [2, 0, 3] rfl) q h) (va_free hD hS hA [2, 0, 3] rfl) (fun zu zt H1 zl zht zvm zw zB zz zk zS => ?_)
          obtain ⟨hP, hD⟩ := tk_join hP hD zk [2, 0, 3] rfl rfl (va_free hD hS hA [2, 0, 3] rfl) (zht ▸ zB.1) zB.2 (Nat.le_of_ble_eq_true rfl)
          have hS := zS
          generalize H1 = H at hP hS ⊢
          have hP : va_P D tkCl [((r0 0), .inl (ar 0, 64, .inl u7.2.1)), ((r0 7), .inl (ar 2, 64, .inl stone)), ((r0 1), .inl (ar 0, 64, .inl u7.1)), ((r0 2), .inl (ar 0, 64, .inl u7.2.2))] H := hP
          have hD : va_D A [((r0 0), .inl (ar 0, 64, .inl u7.2.1)), ((r0 7), .inl (ar 2, 64, .inl stone)), ((r0 1), .inl (ar 0, 64, .inl u7.1)), ((r0 2), .inl (ar 0, 64, .inl u7.2.2))] := hD
          refine lv_aload_n hx hb dX5_act_66 rfl (lv_at hl 0 rfl) ?_
          refine va_get (D := D) (ci := 4) (v := .ref (r0 2)) (C := RX5) (T := TX5) (N := 18) hx hb hts in_X5 hown hK (hR.at hS) 0 rfl rfl 2 (by decide) (hts _ q359) (fun _ h9 => h9) rfl dX5_act_67 ?_
          refine lv_iload_n hx hb dX5_act_70 rfl (lv_at hl 2 rfl) ?_
          refine lv_iconst (v := 0) hx hb dX5_act_71 (by decide) ?_
          refine va_iast hx hb hK hP hD hS 3 0 rfl rfl gd2 dX5_act_72 (fun H locs hP hD hS => ?_)
          have hP : va_P D tkCl [((r0 0), .inl (ar 0, 64, .inl u7.2.1)), ((r0 7), .inl (ar 2, 64, .inl stone)), ((r0 1), .inl (ar 0, 64, .inl u7.1)), ((r0 2), .inl (ar 0, 64, .inl (upd u7.2.2 p1.toNatClampNeg 0)))] H := hP
          have hD : va_D A [((r0 0), .inl (ar 0, 64, .inl u7.2.1)), ((r0 7), .inl (ar 2, 64, .inl stone)), ((r0 1), .inl (ar 0, 64, .inl u7.1)), ((r0 2), .inl (ar 0, 64, .inl (upd u7.2.2 p1.toNatClampNeg 0)))] := hD
          refine lv_goto (tgt := 129) hx hb dX5_act_73 (by decide) ?_
          have eo := tk_pr hF
          subst eo
          exact W.vret hx hb hr (fun t ht hW => ⟨⟨(), rfl, trivial, tk_pst ht hP hD⟩, hS.F ht⟩) hS.2.2 dX5_act_129
        · have hF := tk_pf hF c6
          have eo := tk_pr hF
          subst eo
          exact W.vret hx hb hr (fun t ht hW => ⟨⟨(), rfl, trivial, tk_pst ht hP hD⟩, hS.F ht⟩) hS.2.2 dX5_act_59
  · have hF := tk_pf hF c1
    by_cases c8 : p0 = 1
    · have hF := tk_pt hF c8
      refine lv_tableIn (tgt := 76) (off := 75) hx hb dX5_act_1 (by rw [c8]; decide) (by rw [c8]; decide) (by rw [c8]; rfl) (by decide) ?_
      refine lv_aload_n hx hb dX5_act_76 rfl (lv_at hl 0 rfl) ?_
      refine va_get (D := D) (ci := 4) (v := .ref (r0 2)) (C := RX5) (T := TX5) (N := 18) hx hb hts in_X5 hown hK (hR.at hS) 0 rfl rfl 2 (by decide) (hts _ q359) (fun _ h9 => h9) rfl dX5_act_77 ?_
      refine lv_iload_n hx hb dX5_act_80 rfl (lv_at hl 2 rfl) ?_
      refine lv_iconst (v := 4) hx hb dX5_act_81 (by decide) ?_
      refine lv_aload_n hx hb dX5_act_82 rfl (lv_at hl 0 rfl) ?_
      refine va_get (D := D) (ci := 4) (v := .ref (r0 2)) (C := RX5) (T := TX5) (N := 18) hx hb hts in_X5 hown hK (hR.at hS) 0 rfl rfl 2 (by decide) (hts _ q359) (fun _ h9 => h9) rfl dX5_act_83 ?_
      refine lv_iload_n hx hb dX5_act_86 rfl (lv_at hl 2 rfl) ?_
      obtain ⟨gd9, hF⟩ := tk_pg hF
      refine va_iald hx hb hK hP 3 0 rfl rfl gd9 dX5_act_87 ?_
      refine lv_iconst (v := 1) hx hb dX5_act_88 (by decide) ?_
      refine lv_iadd hx hb dX5_act_89 ?_
      refine va_mmin hx hb (hml.trans hl.1.symm) hown (hts _ q1102) (hts _ q881) (hts _ q111) (hts _ q882) (Nat.le_of_ble_eq_true rfl) (Nat.le_of_ble_eq_true rfl) (Nat.le_of_ble_eq_true rfl) (Nat.le_of_ble_eq_true rfl) dX5_act_90 ?_
      refine va_iast hx hb hK hP hD hS 3 0 rfl rfl gd9 dX5_act_93 (fun H locs hP hD hS => ?_)
      obtain ⟨y10, ey10, hF⟩ := tk_pl hF
      have hP : va_P D tkCl [((r0 0), .inl (ar 0, 64, .inl height)), ((r0 7), .inl (ar 2, 64, .inl stone)), ((r0 1), .inl (ar 0, 64, .inl wet)), ((r0 2), .inl (ar 0, 64, .inl y10))] H := by rw [ey10]; exact hP
      have hD : va_D A [((r0 0), .inl (ar 0, 64, .inl height)), ((r0 7), .inl (ar 2, 64, .inl stone)), ((r0 1), .inl (ar 0, 64, .inl wet)), ((r0 2), .inl (ar 0, 64, .inl y10))] := by rw [ey10]; exact hD
      refine lv_goto (tgt := 129) hx hb dX5_act_94 (by decide) ?_
      have eo := tk_pr hF
      subst eo
      exact W.vret hx hb hr (fun t ht hW => ⟨⟨(), rfl, trivial, tk_pst ht hP hD⟩, hS.F ht⟩) hS.2.2 dX5_act_129
    · have hF := tk_pf hF c8
      by_cases c11 : p0 = 2
      · have hF := tk_pt hF c11
        refine lv_tableIn (tgt := 97) (off := 96) hx hb dX5_act_1 (by rw [c11]; decide) (by rw [c11]; decide) (by rw [c11]; rfl) (by decide) ?_
        refine lv_aload_n hx hb dX5_act_97 rfl (lv_at hl 0 rfl) ?_
        refine va_get (D := D) (ci := 4) (v := .ref (r0 1)) (C := RX5) (T := TX5) (N := 18) hx hb hts in_X5 hown hK (hR.at hS) 0 rfl rfl 1 (by decide) (hts _ q357) (fun _ h9 => h9) rfl dX5_act_98 ?_
        refine lv_iload_n hx hb dX5_act_101 rfl (lv_at hl 2 rfl) ?_
        refine lv_bipush (v := 15) hx hb dX5_act_102 (by decide) ?_
        refine lv_aload_n hx hb dX5_act_104 rfl (lv_at hl 0 rfl) ?_
        refine va_get (D := D) (ci := 4) (v := .ref (r0 1)) (C := RX5) (T := TX5) (N := 18) hx hb hts in_X5 hown hK (hR.at hS) 0 rfl rfl 1 (by decide) (hts _ q357) (fun _ h9 => h9) rfl dX5_act_105 ?_
        refine lv_iload_n hx hb dX5_act_108 rfl (lv_at hl 2 rfl) ?_
        obtain ⟨gd12, hF⟩ := tk_pg hF
        refine va_iald hx hb hK hP 2 0 rfl rfl gd12 dX5_act_109 ?_
        refine lv_iconst (v := 4) hx hb dX5_act_110 (by decide) ?_
        refine lv_iadd hx hb dX5_act_111 ?_
        refine va_mmin hx hb (hml.trans hl.1.symm) hown (hts _ q1102) (hts _ q881) (hts _ q111) (hts _ q882) (Nat.le_of_ble_eq_true rfl) (Nat.le_of_ble_eq_true rfl) (Nat.le_of_ble_eq_true rfl) (Nat.le_of_ble_eq_true rfl) dX5_act_112 ?_
        refine va_iast hx hb hK hP hD hS 2 0 rfl rfl gd12 dX5_act_115 (fun H locs hP hD hS => ?_)
        obtain ⟨y13, ey13, hF⟩ := tk_pl hF
        have hP : va_P D tkCl [((r0 0), .inl (ar 0, 64, .inl height)), ((r0 7), .inl (ar 2, 64, .inl stone)), ((r0 1), .inl (ar 0, 64, .inl y13)), ((r0 2), .inl (ar 0, 64, .inl pack))] H := by rw [ey13]; exact hP
        have hD : va_D A [((r0 0), .inl (ar 0, 64, .inl height)), ((r0 7), .inl (ar 2, 64, .inl stone)), ((r0 1), .inl (ar 0, 64, .inl y13)), ((r0 2), .inl (ar 0, 64, .inl pack))] := by rw [ey13]; exact hD
        refine lv_goto (tgt := 129) hx hb dX5_act_116 (by decide) ?_
        have eo := tk_pr hF
        subst eo
        exact W.vret hx hb hr (fun t ht hW => ⟨⟨(), rfl, trivial, tk_pst ht hP hD⟩, hS.F ht⟩) hS.2.2 dX5_act_129
      · have hF := tk_pf hF c11
        by_cases c14 : p0 = 3
        · have hF := tk_pt hF c14
          refine lv_tableIn (tgt := 119) (off := 118) hx hb dX5_act_1 (by rw [c14]; decide) (by rw [c14]; decide) (by rw [c14]; rfl) (by decide) ?_
          refine lv_aload_n hx hb dX5_act_119 rfl (lv_at hl 0 rfl) ?_
          refine va_get (D := D) (ci := 4) (v := .ref (r0 7)) (C := RX5) (T := TX5) (N := 18) hx hb hts in_X5 hown hK (hR.at hS) 0 rfl rfl 7 (by decide) (hts _ q367) (fun _ h9 => h9) rfl dX5_act_120 ?_
          refine lv_iload_n hx hb dX5_act_123 rfl (lv_at hl 2 rfl) ?_
          refine lv_iconst (v := 1) hx hb dX5_act_124 (by decide) ?_
          obtain ⟨gd15, hF⟩ := tk_pg hF
          refine va_zast hx hb hK hP hD hS 1 2 rfl rfl gd15 dX5_act_125 (fun H locs hP hD hS => ?_)
          rw [tk_nz1] at hP hD
          have hP : va_P D tkCl [((r0 0), .inl (ar 0, 64, .inl height)), ((r0 7), .inl (ar 2, 64, .inl (upd stone p1.toNatClampNeg 1))), ((r0 1), .inl (ar 0, 64, .inl wet)), ((r0 2), .inl (ar 0, 64, .inl pack))] H := hP
          have hD : va_D A [((r0 0), .inl (ar 0, 64, .inl height)), ((r0 7), .inl (ar 2, 64, .inl (upd stone p1.toNatClampNeg 1))), ((r0 1), .inl (ar 0, 64, .inl wet)), ((r0 2), .inl (ar 0, 64, .inl pack))] := hD
          refine lv_goto (tgt := 129) hx hb dX5_act_126 (by decide) ?_
          have eo := tk_pr hF
          subst eo
          exact W.vret hx hb hr (fun t ht hW => ⟨⟨(), rfl, trivial, tk_pst ht hP hD⟩, hS.F ht⟩) hS.2.2 dX5_act_129
        · have hF := tk_pf hF c14
          have tc1 := lv_neT c1 (a := 0) (by decide)
          have tc8 := lv_neT c8 (a := 1) (by decide)
          have tc11 := lv_neT c11 (a := 2) (by decide)
          have tc14 := lv_neT c14 (a := 3) (by decide)
          refine lv_tableOut (tgt := 129) hx hb dX5_act_1 (by omega) (by decide) ?_
          have eo := tk_pr hF
          subst eo
          exact W.vret hx hb hr (fun t ht hW => ⟨⟨(), rfl, trivial, tk_pst ht hP hD⟩, hS.F ht⟩) hS.2.2 dX5_act_129
set_option maxHeartbeats 4000000 in
theorem mX5_sand (l : Launch) (D : va_G) (ar : Nat → ClassId) (ad : Nat → Nat → Nat) (xs : va_W) (sz : Nat) (h0 : Nat) (r0 : Nat → Nat) (i0 : Nat → Int32) (j0 : Nat → Int64) (r1 : Nat → Nat) (i1 : Nat → Int32) (r2 : Nat → Nat) (i2 : Nat → Int32) (columns rows : Int32) (height : Nat → Int32) (o : Int32) (hF : fX5_sand columns rows height = some o) : Met l yX5_sand (ws_ yX5_sand cX5_sand 3 (some .int)) ({ frames := 1, cells := 0, slots := 0, locals := 20 }) (va_Pc [.ref h0] (tk_Pre D ar ad [] [(h0, .inr (4, oX5 r0 i0 j0)), ((r0 17), .inr (0, oX0 r1 i1)), ((r1 5), .inr (2, oX2 r2 (tu (tu i2 0 columns) 1 rows))), ((r0 0), .inl (ar 0, 64, .inl height))] xs sz)) (va_Qi (fun (zr : Int32) (_ : Unit) => zr = o) (fun _ t => tk_Post D (va_A [] sz) [] t) (va_A [] sz)) 0 0 (va_A [] sz) := by
  refine Met.ofW (cc := cX5_sand) (maxL := 3) (ret := (some .int)) (by decide) rfl ?_
  intro p e s m args below meth c s₁ B hml hv
  obtain ⟨rfl, hsz, hP, hD0, hR, hX, hE⟩ := hv
  have hx := B.exec
  have hb := B.bytes
  have hr := B.returns
  have hts := atoms_spec (ws := (ws_ yX5_sand cX5_sand 3 (some .int))) B.pre
  have hts : ∀ w ∈ lw_all, w.before _ s = true := fun w h => hts w (List.mem_cons_of_mem _ h)
  have hown : s.vm.findClass RX5 = some m.cls := findClass_of_methodNamed B.named
  have hlocks := B.notSynchronized
  subst hsz
  have hD := hD0.self (sz := s.heap.size)
  generalize hAe : va_A [] s.heap.size = A at hD hR hX hE ⊢
  have hA : ∀ q : Nat, s.heap.size ≤ q → A q := fun q h => by rw [← hAe]; exact Or.inr h
  have hS : va_S A s.heap s.heap [] := va_S.rf
  have hK := hE.1
  have hl := lv_entry ([.ref h0]) (n := 3) (Nat.le_of_ble_eq_true rfl)
  rw [lg_entry_eq]
  generalize (lg_sl ([.ref h0]) ++ List.replicate (3 - (lg_sl ([.ref h0])).length) Slot.unset).toArray = ls at hl ⊢
  have hl : lv_has ls 3 [(0, .ref h0)] := hl
  have hP : va_P D tkCl [] s.heap := hP
  obtain ⟨n0, hF⟩ : ∃ n, tk_k (stX5_sand columns rows height) n (bX5_sand_0 columns rows height) = some o := tk_fin_it hF
  have key : ∀ n : Nat, (∀ (x1 x2 : Int32) (H : Heap) (locs : List Loc) (ls : Array Slot), tk_it (stX5_sand columns rows height) n (1, (x1, x2)) = some o → va_P D tkCl [] H → va_D A [] → va_S A s.heap H locs → lv_has ls 3 [(0, .ref h0), (1, .int x1), (2, .int x2)] → W p l e (headSpec (ws_ yX5_sand cX5_sand 3 (some .int)) ({ frames := 1, cells := 0, slots := 0, locals := 20 })).room s m ([.ref h0] : List Value).toArray below meth c H locs 0 0 (MQ below (va_Qi (fun (zr : Int32) (_ : Unit) => zr = o) (fun _ t => tk_Post D A [] t) A) ([.ref h0] : List Value).toArray s 0 0 A) (F0 m 4 ls [])) := by
    intro n
    induction n with
    | zero => exact fun x1 x2 H locs ls hF => (by cases hF)
    | succ n ih =>
      have ih4 := ih
      intro x1 x2 H locs ls hF hP hD hS hl
      have hF : tk_k (stX5_sand columns rows height) n (bX5_sand_1 columns rows height x1 x2) = some o := hF
      unfold bX5_sand_1 at hF
      refine lv_iload_n hx hb dX5_sand_4 rfl (lv_at hl 2 rfl) ?_
      refine lv_aload_n hx hb dX5_sand_5 rfl (lv_at hl 0 rfl) ?_
      refine va_get (D := D) (ci := 4) (v := .ref (r0 17)) (C := RX5) (T := TX5) (N := 18) hx hb hts in_X5 hown hK (hR.at hS) 0 rfl rfl 17 (by decide) (hts _ q386) (fun _ h9 => h9) rfl dX5_sand_6 ?_
      refine va_getN (D := D) (ci := 0) (v := .ref (r1 5)) (C := RX0) (T := TX0) (N := 25) hx hb hts in_X0 hown hK (hR.at hS) 1 rfl rfl 5 (by decide) (hE.2.1.use q456 rfl rfl) (fun _ h9 => h9) rfl dX5_sand_9 ?_
      obtain ⟨u1, hGu1, hF⟩ := tk_kb hF
      refine va_calli (va_runV (As := []) (rest := [.int x2]) ⟨hx, hb, hml, hown, hts⟩ (mX2_cells (l := l) (D := D) (ar := ar) (ad := ad) (xs := xs) (sz := H.size) (h0 := (r1 5)) (r0 := r2) (i0 := (tu (tu i2 0 columns) 1 rows)) (columns := columns) (rows := rows) (hF := hGu1)) (cwV 0 hts (lw_V q429 q430 q431 q92 q432) rfl rfl rfl (by decide +kernel) ⟨(Nat.le_of_ble_eq_true rfl), (Nat.le_of_ble_eq_true rfl)⟩) ⟨tk_blind, va_recv hK (hR.at hS) (ci := 2) (q0 := 2) rfl rfl, fun U hU hW => ⟨rfl, tk_mk hP hD hS hA hE hR hX [] [2] rfl rfl rfl rfl U hU hW⟩⟩ rfl rfl hl.1 rfl (lv_room (Nat.le_of_ble_eq_true rfl)) dX5_sand_12 ⟨(Nat.le_of_ble_eq_true rfl), (Nat.le_of_ble_eq_true rfl)⟩) hS (fun q _ h => (va_free hD hS hA [] rfl) q h) (va_free hD hS hA [] rfl) (fun zr zu zt H1 zl zht zvm zw zB zz zk zS => ?_)
      obtain ⟨hP, hD⟩ := tk_join hP hD zk [] rfl rfl (va_free hD hS hA [] rfl) (zht ▸ zB.1) zB.2 (Nat.le_of_ble_eq_true rfl)
      have hS := zS
      have zw := Eq.symm zw
      subst zw
      generalize H1 = H at hP hS ⊢
      have hP : va_P D tkCl [] H := hP
      have hD : va_D A [] := hD
      refine lv_icmp_ge (tgt := 33) hx hb dX5_sand_15 (by decide) (fun c2 => ?_) (fun c2 => ?_)
      · have hF := tk_kt hF c2
        refine lv_iload_n hx hb dX5_sand_33 rfl (lv_at hl 1 rfl) ?_
        have eo := tk_kr hF
        subst eo
        exact W.iret (v := x1) hx hb hr (fun t ht hW => ⟨⟨_, (), rfl, rfl, tk_pst ht hP hD⟩, hS.F ht⟩) hS.2.2 dX5_sand_34
      · have hF := tk_kf hF c2
        refine lv_iload_n hx hb dX5_sand_18 rfl (lv_at hl 1 rfl) ?_
        refine lv_aload_n hx hb dX5_sand_19 rfl (lv_at hl 0 rfl) ?_
        refine va_get (D := D) (ci := 4) (v := .ref (r0 0)) (C := RX5) (T := TX5) (N := 18) hx hb hts in_X5 hown hK (hR.at hS) 0 rfl rfl 0 (by decide) (hts _ q355) (fun _ h9 => h9) rfl dX5_sand_20 ?_
        refine lv_iload_n hx hb dX5_sand_23 rfl (lv_at hl 2 rfl) ?_
        obtain ⟨gd3, hF⟩ := tk_kg hF
        refine va_iald hx hb hK (hR.at hS) 3 0 rfl rfl gd3 dX5_sand_24 ?_
        refine lv_iadd hx hb dX5_sand_25 ?_
        refine lv_istore_n (lv' := [(1, .int (x1 + (height x2.toNatClampNeg))), (0, .ref h0), (2, .int x2)]) hx hb dX5_sand_26 rfl hl (Nat.le_of_ble_eq_true rfl) rfl (fun ls hl => ?_)
        refine lv_iinc (v := x2 + 1) (lv' := [(2, .int (x2 + 1)), (1, .int (x1 + (height x2.toNatClampNeg))), (0, .ref h0)]) hx hb dX5_sand_27 hl (k := 2) rfl (congrArg (fun z => x2 + z) (show Int32.ofInt 1 = 1 by decide)) (Nat.le_of_ble_eq_true rfl) rfl (fun ls hl => ?_)
        refine lv_goto (tgt := 4) hx hb dX5_sand_30 (by decide) ?_
        exact ih4 (x1 + (height x2.toNatClampNeg)) (x2 + 1) _ _ _ hF hP hD hS (lv_sub hl [2, 1, 0] rfl)
  have ih4 := key n0
  clear key
  unfold bX5_sand_0 at hF
  have hF : tk_k (stX5_sand columns rows height) n0 _ = some o := hF
  refine lv_iconst (v := 0) hx hb dX5_sand_0 (by decide) ?_
  refine lv_istore_n (lv' := [(1, .int 0), (0, .ref h0)]) hx hb dX5_sand_1 rfl hl (Nat.le_of_ble_eq_true rfl) rfl (fun ls hl => ?_)
  refine lv_iconst (v := 0) hx hb dX5_sand_2 (by decide) ?_
  refine lv_istore_n (lv' := [(2, .int 0), (1, .int 0), (0, .ref h0)]) hx hb dX5_sand_3 rfl hl (Nat.le_of_ble_eq_true rfl) rfl (fun ls hl => ?_)
  exact ih4 0 0 _ _ _ hF hP hD hS (lv_sub hl [2, 1, 0] rfl)
set_option maxHeartbeats 4000000 in
theorem mJ6_fill (l : Launch) (D : va_G) (ar : Nat → ClassId) (ad : Nat → Nat → Nat) (xs : va_W) (sz : Nat) (h0 n_p0 : Nat) (p1 : Int32) (p0 : Nat → Int32) (o : (Nat → Int32)) (hF : fJ6_fill n_p0 p1 p0 = some o) : Met l yJ6_fill (ws_ yJ6_fill cJ6_fill 4 none) ({ frames := 0, cells := 0, slots := 0, locals := 0 }) (va_Pc [.ref h0, .int p1] (tk_Pre D ar ad [(h0, .inl (ar 0, n_p0, .inl p0))] [] xs sz)) (va_Qv (fun _ : Unit => True) (fun _ t => tk_Post D (va_A [(h0, .inl (ar 0, n_p0, .inl p0))] sz) [(h0, .inl (ar 0, n_p0, .inl o))] t) (va_A [(h0, .inl (ar 0, n_p0, .inl p0))] sz)) 0 0 (va_A [(h0, .inl (ar 0, n_p0, .inl p0))] sz) := by
  refine Met.ofW (cc := cJ6_fill) (maxL := 4) (ret := none) (by decide) rfl ?_
  intro p e s m args below meth c s₁ B hml hv
  obtain ⟨rfl, hsz, hP, hD0, hR, hX, hE⟩ := hv
  have hx := B.exec
  have hb := B.bytes
  have hr := B.returns
  have hts := atoms_spec (ws := (ws_ yJ6_fill cJ6_fill 4 none)) B.pre
  have hts : ∀ w ∈ lw_all, w.before _ s = true := fun w h => hts w (List.mem_cons_of_mem _ h)
  have hown : s.vm.findClass RJ6 = some m.cls := findClass_of_methodNamed B.named
  have hlocks := B.notSynchronized
  subst hsz
  have hD := hD0.self (sz := s.heap.size)
  generalize hAe : va_A [(h0, .inl (ar 0, n_p0, .inl p0))] s.heap.size = A at hD hR hX hE ⊢
  have hA : ∀ q : Nat, s.heap.size ≤ q → A q := fun q h => by rw [← hAe]; exact Or.inr h
  have hS : va_S A s.heap s.heap [] := va_S.rf
  have hK := hE.1
  have hl := lv_entry ([.ref h0, .int p1]) (n := 4) (Nat.le_of_ble_eq_true rfl)
  rw [lg_entry_eq]
  generalize (lg_sl ([.ref h0, .int p1]) ++ List.replicate (4 - (lg_sl ([.ref h0, .int p1])).length) Slot.unset).toArray = ls at hl ⊢
  have hl : lv_has ls 4 [(0, .ref h0), (1, .int p1)] := hl
  have hP : va_P D tkCl [(h0, .inl (ar 0, n_p0, .inl p0))] s.heap := hP
  obtain ⟨n0, hF⟩ : ∃ n, tk_k (stJ6_fill n_p0) n (bJ6_fill_0 n_p0 p1 p0) = some o := tk_fin_it hF
  have key : ∀ n : Nat, (∀ (x1 x2 x3 : Int32) (p0 : Nat → Int32) (H : Heap) (locs : List Loc) (ls : Array Slot), tk_it (stJ6_fill n_p0) n (1, (x1, x2, x3, p0)) = some o → va_P D tkCl [(h0, .inl (ar 0, n_p0, .inl p0))] H → va_D A [(h0, .inl (ar 0, n_p0, .inl p0))] → va_S A s.heap H locs → lv_has ls 4 [(0, .ref h0), (1, .int x1), (2, .int x2), (3, .int x3)] → W p l e (headSpec (ws_ yJ6_fill cJ6_fill 4 none) ({ frames := 0, cells := 0, slots := 0, locals := 0 })).room s m ([.ref h0, .int p1] : List Value).toArray below meth c H locs 0 0 (MQ below (va_Qv (fun _ : Unit => True) (fun _ t => tk_Post D A [(h0, .inl (ar 0, n_p0, .inl o))] t) A) ([.ref h0, .int p1] : List Value).toArray s 0 0 A) (F0 m 5 ls [])) := by
    intro n
    induction n with
    | zero => exact fun x1 x2 x3 p0 H locs ls hF => (by cases hF)
    | succ n ih =>
      have ih5 := ih
      intro x1 x2 x3 p0 H locs ls hF hP hD hS hl
      have hF : tk_k (stJ6_fill n_p0) n (bJ6_fill_1 n_p0 x1 x2 x3 p0) = some o := hF
      unfold bJ6_fill_1 at hF
      refine lv_iload_n hx hb dJ6_fill_5 rfl (lv_at hl 2 rfl) ?_
      refine lv_iload_n hx hb dJ6_fill_6 rfl (lv_at hl 3 rfl) ?_
      refine lv_icmp_ge (tgt := 20) hx hb dJ6_fill_7 (by decide) (fun c1 => ?_) (fun c1 => ?_)
      · have hF := tk_kt hF c1
        have eo := tk_kr hF
        subst eo
        exact W.vret hx hb hr (fun t ht hW => ⟨⟨(), rfl, trivial, tk_pst ht hP hD⟩, hS.F ht⟩) hS.2.2 dJ6_fill_20
      · have hF := tk_kf hF c1
        refine lv_aload_n hx hb dJ6_fill_10 rfl (lv_at hl 0 rfl) ?_
        refine lv_iload_n hx hb dJ6_fill_11 rfl (lv_at hl 2 rfl) ?_
        refine lv_iload_n hx hb dJ6_fill_12 rfl (lv_at hl 1 rfl) ?_
        obtain ⟨gd2, hF⟩ := tk_kg hF
        refine va_iast hx hb hK hP hD hS 0 0 rfl rfl gd2 dJ6_fill_13 (fun H locs hP hD hS => ?_)
        have hP : va_P D tkCl [(h0, .inl (ar 0, n_p0, .inl (upd p0 x2.toNatClampNeg x1)))] H := hP
        have hD : va_D A [(h0, .inl (ar 0, n_p0, .inl (upd p0 x2.toNatClampNeg x1)))] := hD
        refine lv_iinc (v := x2 + 1) (lv' := [(2, .int (x2 + 1)), (0, .ref h0), (1, .int x1), (3, .int x3)]) hx hb dJ6_fill_14 hl (k := 2) rfl (congrArg (fun z => x2 + z) (show Int32.ofInt 1 = 1 by decide)) (Nat.le_of_ble_eq_true rfl) rfl (fun ls hl => ?_)
        refine lv_goto (tgt := 5) hx hb dJ6_fill_17 (by decide) ?_
        exact ih5 x1 (x2 + 1) x3 (upd p0 x2.toNatClampNeg x1) _ _ _ hF hP hD hS (lv_sub hl [1, 2, 0, 3] rfl)
  have ih5 := key n0
  clear key
  unfold bJ6_fill_0 at hF
  have hF : tk_k (stJ6_fill n_p0) n0 _ = some o := hF
  refine lv_iconst (v := 0) hx hb dJ6_fill_0 (by decide) ?_
  refine lv_istore_n (lv' := [(2, .int 0), (0, .ref h0), (1, .int p1)]) hx hb dJ6_fill_1 rfl hl (Nat.le_of_ble_eq_true rfl) rfl (fun ls hl => ?_)
  refine lv_aload_n hx hb dJ6_fill_2 rfl (lv_at hl 1 rfl) ?_
  refine va_alen (v := Int32.ofNat n_p0) hx hb hK hP 0 0 rfl rfl rfl dJ6_fill_3 ?_
  refine lv_istore_n (lv' := [(3, .int (Int32.ofNat n_p0)), (2, .int 0), (0, .ref h0), (1, .int p1)]) hx hb dJ6_fill_4 rfl hl (Nat.le_of_ble_eq_true rfl) rfl (fun ls hl => ?_)
  exact ih5 p1 0 (Int32.ofNat n_p0) p0 _ _ _ hF hP hD hS (lv_sub hl [2, 3, 1, 0] rfl)
set_option maxHeartbeats 4000000 in
theorem mJ6_fill_2 (l : Launch) (D : va_G) (ar : Nat → ClassId) (ad : Nat → Nat → Nat) (xs : va_W) (sz : Nat) (h0 n_p0 : Nat) (p1 : Int32) (p0 : Nat → Int32) (o : (Nat → Int32)) (hF : fJ6_fill_2 n_p0 p1 p0 = some o) : Met l yJ6_fill_2 (ws_ yJ6_fill_2 cJ6_fill_2 4 none) ({ frames := 0, cells := 0, slots := 0, locals := 0 }) (va_Pc [.ref h0, .int p1] (tk_Pre D ar ad [(h0, .inl (ar 2, n_p0, .inl p0))] [] xs sz)) (va_Qv (fun _ : Unit => True) (fun _ t => tk_Post D (va_A [(h0, .inl (ar 2, n_p0, .inl p0))] sz) [(h0, .inl (ar 2, n_p0, .inl o))] t) (va_A [(h0, .inl (ar 2, n_p0, .inl p0))] sz)) 0 0 (va_A [(h0, .inl (ar 2, n_p0, .inl p0))] sz) := by
  refine Met.ofW (cc := cJ6_fill_2) (maxL := 4) (ret := none) (by decide) rfl ?_
  intro p e s m args below meth c s₁ B hml hv
  obtain ⟨rfl, hsz, hP, hD0, hR, hX, hE⟩ := hv
  have hx := B.exec
  have hb := B.bytes
  have hr := B.returns
  have hts := atoms_spec (ws := (ws_ yJ6_fill_2 cJ6_fill_2 4 none)) B.pre
  have hts : ∀ w ∈ lw_all, w.before _ s = true := fun w h => hts w (List.mem_cons_of_mem _ h)
  have hown : s.vm.findClass RJ6 = some m.cls := findClass_of_methodNamed B.named
  have hlocks := B.notSynchronized
  subst hsz
  have hD := hD0.self (sz := s.heap.size)
  generalize hAe : va_A [(h0, .inl (ar 2, n_p0, .inl p0))] s.heap.size = A at hD hR hX hE ⊢
  have hA : ∀ q : Nat, s.heap.size ≤ q → A q := fun q h => by rw [← hAe]; exact Or.inr h
  have hS : va_S A s.heap s.heap [] := va_S.rf
  have hK := hE.1
  have hl := lv_entry ([.ref h0, .int p1]) (n := 4) (Nat.le_of_ble_eq_true rfl)
  rw [lg_entry_eq]
  generalize (lg_sl ([.ref h0, .int p1]) ++ List.replicate (4 - (lg_sl ([.ref h0, .int p1])).length) Slot.unset).toArray = ls at hl ⊢
  have hl : lv_has ls 4 [(0, .ref h0), (1, .int p1)] := hl
  have hP : va_P D tkCl [(h0, .inl (ar 2, n_p0, .inl p0))] s.heap := hP
  obtain ⟨n0, hF⟩ : ∃ n, tk_k (stJ6_fill_2 n_p0) n (bJ6_fill_2_0 n_p0 p1 p0) = some o := tk_fin_it hF
  have key : ∀ n : Nat, (∀ (x1 x2 x3 : Int32) (p0 : Nat → Int32) (H : Heap) (locs : List Loc) (ls : Array Slot), tk_it (stJ6_fill_2 n_p0) n (1, (x1, x2, x3, p0)) = some o → va_P D tkCl [(h0, .inl (ar 2, n_p0, .inl p0))] H → va_D A [(h0, .inl (ar 2, n_p0, .inl p0))] → va_S A s.heap H locs → lv_has ls 4 [(0, .ref h0), (1, .int x1), (2, .int x2), (3, .int x3)] → W p l e (headSpec (ws_ yJ6_fill_2 cJ6_fill_2 4 none) ({ frames := 0, cells := 0, slots := 0, locals := 0 })).room s m ([.ref h0, .int p1] : List Value).toArray below meth c H locs 0 0 (MQ below (va_Qv (fun _ : Unit => True) (fun _ t => tk_Post D A [(h0, .inl (ar 2, n_p0, .inl o))] t) A) ([.ref h0, .int p1] : List Value).toArray s 0 0 A) (F0 m 5 ls [])) := by
    intro n
    induction n with
    | zero => exact fun x1 x2 x3 p0 H locs ls hF => (by cases hF)
    | succ n ih =>
      have ih5 := ih
      intro x1 x2 x3 p0 H locs ls hF hP hD hS hl
      have hF : tk_k (stJ6_fill_2 n_p0) n (bJ6_fill_2_1 n_p0 x1 x2 x3 p0) = some o := hF
      unfold bJ6_fill_2_1 at hF
      refine lv_iload_n hx hb dJ6_fill_2_5 rfl (lv_at hl 2 rfl) ?_
      refine lv_iload_n hx hb dJ6_fill_2_6 rfl (lv_at hl 3 rfl) ?_
      refine lv_icmp_ge (tgt := 20) hx hb dJ6_fill_2_7 (by decide) (fun c1 => ?_) (fun c1 => ?_)
      · have hF := tk_kt hF c1
        have eo := tk_kr hF
        subst eo
        exact W.vret hx hb hr (fun t ht hW => ⟨⟨(), rfl, trivial, tk_pst ht hP hD⟩, hS.F ht⟩) hS.2.2 dJ6_fill_2_20
      · have hF := tk_kf hF c1
        refine lv_aload_n hx hb dJ6_fill_2_10 rfl (lv_at hl 0 rfl) ?_
        refine lv_iload_n hx hb dJ6_fill_2_11 rfl (lv_at hl 2 rfl) ?_
        refine lv_iload_n hx hb dJ6_fill_2_12 rfl (lv_at hl 1 rfl) ?_
        obtain ⟨gd2, hF⟩ := tk_kg hF
        refine va_zast hx hb hK hP hD hS 0 2 rfl rfl gd2 dJ6_fill_2_13 (fun H locs hP hD hS => ?_)
        have hP : va_P D tkCl [(h0, .inl (ar 2, n_p0, .inl (upd p0 x2.toNatClampNeg (vp_nar .boolean x1))))] H := hP
        have hD : va_D A [(h0, .inl (ar 2, n_p0, .inl (upd p0 x2.toNatClampNeg (vp_nar .boolean x1))))] := hD
        refine lv_iinc (v := x2 + 1) (lv' := [(2, .int (x2 + 1)), (0, .ref h0), (1, .int x1), (3, .int x3)]) hx hb dJ6_fill_2_14 hl (k := 2) rfl (congrArg (fun z => x2 + z) (show Int32.ofInt 1 = 1 by decide)) (Nat.le_of_ble_eq_true rfl) rfl (fun ls hl => ?_)
        refine lv_goto (tgt := 5) hx hb dJ6_fill_2_17 (by decide) ?_
        exact ih5 x1 (x2 + 1) x3 (upd p0 x2.toNatClampNeg (vp_nar .boolean x1)) _ _ _ hF hP hD hS (lv_sub hl [1, 2, 0, 3] rfl)
  have ih5 := key n0
  clear key
  unfold bJ6_fill_2_0 at hF
  have hF : tk_k (stJ6_fill_2 n_p0) n0 _ = some o := hF
  refine lv_iconst (v := 0) hx hb dJ6_fill_2_0 (by decide) ?_
  refine lv_istore_n (lv' := [(2, .int 0), (0, .ref h0), (1, .int p1)]) hx hb dJ6_fill_2_1 rfl hl (Nat.le_of_ble_eq_true rfl) rfl (fun ls hl => ?_)
  refine lv_aload_n hx hb dJ6_fill_2_2 rfl (lv_at hl 1 rfl) ?_
  refine va_alen (v := Int32.ofNat n_p0) hx hb hK hP 0 2 rfl rfl rfl dJ6_fill_2_3 ?_
  refine lv_istore_n (lv' := [(3, .int (Int32.ofNat n_p0)), (2, .int 0), (0, .ref h0), (1, .int p1)]) hx hb dJ6_fill_2_4 rfl hl (Nat.le_of_ble_eq_true rfl) rfl (fun ls hl => ?_)
  exact ih5 p1 0 (Int32.ofNat n_p0) p0 _ _ _ hF hP hD hS (lv_sub hl [2, 3, 1, 0] rfl)
set_option maxHeartbeats 4000000 in
theorem mX5_hold (l : Launch) (D : va_G) (ar : Nat → ClassId) (ad : Nat → Nat → Nat) (xs : va_W) (sz : Nat) (h0 : Nat) (r0 : Nat → Nat) (i0 : Nat → Int32) (j0 : Nat → Int64) (p0 plan : Int32) (nextAct done isResting : Nat → Int32) (o : Int32 × (Nat → Int32) × (Nat → Int32) × (Nat → Int32)) (hF : fX5_hold p0 plan nextAct done isResting = some o) : Met l yX5_hold (ws_ yX5_hold cX5_hold 2 none) ({ frames := 1, cells := 0, slots := 0, locals := 23 }) (va_Pc [.ref h0, .int p0] (tk_Pre D ar ad [(h0, .inr (4, oX5 r0 (tu i0 15 plan) j0)), ((r0 3), .inl (ar 0, 4, .inl nextAct)), ((r0 4), .inl (ar 0, 4, .inl done)), ((r0 8), .inl (ar 2, 4, .inl isResting))] [] xs sz)) (va_Qv (fun _ : Unit => True) (fun _ t => tk_Post D (va_A [(h0, .inr (4, oX5 r0 (tu i0 15 plan) j0)), ((r0 3), .inl (ar 0, 4, .inl nextAct)), ((r0 4), .inl (ar 0, 4, .inl done)), ((r0 8), .inl (ar 2, 4, .inl isResting))] sz) [(h0, .inr (4, oX5 r0 (tu i0 15 o.1) j0)), ((r0 3), .inl (ar 0, 4, .inl o.2.1)), ((r0 4), .inl (ar 0, 4, .inl o.2.2.1)), ((r0 8), .inl (ar 2, 4, .inl o.2.2.2))] t) (va_A [(h0, .inr (4, oX5 r0 (tu i0 15 plan) j0)), ((r0 3), .inl (ar 0, 4, .inl nextAct)), ((r0 4), .inl (ar 0, 4, .inl done)), ((r0 8), .inl (ar 2, 4, .inl isResting))] sz)) 0 0 (va_A [(h0, .inr (4, oX5 r0 (tu i0 15 plan) j0)), ((r0 3), .inl (ar 0, 4, .inl nextAct)), ((r0 4), .inl (ar 0, 4, .inl done)), ((r0 8), .inl (ar 2, 4, .inl isResting))] sz) := by
  refine Met.ofW (cc := cX5_hold) (maxL := 2) (ret := none) (by decide) rfl ?_
  intro p e s m args below meth c s₁ B hml hv
  obtain ⟨rfl, hsz, hP, hD0, hR, hX, hE⟩ := hv
  have hx := B.exec
  have hb := B.bytes
  have hr := B.returns
  have hts := atoms_spec (ws := (ws_ yX5_hold cX5_hold 2 none)) B.pre
  have hts : ∀ w ∈ lw_all, w.before _ s = true := fun w h => hts w (List.mem_cons_of_mem _ h)
  have hown : s.vm.findClass RX5 = some m.cls := findClass_of_methodNamed B.named
  have hlocks := B.notSynchronized
  subst hsz
  have hD := hD0.self (sz := s.heap.size)
  generalize hAe : va_A [(h0, .inr (4, oX5 r0 (tu i0 15 plan) j0)), ((r0 3), .inl (ar 0, 4, .inl nextAct)), ((r0 4), .inl (ar 0, 4, .inl done)), ((r0 8), .inl (ar 2, 4, .inl isResting))] s.heap.size = A at hD hR hX hE ⊢
  have hA : ∀ q : Nat, s.heap.size ≤ q → A q := fun q h => by rw [← hAe]; exact Or.inr h
  have hS : va_S A s.heap s.heap [] := va_S.rf
  have hK := hE.1
  have hl := lv_entry ([.ref h0, .int p0]) (n := 2) (Nat.le_of_ble_eq_true rfl)
  rw [lg_entry_eq]
  generalize (lg_sl ([.ref h0, .int p0]) ++ List.replicate (2 - (lg_sl ([.ref h0, .int p0])).length) Slot.unset).toArray = ls at hl ⊢
  have hl : lv_has ls 2 [(0, .ref h0), (1, .int p0)] := hl
  have hP : va_P D tkCl [(h0, .inr (4, oX5 r0 (tu i0 15 plan) j0)), ((r0 3), .inl (ar 0, 4, .inl nextAct)), ((r0 4), .inl (ar 0, 4, .inl done)), ((r0 8), .inl (ar 2, 4, .inl isResting))] s.heap := hP
  unfold fX5_hold at hF
  refine lv_aload_n hx hb dX5_hold_0 rfl (lv_at hl 0 rfl) ?_
  refine lv_iload_n hx hb dX5_hold_1 rfl (lv_at hl 1 rfl) ?_
  refine va_put (D := D) (ci := 4) (v := .int p0) (ty := .int) (C := RX5) (T := TX5) (N := 18) hx hb hts in_X5 tyX5 tyX5_ok nmX5 hown hK hP hD hS 0 rfl rfl 15 (by decide) (hts _ q382) (fun _ h9 => h9) rfl (by decide +kernel) rfl rfl (Nat.le_of_ble_eq_true rfl) dX5_hold_2 (fun H locs hP hD hS => ?_)
  have hP : va_P D tkCl [(h0, .inr (4, oX5 r0 (tu i0 15 p0) j0)), ((r0 3), .inl (ar 0, 4, .inl nextAct)), ((r0 4), .inl (ar 0, 4, .inl done)), ((r0 8), .inl (ar 2, 4, .inl isResting))] H := hP
  have hD : va_D A [(h0, .inr (4, oX5 r0 (tu i0 15 p0) j0)), ((r0 3), .inl (ar 0, 4, .inl nextAct)), ((r0 4), .inl (ar 0, 4, .inl done)), ((r0 8), .inl (ar 2, 4, .inl isResting))] := hD
  refine lv_aload_n hx hb dX5_hold_5 rfl (lv_at hl 0 rfl) ?_
  refine va_get (D := D) (ci := 4) (v := .ref (r0 3)) (C := RX5) (T := TX5) (N := 18) hx hb hts in_X5 hown hK hP 0 rfl rfl 3 (by decide) (hts _ q361) (fun _ h9 => h9) rfl dX5_hold_6 ?_
  refine lv_iconst (v := 0) hx hb dX5_hold_9 (by decide) ?_
  obtain ⟨u1, hGu1, hF⟩ := tk_pb hF
  refine va_callv (va_runS (As := [.ref (r0 3), .int 0]) (rest := []) ⟨hx, hb, hml, hown, hts⟩ (mJ6_fill (l := l) (D := D) (ar := ar) (ad := ad) (xs := xs) (sz := H.size) (h0 := (r0 3)) (n_p0 := 4) (p0 := nextAct) (p1 := 0) (hF := hGu1)) (va_cwS 2 hts (lw_S q443 q444 q100 q445) rfl rfl rfl (by decide +kernel) ⟨(Nat.le_of_ble_eq_true rfl), (Nat.le_of_ble_eq_true rfl)⟩) ⟨tk_blind, fun U hU hW => ⟨rfl, tk_mk hP hD hS hA hE hR hX [1] [] rfl rfl rfl rfl U hU hW⟩⟩ rfl rfl hl.1 rfl (lv_room (Nat.le_of_ble_eq_true rfl)) dX5_hold_10 ⟨(Nat.le_of_ble_eq_true rfl), (Nat.le_of_ble_eq_true rfl)⟩) hS (fun q _ h => (va_free hD hS hA [1] rfl) q h) (va_free hD hS hA [1] rfl) (fun zu zt H1 zl zht zvm zw zB zz zk zS => ?_)
  obtain ⟨hP, hD⟩ := tk_join hP hD zk [1] rfl rfl (va_free hD hS hA [1] rfl) (zht ▸ zB.1) zB.2 (Nat.le_of_ble_eq_true rfl)
  have hS := zS
  generalize H1 = H at hP hS ⊢
  have hP : va_P D tkCl [(h0, .inr (4, oX5 r0 (tu i0 15 p0) j0)), ((r0 3), .inl (ar 0, 4, .inl u1)), ((r0 4), .inl (ar 0, 4, .inl done)), ((r0 8), .inl (ar 2, 4, .inl isResting))] H := hP
  have hD : va_D A [(h0, .inr (4, oX5 r0 (tu i0 15 p0) j0)), ((r0 3), .inl (ar 0, 4, .inl u1)), ((r0 4), .inl (ar 0, 4, .inl done)), ((r0 8), .inl (ar 2, 4, .inl isResting))] := hD
  refine lv_aload_n hx hb dX5_hold_13 rfl (lv_at hl 0 rfl) ?_
  refine va_get (D := D) (ci := 4) (v := .ref (r0 4)) (C := RX5) (T := TX5) (N := 18) hx hb hts in_X5 hown hK hP 0 rfl rfl 4 (by decide) (hts _ q362) (fun _ h9 => h9) rfl dX5_hold_14 ?_
  refine lv_iconst (v := 0) hx hb dX5_hold_17 (by decide) ?_
  obtain ⟨u2, hGu2, hF⟩ := tk_pb hF
  refine va_callv (va_runS (As := [.ref (r0 4), .int 0]) (rest := []) ⟨hx, hb, hml, hown, hts⟩ (mJ6_fill (l := l) (D := D) (ar := ar) (ad := ad) (xs := xs) (sz := H.size) (h0 := (r0 4)) (n_p0 := 4) (p0 := done) (p1 := 0) (hF := hGu2)) (va_cwS 2 hts (lw_S q443 q444 q100 q445) rfl rfl rfl (by decide +kernel) ⟨(Nat.le_of_ble_eq_true rfl), (Nat.le_of_ble_eq_true rfl)⟩) ⟨tk_blind, fun U hU hW => ⟨rfl, tk_mk hP hD hS hA hE hR hX [2] [] rfl rfl rfl rfl U hU hW⟩⟩ rfl rfl hl.1 rfl (lv_room (Nat.le_of_ble_eq_true rfl)) dX5_hold_18 ⟨(Nat.le_of_ble_eq_true rfl), (Nat.le_of_ble_eq_true rfl)⟩) hS (fun q _ h => (va_free hD hS hA [2] rfl) q h) (va_free hD hS hA [2] rfl) (fun zu zt H1 zl zht zvm zw zB zz zk zS => ?_)
  obtain ⟨hP, hD⟩ := tk_join hP hD zk [2] rfl rfl (va_free hD hS hA [2] rfl) (zht ▸ zB.1) zB.2 (Nat.le_of_ble_eq_true rfl)
  have hS := zS
  generalize H1 = H at hP hS ⊢
  have hP : va_P D tkCl [(h0, .inr (4, oX5 r0 (tu i0 15 p0) j0)), ((r0 3), .inl (ar 0, 4, .inl u1)), ((r0 4), .inl (ar 0, 4, .inl u2)), ((r0 8), .inl (ar 2, 4, .inl isResting))] H := hP
  have hD : va_D A [(h0, .inr (4, oX5 r0 (tu i0 15 p0) j0)), ((r0 3), .inl (ar 0, 4, .inl u1)), ((r0 4), .inl (ar 0, 4, .inl u2)), ((r0 8), .inl (ar 2, 4, .inl isResting))] := hD
  refine lv_aload_n hx hb dX5_hold_21 rfl (lv_at hl 0 rfl) ?_
  refine va_get (D := D) (ci := 4) (v := .ref (r0 8)) (C := RX5) (T := TX5) (N := 18) hx hb hts in_X5 hown hK hP 0 rfl rfl 8 (by decide) (hts _ q369) (fun _ h9 => h9) rfl dX5_hold_22 ?_
  refine lv_iconst (v := 0) hx hb dX5_hold_25 (by decide) ?_
  obtain ⟨u3, hGu3, hF⟩ := tk_pb hF
  refine va_callv (va_runS (As := [.ref (r0 8), .int 0]) (rest := []) ⟨hx, hb, hml, hown, hts⟩ (mJ6_fill_2 (l := l) (D := D) (ar := ar) (ad := ad) (xs := xs) (sz := H.size) (h0 := (r0 8)) (n_p0 := 4) (p0 := isResting) (p1 := 0) (hF := hGu3)) (va_cwS 2 hts (lw_S q446 q447 q100 q448) rfl rfl rfl (by decide +kernel) ⟨(Nat.le_of_ble_eq_true rfl), (Nat.le_of_ble_eq_true rfl)⟩) ⟨tk_blind, fun U hU hW => ⟨rfl, tk_mk hP hD hS hA hE hR hX [3] [] rfl rfl rfl rfl U hU hW⟩⟩ rfl rfl hl.1 rfl (lv_room (Nat.le_of_ble_eq_true rfl)) dX5_hold_26 ⟨(Nat.le_of_ble_eq_true rfl), (Nat.le_of_ble_eq_true rfl)⟩) hS (fun q _ h => (va_free hD hS hA [3] rfl) q h) (va_free hD hS hA [3] rfl) (fun zu zt H1 zl zht zvm zw zB zz zk zS => ?_)
  obtain ⟨hP, hD⟩ := tk_join hP hD zk [3] rfl rfl (va_free hD hS hA [3] rfl) (zht ▸ zB.1) zB.2 (Nat.le_of_ble_eq_true rfl)
  have hS := zS
  generalize H1 = H at hP hS ⊢
  have hP : va_P D tkCl [(h0, .inr (4, oX5 r0 (tu i0 15 p0) j0)), ((r0 3), .inl (ar 0, 4, .inl u1)), ((r0 4), .inl (ar 0, 4, .inl u2)), ((r0 8), .inl (ar 2, 4, .inl u3))] H := hP
  have hD : va_D A [(h0, .inr (4, oX5 r0 (tu i0 15 p0) j0)), ((r0 3), .inl (ar 0, 4, .inl u1)), ((r0 4), .inl (ar 0, 4, .inl u2)), ((r0 8), .inl (ar 2, 4, .inl u3))] := hD
  have eo := tk_pr hF
  subst eo
  exact W.vret hx hb hr (fun t ht hW => ⟨⟨(), rfl, trivial, tk_pst ht hP hD⟩, hS.F ht⟩) hS.2.2 dX5_hold_29
set_option maxHeartbeats 4000000 in
theorem mX5_sun (l : Launch) (D : va_G) (ar : Nat → ClassId) (ad : Nat → Nat → Nat) (xs : va_W) (sz : Nat) (h0 : Nat) (r0 : Nat → Nat) (i0 : Nat → Int32) (j0 : Nat → Int64) (r1 : Nat → Nat) (i1 : Nat → Int32) (r2 : Nat → Nat) (i2 : Nat → Int32) (minute columns rows : Int32) (numbers height wet : Nat → Int32) (o : (Nat → Int32)) (hF : fX5_sun minute columns rows numbers height wet = some o) : Met l yX5_sun (ws_ yX5_sun cX5_sun 2 none) ({ frames := 2, cells := 0, slots := 0, locals := 41 }) (va_Pc [.ref h0] (tk_Pre D ar ad [((r0 1), .inl (ar 0, 64, .inl wet))] [(h0, .inr (4, oX5 r0 (tu i0 9 minute) j0)), ((r0 17), .inr (0, oX0 r1 i1)), ((r1 5), .inr (2, oX2 r2 (tu (tu i2 0 columns) 1 rows))), ((r2 7), .inl (ar 0, 6, .inl numbers)), ((r0 0), .inl (ar 0, 64, .inl height))] xs sz)) (va_Qv (fun _ : Unit => True) (fun _ t => tk_Post D (va_A [((r0 1), .inl (ar 0, 64, .inl wet))] sz) [((r0 1), .inl (ar 0, 64, .inl o))] t) (va_A [((r0 1), .inl (ar 0, 64, .inl wet))] sz)) 0 0 (va_A [((r0 1), .inl (ar 0, 64, .inl wet))] sz) := by
  refine Met.ofW (cc := cX5_sun) (maxL := 2) (ret := none) (by decide) rfl ?_
  intro p e s m args below meth c s₁ B hml hv
  obtain ⟨rfl, hsz, hP, hD0, hR, hX, hE⟩ := hv
  have hx := B.exec
  have hb := B.bytes
  have hr := B.returns
  have hts := atoms_spec (ws := (ws_ yX5_sun cX5_sun 2 none)) B.pre
  have hts : ∀ w ∈ lw_all, w.before _ s = true := fun w h => hts w (List.mem_cons_of_mem _ h)
  have hown : s.vm.findClass RX5 = some m.cls := findClass_of_methodNamed B.named
  have hlocks := B.notSynchronized
  subst hsz
  have hD := hD0.self (sz := s.heap.size)
  generalize hAe : va_A [((r0 1), .inl (ar 0, 64, .inl wet))] s.heap.size = A at hD hR hX hE ⊢
  have hA : ∀ q : Nat, s.heap.size ≤ q → A q := fun q h => by rw [← hAe]; exact Or.inr h
  have hS : va_S A s.heap s.heap [] := va_S.rf
  have hK := hE.1
  have hl := lv_entry ([.ref h0]) (n := 2) (Nat.le_of_ble_eq_true rfl)
  rw [lg_entry_eq]
  generalize (lg_sl ([.ref h0]) ++ List.replicate (2 - (lg_sl ([.ref h0])).length) Slot.unset).toArray = ls at hl ⊢
  have hl : lv_has ls 2 [(0, .ref h0)] := hl
  have hP : va_P D tkCl [((r0 1), .inl (ar 0, 64, .inl wet))] s.heap := hP
  obtain ⟨n0, hF⟩ : ∃ n, tk_k (stX5_sun minute columns rows numbers height) n (bX5_sun_0 minute columns rows numbers height wet) = some o := tk_fin_it hF
  have key : ∀ n : Nat, (∀ (x1 : Int32) (wet : Nat → Int32) (H : Heap) (locs : List Loc) (ls : Array Slot), tk_it (stX5_sun minute columns rows numbers height) n (1, (x1, 0, 0, 0, 0, wet)) = some o → va_P D tkCl [((r0 1), .inl (ar 0, 64, .inl wet))] H → va_D A [((r0 1), .inl (ar 0, 64, .inl wet))] → va_S A s.heap H locs → lv_has ls 2 [(0, .ref h0), (1, .int x1)] → W p l e (headSpec (ws_ yX5_sun cX5_sun 2 none) ({ frames := 2, cells := 0, slots := 0, locals := 41 })).room s m ([.ref h0] : List Value).toArray below meth c H locs 0 0 (MQ below (va_Qv (fun _ : Unit => True) (fun _ t => tk_Post D A [((r0 1), .inl (ar 0, 64, .inl o))] t) A) ([.ref h0] : List Value).toArray s 0 0 A) (F0 m 35 ls [])) ∧ (∀ (x1 s1 s2 s3 s4 : Int32) (wet : Nat → Int32) (H : Heap) (locs : List Loc) (ls : Array Slot), tk_it (stX5_sun minute columns rows numbers height) n (2, (x1, s1, s2, s3, s4, wet)) = some o → va_P D tkCl [((r0 1), .inl (ar 0, 64, .inl wet))] H → va_D A [((r0 1), .inl (ar 0, 64, .inl wet))] → va_S A s.heap H locs → lv_has ls 2 [(0, .ref h0), (1, .int x1)] → W p l e (headSpec (ws_ yX5_sun cX5_sun 2 none) ({ frames := 2, cells := 0, slots := 0, locals := 41 })).room s m ([.ref h0] : List Value).toArray below meth c H locs 0 0 (MQ below (va_Qv (fun _ : Unit => True) (fun _ t => tk_Post D A [((r0 1), .inl (ar 0, 64, .inl o))] t) A) ([.ref h0] : List Value).toArray s 0 0 A) (F0 m 77 ls [.int s4, .int s3, .int s2, .int s1, .ref (r0 1)])) := by
    intro n
    induction n with
    | zero => exact ⟨fun x1 wet H locs ls hF => (by cases hF), fun x1 s1 s2 s3 s4 wet H locs ls hF => (by cases hF)⟩
    | succ n ih =>
      obtain ⟨ih35, ih77⟩ := ih
      refine ⟨?_, ?_⟩
      · intro x1 wet H locs ls hF hP hD hS hl
        have hF : tk_k (stX5_sun minute columns rows numbers height) n (bX5_sun_1 minute columns rows numbers height x1 wet) = some o := hF
        unfold bX5_sun_1 at hF
        refine lv_iload_n hx hb dX5_sun_35 rfl (lv_at hl 1 rfl) ?_
        refine lv_aload_n hx hb dX5_sun_36 rfl (lv_at hl 0 rfl) ?_
        refine va_get (D := D) (ci := 4) (v := .ref (r0 17)) (C := RX5) (T := TX5) (N := 18) hx hb hts in_X5 hown hK (hR.at hS) 0 rfl rfl 17 (by decide) (hts _ q386) (fun _ h9 => h9) rfl dX5_sun_37 ?_
        refine va_getN (D := D) (ci := 0) (v := .ref (r1 5)) (C := RX0) (T := TX0) (N := 25) hx hb hts in_X0 hown hK (hR.at hS) 1 rfl rfl 5 (by decide) (hE.2.1.use q456 rfl rfl) (fun _ h9 => h9) rfl dX5_sun_40 ?_
        obtain ⟨u4, hGu4, hF⟩ := tk_kb hF
        refine va_calli (va_runV (As := []) (rest := [.int x1]) ⟨hx, hb, hml, hown, hts⟩ (mX2_cells (l := l) (D := D) (ar := ar) (ad := ad) (xs := xs) (sz := H.size) (h0 := (r1 5)) (r0 := r2) (i0 := (tu (tu i2 0 columns) 1 rows)) (columns := columns) (rows := rows) (hF := hGu4)) (cwV 0 hts (lw_V q429 q430 q431 q92 q432) rfl rfl rfl (by decide +kernel) ⟨(Nat.le_of_ble_eq_true rfl), (Nat.le_of_ble_eq_true rfl)⟩) ⟨tk_blind, va_recv hK (hR.at hS) (ci := 2) (q0 := 2) rfl rfl, fun U hU hW => ⟨rfl, tk_mk hP hD hS hA hE hR hX [] [3] rfl rfl rfl rfl U hU hW⟩⟩ rfl rfl hl.1 rfl (lv_room (Nat.le_of_ble_eq_true rfl)) dX5_sun_43 ⟨(Nat.le_of_ble_eq_true rfl), (Nat.le_of_ble_eq_true rfl)⟩) hS (fun q _ h => (va_free hD hS hA [] rfl) q h) (va_free hD hS hA [] rfl) (fun zr zu zt H1 zl zht zvm zw zB zz zk zS => ?_)
        obtain ⟨hP, hD⟩ := tk_join hP hD zk [] rfl rfl (va_free hD hS hA [] rfl) (zht ▸ zB.1) zB.2 (Nat.le_of_ble_eq_true rfl)
        have hS := zS
        have zw := Eq.symm zw
        subst zw
        generalize H1 = H at hP hS ⊢
        have hP : va_P D tkCl [((r0 1), .inl (ar 0, 64, .inl wet))] H := hP
        have hD : va_D A [((r0 1), .inl (ar 0, 64, .inl wet))] := hD
        refine lv_icmp_ge (tgt := 88) hx hb dX5_sun_46 (by decide) (fun c5 => ?_) (fun c5 => ?_)
        · have hF := tk_kt hF c5
          have eo := tk_kr hF
          subst eo
          exact W.vret hx hb hr (fun t ht hW => ⟨⟨(), rfl, trivial, tk_pst ht hP hD⟩, hS.F ht⟩) hS.2.2 dX5_sun_88
        · have hF := tk_kf hF c5
          refine lv_aload_n hx hb dX5_sun_49 rfl (lv_at hl 0 rfl) ?_
          refine va_get (D := D) (ci := 4) (v := .ref (r0 1)) (C := RX5) (T := TX5) (N := 18) hx hb hts in_X5 hown hK (hR.at hS) 0 rfl rfl 1 (by decide) (hts _ q357) (fun _ h9 => h9) rfl dX5_sun_50 ?_
          refine lv_iload_n hx hb dX5_sun_53 rfl (lv_at hl 1 rfl) ?_
          refine lv_iconst (v := 0) hx hb dX5_sun_54 (by decide) ?_
          refine lv_aload_n hx hb dX5_sun_55 rfl (lv_at hl 0 rfl) ?_
          refine va_get (D := D) (ci := 4) (v := .ref (r0 1)) (C := RX5) (T := TX5) (N := 18) hx hb hts in_X5 hown hK (hR.at hS) 0 rfl rfl 1 (by decide) (hts _ q357) (fun _ h9 => h9) rfl dX5_sun_56 ?_
          refine lv_iload_n hx hb dX5_sun_59 rfl (lv_at hl 1 rfl) ?_
          obtain ⟨gd6, hF⟩ := tk_kg hF
          refine va_iald hx hb hK hP 0 0 rfl rfl gd6 dX5_sun_60 ?_
          refine lv_aload_n hx hb dX5_sun_61 rfl (lv_at hl 0 rfl) ?_
          refine va_get (D := D) (ci := 4) (v := .ref (r0 0)) (C := RX5) (T := TX5) (N := 18) hx hb hts in_X5 hown hK (hR.at hS) 0 rfl rfl 0 (by decide) (hts _ q355) (fun _ h9 => h9) rfl dX5_sun_62 ?_
          refine lv_iload_n hx hb dX5_sun_65 rfl (lv_at hl 1 rfl) ?_
          refine va_iald hx hb hK (hR.at hS) 4 0 rfl rfl gd6 dX5_sun_66 ?_
          refine lv_bipush (v := 10) hx hb dX5_sun_67 (by decide) ?_
          refine lv_icmp_lt (tgt := 76) hx hb dX5_sun_69 (by decide) (fun c7 => ?_) (fun c7 => ?_)
          · have hF := tk_kt hF c7
            refine lv_iconst (v := 1) hx hb dX5_sun_76 (by decide) ?_
            exact ih77 x1 x1 0 (wet x1.toNatClampNeg) 1 wet _ _ _ hF hP hD hS (lv_sub hl [0, 1] rfl)
          · have hF := tk_kf hF c7
            refine lv_iconst (v := 2) hx hb dX5_sun_72 (by decide) ?_
            refine lv_goto (tgt := 77) hx hb dX5_sun_73 (by decide) ?_
            exact ih77 x1 x1 0 (wet x1.toNatClampNeg) 2 wet _ _ _ hF hP hD hS (lv_sub hl [0, 1] rfl)
      · intro x1 s1 s2 s3 s4 wet H locs ls hF hP hD hS hl
        have hF : tk_k (stX5_sun minute columns rows numbers height) n (bX5_sun_2 minute columns rows numbers height x1 s1 s2 s3 s4 wet) = some o := hF
        unfold bX5_sun_2 at hF
        refine lv_isub hx hb dX5_sun_77 ?_
        refine va_mmax hx hb (hml.trans hl.1.symm) hown (hts _ q1138) (hts _ q846) (hts _ q111) (hts _ q847) (Nat.le_of_ble_eq_true rfl) (Nat.le_of_ble_eq_true rfl) (Nat.le_of_ble_eq_true rfl) (Nat.le_of_ble_eq_true rfl) dX5_sun_78 ?_
        obtain ⟨gd8, hF⟩ := tk_kg hF
        refine va_iast hx hb hK hP hD hS 0 0 rfl rfl gd8 dX5_sun_81 (fun H locs hP hD hS => ?_)
        have hP : va_P D tkCl [((r0 1), .inl (ar 0, 64, .inl (upd wet s1.toNatClampNeg (if s2 < s3 - s4 then s3 - s4 else s2))))] H := hP
        have hD : va_D A [((r0 1), .inl (ar 0, 64, .inl (upd wet s1.toNatClampNeg (if s2 < s3 - s4 then s3 - s4 else s2))))] := hD
        refine lv_iinc (v := x1 + 1) (lv' := [(1, .int (x1 + 1)), (0, .ref h0)]) hx hb dX5_sun_82 hl (k := 1) rfl (congrArg (fun z => x1 + z) (show Int32.ofInt 1 = 1 by decide)) (Nat.le_of_ble_eq_true rfl) rfl (fun ls hl => ?_)
        refine lv_goto (tgt := 35) hx hb dX5_sun_85 (by decide) ?_
        exact ih35 (x1 + 1) (upd wet s1.toNatClampNeg (if s2 < s3 - s4 then s3 - s4 else s2)) _ _ _ hF hP hD hS (lv_sub hl [1, 0] rfl)
  obtain ⟨ih35, ih77⟩ := key n0
  clear key
  unfold bX5_sun_0 at hF
  have hF : tk_k (stX5_sun minute columns rows numbers height) n0 _ = some o := hF
  refine lv_aload_n hx hb dX5_sun_0 rfl (lv_at hl 0 rfl) ?_
  refine va_get (D := D) (ci := 4) (v := .int minute) (C := RX5) (T := TX5) (N := 18) hx hb hts in_X5 hown hK (hR.at hS) 0 rfl rfl 9 (by decide) (hts _ q370) (fun _ h9 => h9) rfl dX5_sun_1 ?_
  refine lv_iconst (v := 1) hx hb dX5_sun_4 (by decide) ?_
  refine lv_iadd hx hb dX5_sun_5 ?_
  refine lv_aload_n hx hb dX5_sun_6 rfl (lv_at hl 0 rfl) ?_
  refine va_get (D := D) (ci := 4) (v := .ref (r0 17)) (C := RX5) (T := TX5) (N := 18) hx hb hts in_X5 hown hK (hR.at hS) 0 rfl rfl 17 (by decide) (hts _ q386) (fun _ h9 => h9) rfl dX5_sun_7 ?_
  refine va_getN (D := D) (ci := 0) (v := .ref (r1 5)) (C := RX0) (T := TX0) (N := 25) hx hb hts in_X0 hown hK (hR.at hS) 1 rfl rfl 5 (by decide) (hE.2.1.use q456 rfl rfl) (fun _ h9 => h9) rfl dX5_sun_10 ?_
  refine va_gets (n := "DRY") hx hb (hE.z 2 (by decide)) hS hown (hts _ q1137) (fun _ h9 => h9) dX5_sun_13 ?_
  obtain ⟨u1, hGu1, hF⟩ := tk_kb hF
  refine va_calli (va_runV (As := [.ref (ad 2 2)]) (rest := [.int (minute + 1)]) ⟨hx, hb, hml, hown, hts⟩ (mX2_of (l := l) (D := D) (ar := ar) (ad := ad) (xs := xs) (sz := s.heap.size) (h0 := (r1 5)) (r0 := r2) (i0 := (tu (tu i2 0 columns) 1 rows)) (numbers := numbers) (p0 := 2) (hk_p0 := by decide) (hF := hGu1)) (cwV 1 hts (lw_V q434 q435 q436 q92 q437) rfl rfl rfl (by decide +kernel) ⟨(Nat.le_of_ble_eq_true rfl), (Nat.le_of_ble_eq_true rfl)⟩) ⟨tk_blind, va_recv hK (hR.at hS) (ci := 2) (q0 := 2) rfl rfl, fun U hU hW => ⟨rfl, tk_mk hP hD hS hA hE hR hX [] [3, 4] rfl rfl rfl rfl U hU hW⟩⟩ rfl rfl hl.1 rfl (lv_room (Nat.le_of_ble_eq_true rfl)) dX5_sun_16 ⟨(Nat.le_of_ble_eq_true rfl), (Nat.le_of_ble_eq_true rfl)⟩) hS (fun q _ h => (va_free hD hS hA [] rfl) q h) (va_free hD hS hA [] rfl) (fun zr zu zt H1 zl zht zvm zw zB zz zk zS => ?_)
  obtain ⟨hP, hD⟩ := tk_join hP hD zk [] rfl rfl (va_free hD hS hA [] rfl) (zht ▸ zB.1) zB.2 (Nat.le_of_ble_eq_true rfl)
  have hS := zS
  have zw := Eq.symm zw
  subst zw
  generalize H1 = H at hP hS ⊢
  have hP : va_P D tkCl [((r0 1), .inl (ar 0, 64, .inl wet))] H := hP
  have hD : va_D A [((r0 1), .inl (ar 0, 64, .inl wet))] := hD
  obtain ⟨gd2, hF⟩ := tk_kg hF
  refine lv_irem hx hb dX5_sun_19 gd2 ?_
  refine lv_if_eq (tgt := 24) hx hb dX5_sun_20 (by decide) (fun c3 => ?_) (fun c3 => ?_)
  · have hF := tk_kt hF c3
    refine lv_aload_n hx hb dX5_sun_24 rfl (lv_at hl 0 rfl) ?_
    refine va_get (D := D) (ci := 4) (v := .ref (r0 17)) (C := RX5) (T := TX5) (N := 18) hx hb hts in_X5 hown hK (hR.at hS) 0 rfl rfl 17 (by decide) (hts _ q386) (fun _ h9 => h9) rfl dX5_sun_25 ?_
    refine va_getN (D := D) (ci := 0) (v := .ref (r1 5)) (C := RX0) (T := TX0) (N := 25) hx hb hts in_X0 hown hK (hR.at hS) 1 rfl rfl 5 (by decide) (hE.2.1.use q456 rfl rfl) (fun _ h9 => h9) rfl dX5_sun_28 ?_
    refine va_getN (D := D) (ci := 2) (v := .int columns) (C := RX2) (T := TX2) (N := 11) hx hb hts in_X2 hown hK (hR.at hS) 2 rfl rfl 0 (by decide) (hE.2.1.use q220 rfl rfl) (fun _ h9 => h9) rfl dX5_sun_31 ?_
    refine lv_istore_n (lv' := [(1, .int columns), (0, .ref h0)]) hx hb dX5_sun_34 rfl hl (Nat.le_of_ble_eq_true rfl) rfl (fun ls hl => ?_)
    exact ih35 columns wet _ _ _ hF hP hD hS (lv_sub hl [1, 0] rfl)
  · have hF := tk_kf hF c3
    have eo := tk_kr hF
    subst eo
    exact W.vret hx hb hr (fun t ht hW => ⟨⟨(), rfl, trivial, tk_pst ht hP hD⟩, hS.F ht⟩) hS.2.2 dX5_sun_23
set_option maxHeartbeats 4000000 in
theorem mX5_run (l : Launch) (D : va_G) (ar : Nat → ClassId) (ad : Nat → Nat → Nat) (xs : va_W) (sz : Nat) (h0 : Nat) (r0 : Nat → Nat) (i0 : Nat → Int32) (j0 : Nat → Int64) (r1 : Nat → Nat) (i1 : Nat → Int32) (r2 : Nat → Nat) (i2 : Nat → Int32) (r3 : Nat → Nat) (i3 : Nat → Int32) (columns rows : Int32) (stone : Nat → Int32) (cut p0 p1 p2 v_lost : Int32) (wet height : Nat → Int32) (o : Int32 × (Nat → Int32) × (Nat → Int32)) (hF : fX5_run columns rows stone cut p0 p1 p2 v_lost wet height = some o) : Met l yX5_run (ws_ yX5_run cX5_run 7 none) ({ frames := 1, cells := 0, slots := 0, locals := 40 }) (va_Pc [.ref h0, .int p0, .int p1, .int p2] (tk_Pre D ar ad [(h0, .inr (4, oX5 r0 (tu i0 10 v_lost) j0)), ((r0 1), .inl (ar 0, 64, .inl wet)), ((r0 0), .inl (ar 0, 64, .inl height))] [((r0 17), .inr (0, oX0 r1 i1)), ((r1 5), .inr (2, oX2 r2 (tu (tu i2 0 columns) 1 rows))), ((r0 7), .inl (ar 2, 64, .inl stone)), ((r1 6), .inr (3, oX4 r3 (tu i3 4 cut)))] xs sz)) (va_Qv (fun _ : Unit => True) (fun _ t => tk_Post D (va_A [(h0, .inr (4, oX5 r0 (tu i0 10 v_lost) j0)), ((r0 1), .inl (ar 0, 64, .inl wet)), ((r0 0), .inl (ar 0, 64, .inl height))] sz) [(h0, .inr (4, oX5 r0 (tu i0 10 o.1) j0)), ((r0 1), .inl (ar 0, 64, .inl o.2.1)), ((r0 0), .inl (ar 0, 64, .inl o.2.2))] t) (va_A [(h0, .inr (4, oX5 r0 (tu i0 10 v_lost) j0)), ((r0 1), .inl (ar 0, 64, .inl wet)), ((r0 0), .inl (ar 0, 64, .inl height))] sz)) 0 0 (va_A [(h0, .inr (4, oX5 r0 (tu i0 10 v_lost) j0)), ((r0 1), .inl (ar 0, 64, .inl wet)), ((r0 0), .inl (ar 0, 64, .inl height))] sz) := by
  refine Met.ofW (cc := cX5_run) (maxL := 7) (ret := none) (by decide) rfl ?_
  intro p e s m args below meth c s₁ B hml hv
  obtain ⟨rfl, hsz, hP, hD0, hR, hX, hE⟩ := hv
  have hx := B.exec
  have hb := B.bytes
  have hr := B.returns
  have hts := atoms_spec (ws := (ws_ yX5_run cX5_run 7 none)) B.pre
  have hts : ∀ w ∈ lw_all, w.before _ s = true := fun w h => hts w (List.mem_cons_of_mem _ h)
  have hown : s.vm.findClass RX5 = some m.cls := findClass_of_methodNamed B.named
  have hlocks := B.notSynchronized
  subst hsz
  have hD := hD0.self (sz := s.heap.size)
  generalize hAe : va_A [(h0, .inr (4, oX5 r0 (tu i0 10 v_lost) j0)), ((r0 1), .inl (ar 0, 64, .inl wet)), ((r0 0), .inl (ar 0, 64, .inl height))] s.heap.size = A at hD hR hX hE ⊢
  have hA : ∀ q : Nat, s.heap.size ≤ q → A q := fun q h => by rw [← hAe]; exact Or.inr h
  have hS : va_S A s.heap s.heap [] := va_S.rf
  have hK := hE.1
  have hl := lv_entry ([.ref h0, .int p0, .int p1, .int p2]) (n := 7) (Nat.le_of_ble_eq_true rfl)
  rw [lg_entry_eq]
  generalize (lg_sl ([.ref h0, .int p0, .int p1, .int p2]) ++ List.replicate (7 - (lg_sl ([.ref h0, .int p0, .int p1, .int p2])).length) Slot.unset).toArray = ls at hl ⊢
  have hl : lv_has ls 7 [(0, .ref h0), (1, .int p0), (2, .int p1), (3, .int p2)] := hl
  have hP : va_P D tkCl [(h0, .inr (4, oX5 r0 (tu i0 10 v_lost) j0)), ((r0 1), .inl (ar 0, 64, .inl wet)), ((r0 0), .inl (ar 0, 64, .inl height))] s.heap := hP
  obtain ⟨n0, hF⟩ : ∃ n, tk_k (stX5_run columns rows stone cut) n (bX5_run_0 columns rows stone cut p0 p1 p2 v_lost wet height) = some o := tk_fin_it hF
  have key : ∀ n : Nat, (∀ (x1 x2 x3 x4 v_lost : Int32) (wet height : Nat → Int32) (H : Heap) (locs : List Loc) (ls : Array Slot), tk_it (stX5_run columns rows stone cut) n (1, (x1, x2, x3, x4, v_lost, wet, height)) = some o → va_P D tkCl [(h0, .inr (4, oX5 r0 (tu i0 10 v_lost) j0)), ((r0 1), .inl (ar 0, 64, .inl wet)), ((r0 0), .inl (ar 0, 64, .inl height))] H → va_D A [(h0, .inr (4, oX5 r0 (tu i0 10 v_lost) j0)), ((r0 1), .inl (ar 0, 64, .inl wet)), ((r0 0), .inl (ar 0, 64, .inl height))] → va_S A s.heap H locs → lv_has ls 7 [(0, .ref h0), (1, .int x1), (2, .int x2), (3, .int x3), (4, .int x4)] → W p l e (headSpec (ws_ yX5_run cX5_run 7 none) ({ frames := 1, cells := 0, slots := 0, locals := 40 })).room s m ([.ref h0, .int p0, .int p1, .int p2] : List Value).toArray below meth c H locs 0 0 (MQ below (va_Qv (fun _ : Unit => True) (fun _ t => tk_Post D A [(h0, .inr (4, oX5 r0 (tu i0 10 o.1) j0)), ((r0 1), .inl (ar 0, 64, .inl o.2.1)), ((r0 0), .inl (ar 0, 64, .inl o.2.2))] t) A) ([.ref h0, .int p0, .int p1, .int p2] : List Value).toArray s 0 0 A) (F0 m 3 ls [])) := by
    intro n
    induction n with
    | zero => exact fun x1 x2 x3 x4 v_lost wet height H locs ls hF => (by cases hF)
    | succ n ih =>
      have ih3 := ih
      intro x1 x2 x3 x4 v_lost wet height H locs ls hF hP hD hS hl
      have hF : tk_k (stX5_run columns rows stone cut) n (bX5_run_1 columns rows stone cut x1 x2 x3 x4 v_lost wet height) = some o := hF
      unfold bX5_run_1 at hF
      refine lv_iload hx hb dX5_run_3 (lv_at hl 4 rfl) ?_
      refine lv_iload_n hx hb dX5_run_5 rfl (lv_at hl 2 rfl) ?_
      refine lv_icmp_ge (tgt := 149) hx hb dX5_run_6 (by decide) (fun c1 => ?_) (fun c1 => ?_)
      · have hF := tk_kt hF c1
        have eo := tk_kr hF
        subst eo
        exact W.vret hx hb hr (fun t ht hW => ⟨⟨(), rfl, trivial, tk_pst ht hP hD⟩, hS.F ht⟩) hS.2.2 dX5_run_149
      · have hF := tk_kf hF c1
        refine lv_aload_n hx hb dX5_run_9 rfl (lv_at hl 0 rfl) ?_
        refine va_get (D := D) (ci := 4) (v := .ref (r0 17)) (C := RX5) (T := TX5) (N := 18) hx hb hts in_X5 hown hK hP 0 rfl rfl 17 (by decide) (hts _ q386) (fun _ h9 => h9) rfl dX5_run_10 ?_
        refine va_getN (D := D) (ci := 0) (v := .ref (r1 5)) (C := RX0) (T := TX0) (N := 25) hx hb hts in_X0 hown hK (hR.at hS) 0 rfl rfl 5 (by decide) (hE.2.1.use q456 rfl rfl) (fun _ h9 => h9) rfl dX5_run_13 ?_
        refine va_getN (D := D) (ci := 2) (v := .int columns) (C := RX2) (T := TX2) (N := 11) hx hb hts in_X2 hown hK (hR.at hS) 1 rfl rfl 0 (by decide) (hE.2.1.use q220 rfl rfl) (fun _ h9 => h9) rfl dX5_run_16 ?_
        refine lv_iload hx hb dX5_run_19 (lv_at hl 4 rfl) ?_
        refine lv_imul hx hb dX5_run_21 ?_
        refine lv_iload_n hx hb dX5_run_22 rfl (lv_at hl 1 rfl) ?_
        refine lv_iadd hx hb dX5_run_23 ?_
        refine lv_istore (lv' := [(5, .int ((columns * x4) + x1)), (0, .ref h0), (1, .int x1), (2, .int x2), (3, .int x3), (4, .int x4)]) hx hb dX5_run_24 hl (Nat.le_of_ble_eq_true rfl) rfl (fun ls hl => ?_)
        refine lv_aload_n hx hb dX5_run_26 rfl (lv_at hl 1 rfl) ?_
        refine va_get (D := D) (ci := 4) (v := .ref (r0 7)) (C := RX5) (T := TX5) (N := 18) hx hb hts in_X5 hown hK hP 0 rfl rfl 7 (by decide) (hts _ q367) (fun _ h9 => h9) rfl dX5_run_27 ?_
        refine lv_iload hx hb dX5_run_30 (lv_at hl 0 rfl) ?_
        obtain ⟨gd2, hF⟩ := tk_kg hF
        refine va_zald hx hb hK (hR.at hS) 2 2 rfl rfl gd2 dX5_run_32 ?_
        refine lv_if_eq (tgt := 74) hx hb dX5_run_33 (by decide) (fun c3 => ?_) (fun c3 => ?_)
        · have hF := tk_kt hF c3
          refine lv_aload_n hx hb dX5_run_74 rfl (lv_at hl 1 rfl) ?_
          refine va_get (D := D) (ci := 4) (v := .ref (r0 1)) (C := RX5) (T := TX5) (N := 18) hx hb hts in_X5 hown hK hP 0 rfl rfl 1 (by decide) (hts _ q357) (fun _ h9 => h9) rfl dX5_run_75 ?_
          refine lv_iload hx hb dX5_run_78 (lv_at hl 0 rfl) ?_
          refine lv_bipush (v := 16) hx hb dX5_run_80 (by decide) ?_
          refine va_iast hx hb hK hP hD hS 1 0 rfl rfl gd2 dX5_run_82 (fun H locs hP hD hS => ?_)
          have hP : va_P D tkCl [(h0, .inr (4, oX5 r0 (tu i0 10 v_lost) j0)), ((r0 1), .inl (ar 0, 64, .inl (upd wet ((columns * x4) + x1).toNatClampNeg 16))), ((r0 0), .inl (ar 0, 64, .inl height))] H := hP
          have hD : va_D A [(h0, .inr (4, oX5 r0 (tu i0 10 v_lost) j0)), ((r0 1), .inl (ar 0, 64, .inl (upd wet ((columns * x4) + x1).toNatClampNeg 16))), ((r0 0), .inl (ar 0, 64, .inl height))] := hD
          refine lv_aload_n hx hb dX5_run_83 rfl (lv_at hl 1 rfl) ?_
          refine va_get (D := D) (ci := 4) (v := .ref (r0 0)) (C := RX5) (T := TX5) (N := 18) hx hb hts in_X5 hown hK hP 0 rfl rfl 0 (by decide) (hts _ q355) (fun _ h9 => h9) rfl dX5_run_84 ?_
          refine lv_iload hx hb dX5_run_87 (lv_at hl 0 rfl) ?_
          refine va_iald hx hb hK hP 2 0 rfl rfl gd2 dX5_run_89 ?_
          refine lv_iload_n hx hb dX5_run_90 rfl (lv_at hl 4 rfl) ?_
          refine lv_icmp_gt (tgt := 97) hx hb dX5_run_91 (by decide) (fun c4 => ?_) (fun c4 => ?_)
          · have hF := tk_kt hF c4
            refine lv_aload_n hx hb dX5_run_97 rfl (lv_at hl 1 rfl) ?_
            refine va_get (D := D) (ci := 4) (v := .ref (r0 17)) (C := RX5) (T := TX5) (N := 18) hx hb hts in_X5 hown hK hP 0 rfl rfl 17 (by decide) (hts _ q386) (fun _ h9 => h9) rfl dX5_run_98 ?_
            refine va_getN (D := D) (ci := 0) (v := .ref (r1 6)) (C := RX0) (T := TX0) (N := 25) hx hb hts in_X0 hown hK (hR.at hS) 0 rfl rfl 6 (by decide) (hE.2.1.use q460 rfl rfl) (fun _ h9 => h9) rfl dX5_run_101 ?_
            refine va_getN (D := D) (ci := 3) (v := .int cut) (C := RX4) (T := TX4) (N := 6) hx hb hts in_X4 hown hK (hR.at hS) 3 rfl rfl 4 (by decide) (hE.2.1.use q330 rfl rfl) (fun _ h9 => h9) rfl dX5_run_104 ?_
            refine lv_aload_n hx hb dX5_run_107 rfl (lv_at hl 1 rfl) ?_
            refine va_get (D := D) (ci := 4) (v := .ref (r0 0)) (C := RX5) (T := TX5) (N := 18) hx hb hts in_X5 hown hK hP 0 rfl rfl 0 (by decide) (hts _ q355) (fun _ h9 => h9) rfl dX5_run_108 ?_
            refine lv_iload hx hb dX5_run_111 (lv_at hl 0 rfl) ?_
            refine va_iald hx hb hK hP 2 0 rfl rfl gd2 dX5_run_113 ?_
            obtain ⟨y5, ey5, hF⟩ := tk_kl hF
            refine W.eq (g2 := F0 m 114 ls [.int y5, .int cut]) (by rw [ey5]) ?_
            refine va_mmin hx hb (hml.trans hl.1.symm) hown (hts _ q1102) (hts _ q881) (hts _ q111) (hts _ q882) (Nat.le_of_ble_eq_true rfl) (Nat.le_of_ble_eq_true rfl) (Nat.le_of_ble_eq_true rfl) (Nat.le_of_ble_eq_true rfl) dX5_run_114 ?_
            refine lv_istore (lv' := [(6, .int (if y5 < cut then y5 else cut)), (5, .int ((columns * x4) + x1)), (0, .ref h0), (1, .int x1), (2, .int x2), (3, .int x3), (4, .int x4)]) hx hb dX5_run_117 hl (Nat.le_of_ble_eq_true rfl) rfl (fun ls hl => ?_)
            refine lv_aload_n hx hb dX5_run_119 rfl (lv_at hl 2 rfl) ?_
            refine va_get (D := D) (ci := 4) (v := .ref (r0 0)) (C := RX5) (T := TX5) (N := 18) hx hb hts in_X5 hown hK hP 0 rfl rfl 0 (by decide) (hts _ q355) (fun _ h9 => h9) rfl dX5_run_120 ?_
            refine lv_iload hx hb dX5_run_123 (lv_at hl 1 rfl) ?_
            refine lv_dup2_11 hx hb dX5_run_125 rfl rfl ?_
            refine va_iald hx hb hK hP 2 0 rfl rfl gd2 dX5_run_126 ?_
            refine lv_iload hx hb dX5_run_127 (lv_at hl 0 rfl) ?_
            refine lv_isub hx hb dX5_run_129 ?_
            refine va_iast hx hb hK hP hD hS 2 0 rfl rfl gd2 dX5_run_130 (fun H locs hP hD hS => ?_)
            obtain ⟨y6, ey6, hF⟩ := tk_kl hF
            have hP : va_P D tkCl [(h0, .inr (4, oX5 r0 (tu i0 10 v_lost) j0)), ((r0 1), .inl (ar 0, 64, .inl (upd wet ((columns * x4) + x1).toNatClampNeg 16))), ((r0 0), .inl (ar 0, 64, .inl y6))] H := by rw [ey6]; exact hP
            have hD : va_D A [(h0, .inr (4, oX5 r0 (tu i0 10 v_lost) j0)), ((r0 1), .inl (ar 0, 64, .inl (upd wet ((columns * x4) + x1).toNatClampNeg 16))), ((r0 0), .inl (ar 0, 64, .inl y6))] := by rw [ey6]; exact hD
            refine lv_aload_n hx hb dX5_run_131 rfl (lv_at hl 2 rfl) ?_
            refine lv_dup hx hb dX5_run_132 rfl ?_
            refine va_get (D := D) (ci := 4) (v := .int v_lost) (C := RX5) (T := TX5) (N := 18) hx hb hts in_X5 hown hK hP 0 rfl rfl 10 (by decide) (hts _ q372) (fun _ h9 => h9) rfl dX5_run_133 ?_
            refine lv_iload hx hb dX5_run_136 (lv_at hl 0 rfl) ?_
            refine lv_iadd hx hb dX5_run_138 ?_
            refine va_put (D := D) (ci := 4) (v := .int (v_lost + (if y5 < cut then y5 else cut))) (ty := .int) (C := RX5) (T := TX5) (N := 18) hx hb hts in_X5 tyX5 tyX5_ok nmX5 hown hK hP hD hS 0 rfl rfl 10 (by decide) (hts _ q372) (fun _ h9 => h9) rfl (by decide +kernel) rfl rfl (Nat.le_of_ble_eq_true rfl) dX5_run_139 (fun H locs hP hD hS => ?_)
            have hP : va_P D tkCl [(h0, .inr (4, oX5 r0 (tu i0 10 (v_lost + (if y5 < cut then y5 else cut))) j0)), ((r0 1), .inl (ar 0, 64, .inl (upd wet ((columns * x4) + x1).toNatClampNeg 16))), ((r0 0), .inl (ar 0, 64, .inl y6))] H := hP
            have hD : va_D A [(h0, .inr (4, oX5 r0 (tu i0 10 (v_lost + (if y5 < cut then y5 else cut))) j0)), ((r0 1), .inl (ar 0, 64, .inl (upd wet ((columns * x4) + x1).toNatClampNeg 16))), ((r0 0), .inl (ar 0, 64, .inl y6))] := hD
            have eo := tk_kr hF
            subst eo
            exact W.vret hx hb hr (fun t ht hW => ⟨⟨(), rfl, trivial, tk_pst ht hP hD⟩, hS.F ht⟩) hS.2.2 dX5_run_142
          · have hF := tk_kf hF c4
            refine lv_goto (tgt := 143) hx hb dX5_run_94 (by decide) ?_
            refine lv_iinc (v := x4 + 1) (lv' := [(4, .int (x4 + 1)), (5, .int ((columns * x4) + x1)), (0, .ref h0), (1, .int x1), (2, .int x2), (3, .int x3)]) hx hb dX5_run_143 hl (k := 5) rfl (congrArg (fun z => x4 + z) (show Int32.ofInt 1 = 1 by decide)) (Nat.le_of_ble_eq_true rfl) rfl (fun ls hl => ?_)
            refine lv_goto (tgt := 3) hx hb dX5_run_146 (by decide) ?_
            exact ih3 x1 x2 x3 (x4 + 1) v_lost (upd wet ((columns * x4) + x1).toNatClampNeg 16) height _ _ _ hF hP hD hS (lv_sub hl [2, 3, 4, 5, 0] rfl)
        · have hF := tk_kf hF c3
          refine lv_iload hx hb dX5_run_36 (lv_at hl 5 rfl) ?_
          refine lv_iconst (v := 1) hx hb dX5_run_38 (by decide) ?_
          refine lv_iadd hx hb dX5_run_39 ?_
          refine lv_aload_n hx hb dX5_run_40 rfl (lv_at hl 1 rfl) ?_
          refine va_get (D := D) (ci := 4) (v := .ref (r0 17)) (C := RX5) (T := TX5) (N := 18) hx hb hts in_X5 hown hK hP 0 rfl rfl 17 (by decide) (hts _ q386) (fun _ h9 => h9) rfl dX5_run_41 ?_
          refine va_getN (D := D) (ci := 0) (v := .ref (r1 5)) (C := RX0) (T := TX0) (N := 25) hx hb hts in_X0 hown hK (hR.at hS) 0 rfl rfl 5 (by decide) (hE.2.1.use q456 rfl rfl) (fun _ h9 => h9) rfl dX5_run_44 ?_
          refine va_getN (D := D) (ci := 2) (v := .int rows) (C := RX2) (T := TX2) (N := 11) hx hb hts in_X2 hown hK (hR.at hS) 1 rfl rfl 1 (by decide) (hE.2.1.use q225 rfl rfl) (fun _ h9 => h9) rfl dX5_run_47 ?_
          refine lv_icmp_ge (tgt := 73) hx hb dX5_run_50 (by decide) (fun c7 => ?_) (fun c7 => ?_)
          · have hF := tk_kt hF c7
            have eo := tk_kr hF
            subst eo
            exact W.vret hx hb hr (fun t ht hW => ⟨⟨(), rfl, trivial, tk_pst ht hP hD⟩, hS.F ht⟩) hS.2.2 dX5_run_73
          · have hF := tk_kf hF c7
            refine lv_aload_n hx hb dX5_run_53 rfl (lv_at hl 1 rfl) ?_
            refine va_get (D := D) (ci := 4) (v := .ref (r0 1)) (C := RX5) (T := TX5) (N := 18) hx hb hts in_X5 hown hK hP 0 rfl rfl 1 (by decide) (hts _ q357) (fun _ h9 => h9) rfl dX5_run_54 ?_
            refine lv_iload hx hb dX5_run_57 (lv_at hl 0 rfl) ?_
            refine lv_aload_n hx hb dX5_run_59 rfl (lv_at hl 1 rfl) ?_
            refine va_get (D := D) (ci := 4) (v := .ref (r0 17)) (C := RX5) (T := TX5) (N := 18) hx hb hts in_X5 hown hK hP 0 rfl rfl 17 (by decide) (hts _ q386) (fun _ h9 => h9) rfl dX5_run_60 ?_
            refine va_getN (D := D) (ci := 0) (v := .ref (r1 5)) (C := RX0) (T := TX0) (N := 25) hx hb hts in_X0 hown hK (hR.at hS) 0 rfl rfl 5 (by decide) (hE.2.1.use q456 rfl rfl) (fun _ h9 => h9) rfl dX5_run_63 ?_
            refine va_getN (D := D) (ci := 2) (v := .int columns) (C := RX2) (T := TX2) (N := 11) hx hb hts in_X2 hown hK (hR.at hS) 1 rfl rfl 0 (by decide) (hE.2.1.use q220 rfl rfl) (fun _ h9 => h9) rfl dX5_run_66 ?_
            refine lv_iadd hx hb dX5_run_69 ?_
            refine lv_bipush (v := 16) hx hb dX5_run_70 (by decide) ?_
            obtain ⟨gd8, hF⟩ := tk_kg hF
            refine va_iast hx hb hK hP hD hS 1 0 rfl rfl gd8 dX5_run_72 (fun H locs hP hD hS => ?_)
            have hP : va_P D tkCl [(h0, .inr (4, oX5 r0 (tu i0 10 v_lost) j0)), ((r0 1), .inl (ar 0, 64, .inl (upd wet (((columns * x4) + x1) + columns).toNatClampNeg 16))), ((r0 0), .inl (ar 0, 64, .inl height))] H := hP
            have hD : va_D A [(h0, .inr (4, oX5 r0 (tu i0 10 v_lost) j0)), ((r0 1), .inl (ar 0, 64, .inl (upd wet (((columns * x4) + x1) + columns).toNatClampNeg 16))), ((r0 0), .inl (ar 0, 64, .inl height))] := hD
            have eo := tk_kr hF
            subst eo
            exact W.vret hx hb hr (fun t ht hW => ⟨⟨(), rfl, trivial, tk_pst ht hP hD⟩, hS.F ht⟩) hS.2.2 dX5_run_73
  have ih3 := key n0
  clear key
  unfold bX5_run_0 at hF
  have hF : tk_k (stX5_run columns rows stone cut) n0 _ = some o := hF
  refine lv_iconst (v := 0) hx hb dX5_run_0 (by decide) ?_
  refine lv_istore (lv' := [(4, .int 0), (0, .ref h0), (1, .int p0), (2, .int p1), (3, .int p2)]) hx hb dX5_run_1 hl (Nat.le_of_ble_eq_true rfl) rfl (fun ls hl => ?_)
  exact ih3 p0 p1 p2 0 v_lost wet height _ _ _ hF hP hD hS (lv_sub hl [1, 2, 3, 4, 0] rfl)
set_option maxHeartbeats 4000000 in
theorem mX5_wave (l : Launch) (D : va_G) (ar : Nat → ClassId) (ad : Nat → Nat → Nat) (xs : va_W) (sz : Nat) (h0 : Nat) (r0 : Nat → Nat) (i0 : Nat → Int32) (j0 : Nat → Int64) (r1 : Nat → Nat) (i1 : Nat → Int32) (r2 : Nat → Nat) (i2 : Nat → Int32) (r3 : Nat → Nat) (i3 : Nat → Int32) (columns rows : Int32) (stone : Nat → Int32) (cut p0 p1 v_lost came : Int32) (wet height : Nat → Int32) (o : Int32 × Int32 × (Nat → Int32) × (Nat → Int32)) (hF : fX5_wave columns rows stone cut p0 p1 v_lost came wet height = some o) : Met l yX5_wave (ws_ yX5_wave cX5_wave 4 none) ({ frames := 2, cells := 0, slots := 0, locals := 66 }) (va_Pc [.ref h0, .int p0, .int p1] (tk_Pre D ar ad [(h0, .inr (4, oX5 r0 (tu (tu i0 10 v_lost) 14 came) j0)), ((r0 1), .inl (ar 0, 64, .inl wet)), ((r0 0), .inl (ar 0, 64, .inl height))] [((r0 17), .inr (0, oX0 r1 i1)), ((r1 5), .inr (2, oX2 r2 (tu (tu i2 0 columns) 1 rows))), ((r0 7), .inl (ar 2, 64, .inl stone)), ((r1 6), .inr (3, oX4 r3 (tu i3 4 cut)))] xs sz)) (va_Qv (fun _ : Unit => True) (fun _ t => tk_Post D (va_A [(h0, .inr (4, oX5 r0 (tu (tu i0 10 v_lost) 14 came) j0)), ((r0 1), .inl (ar 0, 64, .inl wet)), ((r0 0), .inl (ar 0, 64, .inl height))] sz) [(h0, .inr (4, oX5 r0 (tu (tu i0 10 o.1) 14 o.2.1) j0)), ((r0 1), .inl (ar 0, 64, .inl o.2.2.1)), ((r0 0), .inl (ar 0, 64, .inl o.2.2.2))] t) (va_A [(h0, .inr (4, oX5 r0 (tu (tu i0 10 v_lost) 14 came) j0)), ((r0 1), .inl (ar 0, 64, .inl wet)), ((r0 0), .inl (ar 0, 64, .inl height))] sz)) 0 0 (va_A [(h0, .inr (4, oX5 r0 (tu (tu i0 10 v_lost) 14 came) j0)), ((r0 1), .inl (ar 0, 64, .inl wet)), ((r0 0), .inl (ar 0, 64, .inl height))] sz) := by
  refine Met.ofW (cc := cX5_wave) (maxL := 4) (ret := none) (by decide) rfl ?_
  intro p e s m args below meth c s₁ B hml hv
  obtain ⟨rfl, hsz, hP, hD0, hR, hX, hE⟩ := hv
  have hx := B.exec
  have hb := B.bytes
  have hr := B.returns
  have hts := atoms_spec (ws := (ws_ yX5_wave cX5_wave 4 none)) B.pre
  have hts : ∀ w ∈ lw_all, w.before _ s = true := fun w h => hts w (List.mem_cons_of_mem _ h)
  have hown : s.vm.findClass RX5 = some m.cls := findClass_of_methodNamed B.named
  have hlocks := B.notSynchronized
  subst hsz
  have hD := hD0.self (sz := s.heap.size)
  generalize hAe : va_A [(h0, .inr (4, oX5 r0 (tu (tu i0 10 v_lost) 14 came) j0)), ((r0 1), .inl (ar 0, 64, .inl wet)), ((r0 0), .inl (ar 0, 64, .inl height))] s.heap.size = A at hD hR hX hE ⊢
  have hA : ∀ q : Nat, s.heap.size ≤ q → A q := fun q h => by rw [← hAe]; exact Or.inr h
  have hS : va_S A s.heap s.heap [] := va_S.rf
  have hK := hE.1
  have hl := lv_entry ([.ref h0, .int p0, .int p1]) (n := 4) (Nat.le_of_ble_eq_true rfl)
  rw [lg_entry_eq]
  generalize (lg_sl ([.ref h0, .int p0, .int p1]) ++ List.replicate (4 - (lg_sl ([.ref h0, .int p0, .int p1])).length) Slot.unset).toArray = ls at hl ⊢
  have hl : lv_has ls 4 [(0, .ref h0), (1, .int p0), (2, .int p1)] := hl
  have hP : va_P D tkCl [(h0, .inr (4, oX5 r0 (tu (tu i0 10 v_lost) 14 came) j0)), ((r0 1), .inl (ar 0, 64, .inl wet)), ((r0 0), .inl (ar 0, 64, .inl height))] s.heap := hP
  obtain ⟨n0, hF⟩ : ∃ n, tk_k (stX5_wave columns rows stone cut) n (bX5_wave_0 columns rows stone cut p0 p1 v_lost came wet height) = some o := tk_fin_it hF
  have key : ∀ n : Nat, (∀ (x1 x2 x3 v_lost came : Int32) (wet height : Nat → Int32) (H : Heap) (locs : List Loc) (ls : Array Slot), tk_it (stX5_wave columns rows stone cut) n (1, (x1, x2, x3, v_lost, came, wet, height)) = some o → va_P D tkCl [(h0, .inr (4, oX5 r0 (tu (tu i0 10 v_lost) 14 came) j0)), ((r0 1), .inl (ar 0, 64, .inl wet)), ((r0 0), .inl (ar 0, 64, .inl height))] H → va_D A [(h0, .inr (4, oX5 r0 (tu (tu i0 10 v_lost) 14 came) j0)), ((r0 1), .inl (ar 0, 64, .inl wet)), ((r0 0), .inl (ar 0, 64, .inl height))] → va_S A s.heap H locs → lv_has ls 4 [(0, .ref h0), (1, .int x1), (2, .int x2), (3, .int x3)] → W p l e (headSpec (ws_ yX5_wave cX5_wave 4 none) ({ frames := 2, cells := 0, slots := 0, locals := 66 })).room s m ([.ref h0, .int p0, .int p1] : List Value).toArray below meth c H locs 0 0 (MQ below (va_Qv (fun _ : Unit => True) (fun _ t => tk_Post D A [(h0, .inr (4, oX5 r0 (tu (tu i0 10 o.1) 14 o.2.1) j0)), ((r0 1), .inl (ar 0, 64, .inl o.2.2.1)), ((r0 0), .inl (ar 0, 64, .inl o.2.2.2))] t) A) ([.ref h0, .int p0, .int p1] : List Value).toArray s 0 0 A) (F0 m 12 ls [])) := by
    intro n
    induction n with
    | zero => exact fun x1 x2 x3 v_lost came wet height H locs ls hF => (by cases hF)
    | succ n ih =>
      have ih12 := ih
      intro x1 x2 x3 v_lost came wet height H locs ls hF hP hD hS hl
      have hF : tk_k (stX5_wave columns rows stone cut) n (bX5_wave_1 columns rows stone cut x1 x2 x3 v_lost came wet height) = some o := hF
      unfold bX5_wave_1 at hF
      refine lv_iload_n hx hb dX5_wave_12 rfl (lv_at hl 3 rfl) ?_
      refine lv_aload_n hx hb dX5_wave_13 rfl (lv_at hl 0 rfl) ?_
      refine va_get (D := D) (ci := 4) (v := .ref (r0 17)) (C := RX5) (T := TX5) (N := 18) hx hb hts in_X5 hown hK hP 0 rfl rfl 17 (by decide) (hts _ q386) (fun _ h9 => h9) rfl dX5_wave_14 ?_
      refine va_getN (D := D) (ci := 0) (v := .ref (r1 5)) (C := RX0) (T := TX0) (N := 25) hx hb hts in_X0 hown hK (hR.at hS) 0 rfl rfl 5 (by decide) (hE.2.1.use q456 rfl rfl) (fun _ h9 => h9) rfl dX5_wave_17 ?_
      refine va_getN (D := D) (ci := 2) (v := .int columns) (C := RX2) (T := TX2) (N := 11) hx hb hts in_X2 hown hK (hR.at hS) 1 rfl rfl 0 (by decide) (hE.2.1.use q220 rfl rfl) (fun _ h9 => h9) rfl dX5_wave_20 ?_
      refine lv_icmp_ge (tgt := 52) hx hb dX5_wave_23 (by decide) (fun c1 => ?_) (fun c1 => ?_)
      · have hF := tk_kt hF c1
        have eo := tk_kr hF
        subst eo
        exact W.vret hx hb hr (fun t ht hW => ⟨⟨(), rfl, trivial, tk_pst ht hP hD⟩, hS.F ht⟩) hS.2.2 dX5_wave_52
      · have hF := tk_kf hF c1
        refine lv_aload_n hx hb dX5_wave_26 rfl (lv_at hl 0 rfl) ?_
        refine lv_iload_n hx hb dX5_wave_27 rfl (lv_at hl 3 rfl) ?_
        refine lv_iload_n hx hb dX5_wave_28 rfl (lv_at hl 1 rfl) ?_
        refine lv_aload_n hx hb dX5_wave_29 rfl (lv_at hl 0 rfl) ?_
        refine va_get (D := D) (ci := 4) (v := .ref (r0 17)) (C := RX5) (T := TX5) (N := 18) hx hb hts in_X5 hown hK hP 0 rfl rfl 17 (by decide) (hts _ q386) (fun _ h9 => h9) rfl dX5_wave_30 ?_
        refine va_getN (D := D) (ci := 0) (v := .ref (r1 5)) (C := RX0) (T := TX0) (N := 25) hx hb hts in_X0 hown hK (hR.at hS) 0 rfl rfl 5 (by decide) (hE.2.1.use q456 rfl rfl) (fun _ h9 => h9) rfl dX5_wave_33 ?_
        refine va_getN (D := D) (ci := 2) (v := .int rows) (C := RX2) (T := TX2) (N := 11) hx hb hts in_X2 hown hK (hR.at hS) 1 rfl rfl 1 (by decide) (hE.2.1.use q225 rfl rfl) (fun _ h9 => h9) rfl dX5_wave_36 ?_
        refine va_mmin hx hb (hml.trans hl.1.symm) hown (hts _ q1102) (hts _ q881) (hts _ q111) (hts _ q882) (Nat.le_of_ble_eq_true rfl) (Nat.le_of_ble_eq_true rfl) (Nat.le_of_ble_eq_true rfl) (Nat.le_of_ble_eq_true rfl) dX5_wave_39 ?_
        refine lv_iload_n hx hb dX5_wave_42 rfl (lv_at hl 2 rfl) ?_
        obtain ⟨u2, hGu2, hF⟩ := tk_kb hF
        refine va_callv (va_runV (As := [.int x3, .int (if rows < x1 then rows else x1), .int x2]) (rest := []) ⟨hx, hb, hml, hown, hts⟩ (mX5_run (l := l) (D := D) (ar := ar) (ad := ad) (xs := xs) (sz := H.size) (h0 := h0) (r0 := r0) (i0 := (tu (tu i0 10 v_lost) 14 came)) (j0 := j0) (r1 := r1) (i1 := i1) (r2 := r2) (i2 := (tu (tu i2 0 columns) 1 rows)) (r3 := r3) (i3 := (tu i3 4 cut)) (columns := columns) (rows := rows) (stone := stone) (cut := cut) (v_lost := v_lost) (wet := wet) (height := height) (p0 := x3) (p1 := (if rows < x1 then rows else x1)) (p2 := x2) (hF := hGu2)) (cwV 3 hts (lw_V q1116 q1118 qs16 q99 q1119) rfl rfl rfl (by decide +kernel) ⟨(Nat.le_of_ble_eq_true rfl), (Nat.le_of_ble_eq_true rfl)⟩) ⟨tk_blind, va_recv hK hP (ci := 4) (q0 := 0) rfl rfl, fun U hU hW => ⟨rfl, tk_mk hP hD hS hA hE hR hX [0, 1, 2] [3, 4, 5, 6] rfl rfl rfl rfl U hU hW⟩⟩ rfl rfl hl.1 rfl (lv_room (Nat.le_of_ble_eq_true rfl)) dX5_wave_43 ⟨(Nat.le_of_ble_eq_true rfl), (Nat.le_of_ble_eq_true rfl)⟩) hS (fun q _ h => (va_free hD hS hA [0, 1, 2] rfl) q h) (va_free hD hS hA [0, 1, 2] rfl) (fun zu zt H1 zl zht zvm zw zB zz zk zS => ?_)
        obtain ⟨hP, hD⟩ := tk_join hP hD zk [0, 1, 2] rfl rfl (va_free hD hS hA [0, 1, 2] rfl) (zht ▸ zB.1) zB.2 (Nat.le_of_ble_eq_true rfl)
        have hS := zS
        generalize H1 = H at hP hS ⊢
        have hP : va_P D tkCl [(h0, .inr (4, oX5 r0 (tu (tu i0 10 u2.1) 14 came) j0)), ((r0 1), .inl (ar 0, 64, .inl u2.2.1)), ((r0 0), .inl (ar 0, 64, .inl u2.2.2))] H := hP
        have hD : va_D A [(h0, .inr (4, oX5 r0 (tu (tu i0 10 u2.1) 14 came) j0)), ((r0 1), .inl (ar 0, 64, .inl u2.2.1)), ((r0 0), .inl (ar 0, 64, .inl u2.2.2))] := hD
        refine lv_iinc (v := x3 + 1) (lv' := [(3, .int (x3 + 1)), (0, .ref h0), (1, .int x1), (2, .int x2)]) hx hb dX5_wave_46 hl (k := 3) rfl (congrArg (fun z => x3 + z) (show Int32.ofInt 1 = 1 by decide)) (Nat.le_of_ble_eq_true rfl) rfl (fun ls hl => ?_)
        refine lv_goto (tgt := 12) hx hb dX5_wave_49 (by decide) ?_
        exact ih12 x1 x2 (x3 + 1) u2.1 came u2.2.1 u2.2.2 _ _ _ hF hP hD hS (lv_sub hl [1, 2, 3, 0] rfl)
  have ih12 := key n0
  clear key
  unfold bX5_wave_0 at hF
  have hF : tk_k (stX5_wave columns rows stone cut) n0 _ = some o := hF
  refine lv_aload_n hx hb dX5_wave_0 rfl (lv_at hl 0 rfl) ?_
  refine lv_dup hx hb dX5_wave_1 rfl ?_
  refine va_get (D := D) (ci := 4) (v := .int came) (C := RX5) (T := TX5) (N := 18) hx hb hts in_X5 hown hK hP 0 rfl rfl 14 (by decide) (hts _ q380) (fun _ h9 => h9) rfl dX5_wave_2 ?_
  refine lv_iconst (v := 1) hx hb dX5_wave_5 (by decide) ?_
  refine lv_iadd hx hb dX5_wave_6 ?_
  refine va_put (D := D) (ci := 4) (v := .int (came + 1)) (ty := .int) (C := RX5) (T := TX5) (N := 18) hx hb hts in_X5 tyX5 tyX5_ok nmX5 hown hK hP hD hS 0 rfl rfl 14 (by decide) (hts _ q380) (fun _ h9 => h9) rfl (by decide +kernel) rfl rfl (Nat.le_of_ble_eq_true rfl) dX5_wave_7 (fun H locs hP hD hS => ?_)
  have hP : va_P D tkCl [(h0, .inr (4, oX5 r0 (tu (tu i0 10 v_lost) 14 (came + 1)) j0)), ((r0 1), .inl (ar 0, 64, .inl wet)), ((r0 0), .inl (ar 0, 64, .inl height))] H := hP
  have hD : va_D A [(h0, .inr (4, oX5 r0 (tu (tu i0 10 v_lost) 14 (came + 1)) j0)), ((r0 1), .inl (ar 0, 64, .inl wet)), ((r0 0), .inl (ar 0, 64, .inl height))] := hD
  refine lv_iconst (v := 0) hx hb dX5_wave_10 (by decide) ?_
  refine lv_istore_n (lv' := [(3, .int 0), (0, .ref h0), (1, .int p0), (2, .int p1)]) hx hb dX5_wave_11 rfl hl (Nat.le_of_ble_eq_true rfl) rfl (fun ls hl => ?_)
  exact ih12 p0 p1 0 v_lost (came + 1) wet height _ _ _ hF hP hD hS (lv_sub hl [1, 2, 3, 0] rfl)
set_option maxHeartbeats 4000000 in
theorem mX5_lookAtFlags (l : Launch) (D : va_G) (ar : Nat → ClassId) (ad : Nat → Nat → Nat) (xs : va_W) (sz : Nat) (h0 : Nat) (r0 : Nat → Nat) (i0 : Nat → Int32) (j0 : Nat → Int64) (r1 : Nat → Nat) (i1 : Nat → Int32) (r2 : Nat → Nat) (i2 : Nat → Int32) (minute flags : Int32) (flagCell height putUp numbers fell : Nat → Int32) (o : (Nat → Int32)) (hF : fX5_lookAtFlags minute flags flagCell height putUp numbers fell = some o) : Met l yX5_lookAtFlags (ws_ yX5_lookAtFlags cX5_lookAtFlags 2 none) ({ frames := 2, cells := 0, slots := 0, locals := 41 }) (va_Pc [.ref h0] (tk_Pre D ar ad [((r0 6), .inl (ar 0, 3, .inl fell))] [(h0, .inr (4, oX5 r0 (tu i0 9 minute) j0)), ((r0 17), .inr (0, oX0 r1 i1)), ((r1 5), .inr (2, oX2 r2 (tu i2 5 flags))), ((r2 9), .inl (ar 0, 3, .inl flagCell)), ((r0 0), .inl (ar 0, 64, .inl height)), ((r0 5), .inl (ar 0, 3, .inl putUp)), ((r2 7), .inl (ar 0, 6, .inl numbers))] xs sz)) (va_Qv (fun _ : Unit => True) (fun _ t => tk_Post D (va_A [((r0 6), .inl (ar 0, 3, .inl fell))] sz) [((r0 6), .inl (ar 0, 3, .inl o))] t) (va_A [((r0 6), .inl (ar 0, 3, .inl fell))] sz)) 0 0 (va_A [((r0 6), .inl (ar 0, 3, .inl fell))] sz) := by
  refine Met.ofW (cc := cX5_lookAtFlags) (maxL := 2) (ret := none) (by decide) rfl ?_
  intro p e s m args below meth c s₁ B hml hv
  obtain ⟨rfl, hsz, hP, hD0, hR, hX, hE⟩ := hv
  have hx := B.exec
  have hb := B.bytes
  have hr := B.returns
  have hts := atoms_spec (ws := (ws_ yX5_lookAtFlags cX5_lookAtFlags 2 none)) B.pre
  have hts : ∀ w ∈ lw_all, w.before _ s = true := fun w h => hts w (List.mem_cons_of_mem _ h)
  have hown : s.vm.findClass RX5 = some m.cls := findClass_of_methodNamed B.named
  have hlocks := B.notSynchronized
  subst hsz
  have hD := hD0.self (sz := s.heap.size)
  generalize hAe : va_A [((r0 6), .inl (ar 0, 3, .inl fell))] s.heap.size = A at hD hR hX hE ⊢
  have hA : ∀ q : Nat, s.heap.size ≤ q → A q := fun q h => by rw [← hAe]; exact Or.inr h
  have hS : va_S A s.heap s.heap [] := va_S.rf
  have hK := hE.1
  have hl := lv_entry ([.ref h0]) (n := 2) (Nat.le_of_ble_eq_true rfl)
  rw [lg_entry_eq]
  generalize (lg_sl ([.ref h0]) ++ List.replicate (2 - (lg_sl ([.ref h0])).length) Slot.unset).toArray = ls at hl ⊢
  have hl : lv_has ls 2 [(0, .ref h0)] := hl
  have hP : va_P D tkCl [((r0 6), .inl (ar 0, 3, .inl fell))] s.heap := hP
  obtain ⟨n0, hF⟩ : ∃ n, tk_k (stX5_lookAtFlags minute flags flagCell height putUp numbers) n (bX5_lookAtFlags_0 minute flags flagCell height putUp numbers fell) = some o := tk_fin_it hF
  have key : ∀ n : Nat, (∀ (x1 : Int32) (fell : Nat → Int32) (H : Heap) (locs : List Loc) (ls : Array Slot), tk_it (stX5_lookAtFlags minute flags flagCell height putUp numbers) n (1, (x1, fell)) = some o → va_P D tkCl [((r0 6), .inl (ar 0, 3, .inl fell))] H → va_D A [((r0 6), .inl (ar 0, 3, .inl fell))] → va_S A s.heap H locs → lv_has ls 2 [(0, .ref h0), (1, .int x1)] → W p l e (headSpec (ws_ yX5_lookAtFlags cX5_lookAtFlags 2 none) ({ frames := 2, cells := 0, slots := 0, locals := 41 })).room s m ([.ref h0] : List Value).toArray below meth c H locs 0 0 (MQ below (va_Qv (fun _ : Unit => True) (fun _ t => tk_Post D A [((r0 6), .inl (ar 0, 3, .inl o))] t) A) ([.ref h0] : List Value).toArray s 0 0 A) (F0 m 2 ls [])) := by
    intro n
    induction n with
    | zero => exact fun x1 fell H locs ls hF => (by cases hF)
    | succ n ih =>
      have ih2 := ih
      intro x1 fell H locs ls hF hP hD hS hl
      have hF : tk_k (stX5_lookAtFlags minute flags flagCell height putUp numbers) n (bX5_lookAtFlags_1 minute flags flagCell height putUp numbers x1 fell) = some o := hF
      unfold bX5_lookAtFlags_1 at hF
      refine lv_iload_n hx hb dX5_lookAtFlags_2 rfl (lv_at hl 1 rfl) ?_
      refine lv_aload_n hx hb dX5_lookAtFlags_3 rfl (lv_at hl 0 rfl) ?_
      refine va_get (D := D) (ci := 4) (v := .ref (r0 17)) (C := RX5) (T := TX5) (N := 18) hx hb hts in_X5 hown hK (hR.at hS) 0 rfl rfl 17 (by decide) (hts _ q386) (fun _ h9 => h9) rfl dX5_lookAtFlags_4 ?_
      refine va_getN (D := D) (ci := 0) (v := .ref (r1 5)) (C := RX0) (T := TX0) (N := 25) hx hb hts in_X0 hown hK (hR.at hS) 1 rfl rfl 5 (by decide) (hE.2.1.use q456 rfl rfl) (fun _ h9 => h9) rfl dX5_lookAtFlags_7 ?_
      refine va_getN (D := D) (ci := 2) (v := .int flags) (C := RX2) (T := TX2) (N := 11) hx hb hts in_X2 hown hK (hR.at hS) 2 rfl rfl 5 (by decide) (hE.2.1.use q236 rfl rfl) (fun _ h9 => h9) rfl dX5_lookAtFlags_10 ?_
      refine lv_icmp_ge (tgt := 82) hx hb dX5_lookAtFlags_13 (by decide) (fun c1 => ?_) (fun c1 => ?_)
      · have hF := tk_kt hF c1
        have eo := tk_kr hF
        subst eo
        exact W.vret hx hb hr (fun t ht hW => ⟨⟨(), rfl, trivial, tk_pst ht hP hD⟩, hS.F ht⟩) hS.2.2 dX5_lookAtFlags_82
      · have hF := tk_kf hF c1
        refine lv_aload_n hx hb dX5_lookAtFlags_16 rfl (lv_at hl 0 rfl) ?_
        refine va_get (D := D) (ci := 4) (v := .ref (r0 6)) (C := RX5) (T := TX5) (N := 18) hx hb hts in_X5 hown hK (hR.at hS) 0 rfl rfl 6 (by decide) (hts _ q365) (fun _ h9 => h9) rfl dX5_lookAtFlags_17 ?_
        refine lv_iload_n hx hb dX5_lookAtFlags_20 rfl (lv_at hl 1 rfl) ?_
        obtain ⟨gd2, hF⟩ := tk_kg hF
        refine va_iald hx hb hK hP 0 0 rfl rfl gd2 dX5_lookAtFlags_21 ?_
        refine lv_iconst (v := (-1)) hx hb dX5_lookAtFlags_22 (by decide) ?_
        refine lv_icmp_ne (tgt := 76) hx hb dX5_lookAtFlags_23 (by decide) (fun c3 => ?_) (fun c3 => ?_)
        · have hF := tk_kf hF c3
          refine lv_iinc (v := x1 + 1) (lv' := [(1, .int (x1 + 1)), (0, .ref h0)]) hx hb dX5_lookAtFlags_76 hl (k := 1) rfl (congrArg (fun z => x1 + z) (show Int32.ofInt 1 = 1 by decide)) (Nat.le_of_ble_eq_true rfl) rfl (fun ls hl => ?_)
          refine lv_goto (tgt := 2) hx hb dX5_lookAtFlags_79 (by decide) ?_
          exact ih2 (x1 + 1) fell _ _ _ hF hP hD hS (lv_sub hl [1, 0] rfl)
        · have hF := tk_kt hF c3
          refine lv_aload_n hx hb dX5_lookAtFlags_26 rfl (lv_at hl 0 rfl) ?_
          refine va_get (D := D) (ci := 4) (v := .ref (r0 0)) (C := RX5) (T := TX5) (N := 18) hx hb hts in_X5 hown hK (hR.at hS) 0 rfl rfl 0 (by decide) (hts _ q355) (fun _ h9 => h9) rfl dX5_lookAtFlags_27 ?_
          refine lv_aload_n hx hb dX5_lookAtFlags_30 rfl (lv_at hl 0 rfl) ?_
          refine va_get (D := D) (ci := 4) (v := .ref (r0 17)) (C := RX5) (T := TX5) (N := 18) hx hb hts in_X5 hown hK (hR.at hS) 0 rfl rfl 17 (by decide) (hts _ q386) (fun _ h9 => h9) rfl dX5_lookAtFlags_31 ?_
          refine va_getN (D := D) (ci := 0) (v := .ref (r1 5)) (C := RX0) (T := TX0) (N := 25) hx hb hts in_X0 hown hK (hR.at hS) 1 rfl rfl 5 (by decide) (hE.2.1.use q456 rfl rfl) (fun _ h9 => h9) rfl dX5_lookAtFlags_34 ?_
          refine va_getN (D := D) (ci := 2) (v := .ref (r2 9)) (C := RX2) (T := TX2) (N := 11) hx hb hts in_X2 hown hK (hR.at hS) 2 rfl rfl 9 (by decide) (hE.2.1.use q248 rfl rfl) (fun _ h9 => h9) rfl dX5_lookAtFlags_37 ?_
          refine lv_iload_n hx hb dX5_lookAtFlags_40 rfl (lv_at hl 1 rfl) ?_
          refine va_iald hx hb hK (hR.at hS) 3 0 rfl rfl gd2 dX5_lookAtFlags_41 ?_
          obtain ⟨gd4, hF⟩ := tk_kg hF
          refine va_iald hx hb hK (hR.at hS) 4 0 rfl rfl gd4 dX5_lookAtFlags_42 ?_
          refine lv_aload_n hx hb dX5_lookAtFlags_43 rfl (lv_at hl 0 rfl) ?_
          refine va_get (D := D) (ci := 4) (v := .ref (r0 5)) (C := RX5) (T := TX5) (N := 18) hx hb hts in_X5 hown hK (hR.at hS) 0 rfl rfl 5 (by decide) (hts _ q363) (fun _ h9 => h9) rfl dX5_lookAtFlags_44 ?_
          refine lv_iload_n hx hb dX5_lookAtFlags_47 rfl (lv_at hl 1 rfl) ?_
          refine va_iald hx hb hK (hR.at hS) 5 0 rfl rfl gd2 dX5_lookAtFlags_48 ?_
          refine lv_aload_n hx hb dX5_lookAtFlags_49 rfl (lv_at hl 0 rfl) ?_
          refine va_get (D := D) (ci := 4) (v := .ref (r0 17)) (C := RX5) (T := TX5) (N := 18) hx hb hts in_X5 hown hK (hR.at hS) 0 rfl rfl 17 (by decide) (hts _ q386) (fun _ h9 => h9) rfl dX5_lookAtFlags_50 ?_
          refine va_getN (D := D) (ci := 0) (v := .ref (r1 5)) (C := RX0) (T := TX0) (N := 25) hx hb hts in_X0 hown hK (hR.at hS) 1 rfl rfl 5 (by decide) (hE.2.1.use q456 rfl rfl) (fun _ h9 => h9) rfl dX5_lookAtFlags_53 ?_
          refine va_gets (n := "FALL") hx hb (hE.z 4 (by decide)) hS hown (hts _ q1171) (fun _ h9 => h9) dX5_lookAtFlags_56 ?_
          obtain ⟨u5, hGu5, hF⟩ := tk_kb hF
          refine va_calli (va_runV (As := [.ref (ad 2 4)]) (rest := [.int (putUp x1.toNatClampNeg), .int (height (flagCell x1.toNatClampNeg).toNatClampNeg)]) ⟨hx, hb, hml, hown, hts⟩ (mX2_of (l := l) (D := D) (ar := ar) (ad := ad) (xs := xs) (sz := H.size) (h0 := (r1 5)) (r0 := r2) (i0 := (tu i2 5 flags)) (numbers := numbers) (p0 := 4) (hk_p0 := by decide) (hF := hGu5)) (cwV 1 hts (lw_V q434 q435 q436 q92 q437) rfl rfl rfl (by decide +kernel) ⟨(Nat.le_of_ble_eq_true rfl), (Nat.le_of_ble_eq_true rfl)⟩) ⟨tk_blind, va_recv hK (hR.at hS) (ci := 2) (q0 := 2) rfl rfl, fun U hU hW => ⟨rfl, tk_mk hP hD hS hA hE hR hX [] [3, 7] rfl rfl rfl rfl U hU hW⟩⟩ rfl rfl hl.1 rfl (lv_room (Nat.le_of_ble_eq_true rfl)) dX5_lookAtFlags_59 ⟨(Nat.le_of_ble_eq_true rfl), (Nat.le_of_ble_eq_true rfl)⟩) hS (fun q _ h => (va_free hD hS hA [] rfl) q h) (va_free hD hS hA [] rfl) (fun zr zu zt H1 zl zht zvm zw zB zz zk zS => ?_)
          obtain ⟨hP, hD⟩ := tk_join hP hD zk [] rfl rfl (va_free hD hS hA [] rfl) (zht ▸ zB.1) zB.2 (Nat.le_of_ble_eq_true rfl)
          have hS := zS
          have zw := Eq.symm zw
          subst zw
          generalize H1 = H at hP hS ⊢
          have hP : va_P D tkCl [((r0 6), .inl (ar 0, 3, .inl fell))] H := hP
          have hD : va_D A [((r0 6), .inl (ar 0, 3, .inl fell))] := hD
          refine lv_isub hx hb dX5_lookAtFlags_62 ?_
          refine lv_icmp_ge (tgt := 76) hx hb dX5_lookAtFlags_63 (by decide) (fun c6 => ?_) (fun c6 => ?_)
          · have hF := tk_kt hF c6
            refine lv_iinc (v := x1 + 1) (lv' := [(1, .int (x1 + 1)), (0, .ref h0)]) hx hb dX5_lookAtFlags_76 hl (k := 1) rfl (congrArg (fun z => x1 + z) (show Int32.ofInt 1 = 1 by decide)) (Nat.le_of_ble_eq_true rfl) rfl (fun ls hl => ?_)
            refine lv_goto (tgt := 2) hx hb dX5_lookAtFlags_79 (by decide) ?_
            exact ih2 (x1 + 1) fell _ _ _ hF hP hD hS (lv_sub hl [1, 0] rfl)
          · have hF := tk_kf hF c6
            refine lv_aload_n hx hb dX5_lookAtFlags_66 rfl (lv_at hl 0 rfl) ?_
            refine va_get (D := D) (ci := 4) (v := .ref (r0 6)) (C := RX5) (T := TX5) (N := 18) hx hb hts in_X5 hown hK (hR.at hS) 0 rfl rfl 6 (by decide) (hts _ q365) (fun _ h9 => h9) rfl dX5_lookAtFlags_67 ?_
            refine lv_iload_n hx hb dX5_lookAtFlags_70 rfl (lv_at hl 1 rfl) ?_
            refine lv_aload_n hx hb dX5_lookAtFlags_71 rfl (lv_at hl 0 rfl) ?_
            refine va_get (D := D) (ci := 4) (v := .int minute) (C := RX5) (T := TX5) (N := 18) hx hb hts in_X5 hown hK (hR.at hS) 0 rfl rfl 9 (by decide) (hts _ q370) (fun _ h9 => h9) rfl dX5_lookAtFlags_72 ?_
            refine va_iast hx hb hK hP hD hS 0 0 rfl rfl gd2 dX5_lookAtFlags_75 (fun H locs hP hD hS => ?_)
            have hP : va_P D tkCl [((r0 6), .inl (ar 0, 3, .inl (upd fell x1.toNatClampNeg minute)))] H := hP
            have hD : va_D A [((r0 6), .inl (ar 0, 3, .inl (upd fell x1.toNatClampNeg minute)))] := hD
            refine lv_iinc (v := x1 + 1) (lv' := [(1, .int (x1 + 1)), (0, .ref h0)]) hx hb dX5_lookAtFlags_76 hl (k := 1) rfl (congrArg (fun z => x1 + z) (show Int32.ofInt 1 = 1 by decide)) (Nat.le_of_ble_eq_true rfl) rfl (fun ls hl => ?_)
            refine lv_goto (tgt := 2) hx hb dX5_lookAtFlags_79 (by decide) ?_
            exact ih2 (x1 + 1) (upd fell x1.toNatClampNeg minute) _ _ _ hF hP hD hS (lv_sub hl [1, 0] rfl)
  have ih2 := key n0
  clear key
  unfold bX5_lookAtFlags_0 at hF
  have hF : tk_k (stX5_lookAtFlags minute flags flagCell height putUp numbers) n0 _ = some o := hF
  refine lv_iconst (v := 0) hx hb dX5_lookAtFlags_0 (by decide) ?_
  refine lv_istore_n (lv' := [(1, .int 0), (0, .ref h0)]) hx hb dX5_lookAtFlags_1 rfl hl (Nat.le_of_ble_eq_true rfl) rfl (fun ls hl => ?_)
  exact ih2 0 fell _ _ _ hF hP hD hS (lv_sub hl [1, 0] rfl)
set_option maxHeartbeats 4000000 in
theorem mX5_slides (l : Launch) (D : va_G) (ar : Nat → ClassId) (ad : Nat → Nat → Nat) (xs : va_W) (sz : Nat) (h0 : Nat) (r0 : Nat → Nat) (i0 : Nat → Int32) (j0 : Nat → Int64) (r1 : Nat → Nat) (i1 : Nat → Int32) (r2 : Nat → Nat) (i2 : Nat → Int32) (columns rows best top loss : Int32) (stone numbers : Nat → Int32) (slid slidNow rounds : Int32) (height wet pack : Nat → Int32) (o : Int32 × Int32 × Int32 × (Nat → Int32) × (Nat → Int32) × (Nat → Int32)) (hF : fX5_slides columns rows best top loss stone numbers slid slidNow rounds height wet pack = some o) : Met l yX5_slides (ws_ yX5_slides cX5_slides 5 none) ({ frames := 4, cells := 0, slots := 0, locals := 106 }) (va_Pc [.ref h0] (tk_Pre D ar ad [(h0, .inr (4, oX5 r0 (tu (tu (tu i0 11 slid) 12 slidNow) 13 rounds) j0)), ((r0 0), .inl (ar 0, 64, .inl height)), ((r0 1), .inl (ar 0, 64, .inl wet)), ((r0 2), .inl (ar 0, 64, .inl pack))] [((r0 17), .inr (0, oX0 r1 i1)), ((r1 5), .inr (2, oX2 r2 (tu (tu (tu (tu (tu i2 0 columns) 1 rows) 2 best) 3 top) 4 loss))), ((r0 7), .inl (ar 2, 64, .inl stone)), ((r2 7), .inl (ar 0, 6, .inl numbers))] xs sz)) (va_Qv (fun _ : Unit => True) (fun _ t => tk_Post D (va_A [(h0, .inr (4, oX5 r0 (tu (tu (tu i0 11 slid) 12 slidNow) 13 rounds) j0)), ((r0 0), .inl (ar 0, 64, .inl height)), ((r0 1), .inl (ar 0, 64, .inl wet)), ((r0 2), .inl (ar 0, 64, .inl pack))] sz) [(h0, .inr (4, oX5 r0 (tu (tu (tu i0 11 o.1) 12 o.2.1) 13 o.2.2.1) j0)), ((r0 0), .inl (ar 0, 64, .inl o.2.2.2.1)), ((r0 1), .inl (ar 0, 64, .inl o.2.2.2.2.1)), ((r0 2), .inl (ar 0, 64, .inl o.2.2.2.2.2))] t) (va_A [(h0, .inr (4, oX5 r0 (tu (tu (tu i0 11 slid) 12 slidNow) 13 rounds) j0)), ((r0 0), .inl (ar 0, 64, .inl height)), ((r0 1), .inl (ar 0, 64, .inl wet)), ((r0 2), .inl (ar 0, 64, .inl pack))] sz)) 0 0 (va_A [(h0, .inr (4, oX5 r0 (tu (tu (tu i0 11 slid) 12 slidNow) 13 rounds) j0)), ((r0 0), .inl (ar 0, 64, .inl height)), ((r0 1), .inl (ar 0, 64, .inl wet)), ((r0 2), .inl (ar 0, 64, .inl pack))] sz) := by
  refine Met.ofW (cc := cX5_slides) (maxL := 5) (ret := none) (by decide) rfl ?_
  intro p e s m args below meth c s₁ B hml hv
  obtain ⟨rfl, hsz, hP, hD0, hR, hX, hE⟩ := hv
  have hx := B.exec
  have hb := B.bytes
  have hr := B.returns
  have hts := atoms_spec (ws := (ws_ yX5_slides cX5_slides 5 none)) B.pre
  have hts : ∀ w ∈ lw_all, w.before _ s = true := fun w h => hts w (List.mem_cons_of_mem _ h)
  have hown : s.vm.findClass RX5 = some m.cls := findClass_of_methodNamed B.named
  have hlocks := B.notSynchronized
  subst hsz
  have hD := hD0.self (sz := s.heap.size)
  generalize hAe : va_A [(h0, .inr (4, oX5 r0 (tu (tu (tu i0 11 slid) 12 slidNow) 13 rounds) j0)), ((r0 0), .inl (ar 0, 64, .inl height)), ((r0 1), .inl (ar 0, 64, .inl wet)), ((r0 2), .inl (ar 0, 64, .inl pack))] s.heap.size = A at hD hR hX hE ⊢
  have hA : ∀ q : Nat, s.heap.size ≤ q → A q := fun q h => by rw [← hAe]; exact Or.inr h
  have hS : va_S A s.heap s.heap [] := va_S.rf
  have hK := hE.1
  have hl := lv_entry ([.ref h0]) (n := 5) (Nat.le_of_ble_eq_true rfl)
  rw [lg_entry_eq]
  generalize (lg_sl ([.ref h0]) ++ List.replicate (5 - (lg_sl ([.ref h0])).length) Slot.unset).toArray = ls at hl ⊢
  have hl : lv_has ls 5 [(0, .ref h0)] := hl
  have hP : va_P D tkCl [(h0, .inr (4, oX5 r0 (tu (tu (tu i0 11 slid) 12 slidNow) 13 rounds) j0)), ((r0 0), .inl (ar 0, 64, .inl height)), ((r0 1), .inl (ar 0, 64, .inl wet)), ((r0 2), .inl (ar 0, 64, .inl pack))] s.heap := hP
  obtain ⟨n0, hF⟩ : ∃ n, tk_k (stX5_slides columns rows best top loss stone numbers) n (bX5_slides_0 columns rows best top loss stone numbers slid slidNow rounds height wet pack) = some o := tk_fin_it hF
  have key : ∀ n : Nat, (∀ (x1 x2 slid slidNow rounds : Int32) (height wet pack : Nat → Int32) (H : Heap) (locs : List Loc) (ls : Array Slot), tk_it (stX5_slides columns rows best top loss stone numbers) n (1, (x1, x2, 0, 0, 0, 0, slid, slidNow, rounds, height, wet, pack)) = some o → va_P D tkCl [(h0, .inr (4, oX5 r0 (tu (tu (tu i0 11 slid) 12 slidNow) 13 rounds) j0)), ((r0 0), .inl (ar 0, 64, .inl height)), ((r0 1), .inl (ar 0, 64, .inl wet)), ((r0 2), .inl (ar 0, 64, .inl pack))] H → va_D A [(h0, .inr (4, oX5 r0 (tu (tu (tu i0 11 slid) 12 slidNow) 13 rounds) j0)), ((r0 0), .inl (ar 0, 64, .inl height)), ((r0 1), .inl (ar 0, 64, .inl wet)), ((r0 2), .inl (ar 0, 64, .inl pack))] → va_S A s.heap H locs → lv_has ls 5 [(0, .ref h0), (1, .int x1), (2, .int x2)] → W p l e (headSpec (ws_ yX5_slides cX5_slides 5 none) ({ frames := 4, cells := 0, slots := 0, locals := 106 })).room s m ([.ref h0] : List Value).toArray below meth c H locs 0 0 (MQ below (va_Qv (fun _ : Unit => True) (fun _ t => tk_Post D A [(h0, .inr (4, oX5 r0 (tu (tu (tu i0 11 o.1) 12 o.2.1) 13 o.2.2.1) j0)), ((r0 0), .inl (ar 0, 64, .inl o.2.2.2.1)), ((r0 1), .inl (ar 0, 64, .inl o.2.2.2.2.1)), ((r0 2), .inl (ar 0, 64, .inl o.2.2.2.2.2))] t) A) ([.ref h0] : List Value).toArray s 0 0 A) (F0 m 14 ls [])) ∧ (∀ (x1 x2 x3 slid slidNow rounds : Int32) (height wet pack : Nat → Int32) (H : Heap) (locs : List Loc) (ls : Array Slot), tk_it (stX5_slides columns rows best top loss stone numbers) n (2, (x1, x2, x3, 0, 0, 0, slid, slidNow, rounds, height, wet, pack)) = some o → va_P D tkCl [(h0, .inr (4, oX5 r0 (tu (tu (tu i0 11 slid) 12 slidNow) 13 rounds) j0)), ((r0 0), .inl (ar 0, 64, .inl height)), ((r0 1), .inl (ar 0, 64, .inl wet)), ((r0 2), .inl (ar 0, 64, .inl pack))] H → va_D A [(h0, .inr (4, oX5 r0 (tu (tu (tu i0 11 slid) 12 slidNow) 13 rounds) j0)), ((r0 0), .inl (ar 0, 64, .inl height)), ((r0 1), .inl (ar 0, 64, .inl wet)), ((r0 2), .inl (ar 0, 64, .inl pack))] → va_S A s.heap H locs → lv_has ls 5 [(0, .ref h0), (1, .int x1), (2, .int x2), (3, .int x3)] → W p l e (headSpec (ws_ yX5_slides cX5_slides 5 none) ({ frames := 4, cells := 0, slots := 0, locals := 106 })).room s m ([.ref h0] : List Value).toArray below meth c H locs 0 0 (MQ below (va_Qv (fun _ : Unit => True) (fun _ t => tk_Post D A [(h0, .inr (4, oX5 r0 (tu (tu (tu i0 11 o.1) 12 o.2.1) 13 o.2.2.1) j0)), ((r0 0), .inl (ar 0, 64, .inl o.2.2.2.1)), ((r0 1), .inl (ar 0, 64, .inl o.2.2.2.2.1)), ((r0 2), .inl (ar 0, 64, .inl o.2.2.2.2.2))] t) A) ([.ref h0] : List Value).toArray s 0 0 A) (F0 m 28 ls [])) ∧ (∀ (x1 x2 x3 s0 slid slidNow rounds : Int32) (height wet pack : Nat → Int32) (H : Heap) (locs : List Loc) (ls : Array Slot), tk_it (stX5_slides columns rows best top loss stone numbers) n (3, (x1, x2, x3, s0, 0, 0, slid, slidNow, rounds, height, wet, pack)) = some o → va_P D tkCl [(h0, .inr (4, oX5 r0 (tu (tu (tu i0 11 slid) 12 slidNow) 13 rounds) j0)), ((r0 0), .inl (ar 0, 64, .inl height)), ((r0 1), .inl (ar 0, 64, .inl wet)), ((r0 2), .inl (ar 0, 64, .inl pack))] H → va_D A [(h0, .inr (4, oX5 r0 (tu (tu (tu i0 11 slid) 12 slidNow) 13 rounds) j0)), ((r0 0), .inl (ar 0, 64, .inl height)), ((r0 1), .inl (ar 0, 64, .inl wet)), ((r0 2), .inl (ar 0, 64, .inl pack))] → va_S A s.heap H locs → lv_has ls 5 [(0, .ref h0), (1, .int x1), (2, .int x2), (3, .int x3)] → W p l e (headSpec (ws_ yX5_slides cX5_slides 5 none) ({ frames := 4, cells := 0, slots := 0, locals := 106 })).room s m ([.ref h0] : List Value).toArray below meth c H locs 0 0 (MQ below (va_Qv (fun _ : Unit => True) (fun _ t => tk_Post D A [(h0, .inr (4, oX5 r0 (tu (tu (tu i0 11 o.1) 12 o.2.1) 13 o.2.2.1) j0)), ((r0 0), .inl (ar 0, 64, .inl o.2.2.2.1)), ((r0 1), .inl (ar 0, 64, .inl o.2.2.2.2.1)), ((r0 2), .inl (ar 0, 64, .inl o.2.2.2.2.2))] t) A) ([.ref h0] : List Value).toArray s 0 0 A) (F0 m 60 ls [.int s0])) ∧ (∀ (x1 x2 s1 s2 slid slidNow rounds : Int32) (height wet pack : Nat → Int32) (H : Heap) (locs : List Loc) (ls : Array Slot), tk_it (stX5_slides columns rows best top loss stone numbers) n (4, (x1, x2, 0, 0, s1, s2, slid, slidNow, rounds, height, wet, pack)) = some o → va_P D tkCl [(h0, .inr (4, oX5 r0 (tu (tu (tu i0 11 slid) 12 slidNow) 13 rounds) j0)), ((r0 0), .inl (ar 0, 64, .inl height)), ((r0 1), .inl (ar 0, 64, .inl wet)), ((r0 2), .inl (ar 0, 64, .inl pack))] H → va_D A [(h0, .inr (4, oX5 r0 (tu (tu (tu i0 11 slid) 12 slidNow) 13 rounds) j0)), ((r0 0), .inl (ar 0, 64, .inl height)), ((r0 1), .inl (ar 0, 64, .inl wet)), ((r0 2), .inl (ar 0, 64, .inl pack))] → va_S A s.heap H locs → lv_has ls 5 [(0, .ref h0), (1, .int x1), (2, .int x2)] → W p l e (headSpec (ws_ yX5_slides cX5_slides 5 none) ({ frames := 4, cells := 0, slots := 0, locals := 106 })).room s m ([.ref h0] : List Value).toArray below meth c H locs 0 0 (MQ below (va_Qv (fun _ : Unit => True) (fun _ t => tk_Post D A [(h0, .inr (4, oX5 r0 (tu (tu (tu i0 11 o.1) 12 o.2.1) 13 o.2.2.1) j0)), ((r0 0), .inl (ar 0, 64, .inl o.2.2.2.1)), ((r0 1), .inl (ar 0, 64, .inl o.2.2.2.2.1)), ((r0 2), .inl (ar 0, 64, .inl o.2.2.2.2.2))] t) A) ([.ref h0] : List Value).toArray s 0 0 A) (F0 m 132 ls [.int s2, .int s1, .ref h0])) ∧ (∀ (slid slidNow rounds : Int32) (height wet pack : Nat → Int32) (H : Heap) (locs : List Loc) (ls : Array Slot), tk_it (stX5_slides columns rows best top loss stone numbers) n (5, (0, 0, 0, 0, 0, 0, slid, slidNow, rounds, height, wet, pack)) = some o → va_P D tkCl [(h0, .inr (4, oX5 r0 (tu (tu (tu i0 11 slid) 12 slidNow) 13 rounds) j0)), ((r0 0), .inl (ar 0, 64, .inl height)), ((r0 1), .inl (ar 0, 64, .inl wet)), ((r0 2), .inl (ar 0, 64, .inl pack))] H → va_D A [(h0, .inr (4, oX5 r0 (tu (tu (tu i0 11 slid) 12 slidNow) 13 rounds) j0)), ((r0 0), .inl (ar 0, 64, .inl height)), ((r0 1), .inl (ar 0, 64, .inl wet)), ((r0 2), .inl (ar 0, 64, .inl pack))] → va_S A s.heap H locs → lv_has ls 5 [(0, .ref h0)] → W p l e (headSpec (ws_ yX5_slides cX5_slides 5 none) ({ frames := 4, cells := 0, slots := 0, locals := 106 })).room s m ([.ref h0] : List Value).toArray below meth c H locs 0 0 (MQ below (va_Qv (fun _ : Unit => True) (fun _ t => tk_Post D A [(h0, .inr (4, oX5 r0 (tu (tu (tu i0 11 o.1) 12 o.2.1) 13 o.2.2.1) j0)), ((r0 0), .inl (ar 0, 64, .inl o.2.2.2.1)), ((r0 1), .inl (ar 0, 64, .inl o.2.2.2.2.1)), ((r0 2), .inl (ar 0, 64, .inl o.2.2.2.2.2))] t) A) ([.ref h0] : List Value).toArray s 0 0 A) (F0 m 142 ls [])) := by
    intro n
    induction n with
    | zero => exact ⟨fun x1 x2 slid slidNow rounds height wet pack H locs ls hF => (by cases hF), fun x1 x2 x3 slid slidNow rounds height wet pack H locs ls hF => (by cases hF), fun x1 x2 x3 s0 slid slidNow rounds height wet pack H locs ls hF => (by cases hF), fun x1 x2 s1 s2 slid slidNow rounds height wet pack H locs ls hF => (by cases hF), fun slid slidNow rounds height wet pack H locs ls hF => (by cases hF)⟩
    | succ n ih =>
      obtain ⟨ih14, ih28, ih60, ih132, ih142⟩ := ih
      refine ⟨?_, ?_, ?_, ?_, ?_⟩
      · intro x1 x2 slid slidNow rounds height wet pack H locs ls hF hP hD hS hl
        have hF : tk_k (stX5_slides columns rows best top loss stone numbers) n (bX5_slides_1 columns rows best top loss stone numbers x1 x2 slid slidNow rounds height wet pack) = some o := hF
        unfold bX5_slides_1 at hF
        refine lv_iload_n hx hb dX5_slides_14 rfl (lv_at hl 2 rfl) ?_
        refine lv_bipush (v := 50) hx hb dX5_slides_15 (by decide) ?_
        refine lv_icmp_ge (tgt := 142) hx hb dX5_slides_17 (by decide) (fun c1 => ?_) (fun c1 => ?_)
        · have hF := tk_kt hF c1
          exact ih142 slid slidNow rounds height wet pack _ _ _ hF hP hD hS (lv_sub hl [0] rfl)
        · have hF := tk_kf hF c1
          refine lv_iload_n hx hb dX5_slides_20 rfl (lv_at hl 1 rfl) ?_
          refine lv_if_eq (tgt := 142) hx hb dX5_slides_21 (by decide) (fun c2 => ?_) (fun c2 => ?_)
          · have hF := tk_kt hF c2
            exact ih142 slid slidNow rounds height wet pack _ _ _ hF hP hD hS (lv_sub hl [0] rfl)
          · have hF := tk_kf hF c2
            refine lv_iconst (v := 0) hx hb dX5_slides_24 (by decide) ?_
            refine lv_istore_n (lv' := [(1, .int 0), (0, .ref h0), (2, .int x2)]) hx hb dX5_slides_25 rfl hl (Nat.le_of_ble_eq_true rfl) rfl (fun ls hl => ?_)
            refine lv_iconst (v := 0) hx hb dX5_slides_26 (by decide) ?_
            refine lv_istore_n (lv' := [(3, .int 0), (1, .int 0), (0, .ref h0), (2, .int x2)]) hx hb dX5_slides_27 rfl hl (Nat.le_of_ble_eq_true rfl) rfl (fun ls hl => ?_)
            exact ih28 0 x2 0 slid slidNow rounds height wet pack _ _ _ hF hP hD hS (lv_sub hl [2, 1, 3, 0] rfl)
      · intro x1 x2 x3 slid slidNow rounds height wet pack H locs ls hF hP hD hS hl
        have hF : tk_k (stX5_slides columns rows best top loss stone numbers) n (bX5_slides_2 columns rows best top loss stone numbers x1 x2 x3 slid slidNow rounds height wet pack) = some o := hF
        unfold bX5_slides_2 at hF
        refine lv_iload_n hx hb dX5_slides_28 rfl (lv_at hl 3 rfl) ?_
        refine lv_aload_n hx hb dX5_slides_29 rfl (lv_at hl 0 rfl) ?_
        refine va_get (D := D) (ci := 4) (v := .ref (r0 17)) (C := RX5) (T := TX5) (N := 18) hx hb hts in_X5 hown hK hP 0 rfl rfl 17 (by decide) (hts _ q386) (fun _ h9 => h9) rfl dX5_slides_30 ?_
        refine va_getN (D := D) (ci := 0) (v := .ref (r1 5)) (C := RX0) (T := TX0) (N := 25) hx hb hts in_X0 hown hK (hR.at hS) 0 rfl rfl 5 (by decide) (hE.2.1.use q456 rfl rfl) (fun _ h9 => h9) rfl dX5_slides_33 ?_
        obtain ⟨u3, hGu3, hF⟩ := tk_kb hF
        refine va_calli (va_runV (As := []) (rest := [.int x3]) ⟨hx, hb, hml, hown, hts⟩ (mX2_cells (l := l) (D := D) (ar := ar) (ad := ad) (xs := xs) (sz := H.size) (h0 := (r1 5)) (r0 := r2) (i0 := (tu (tu (tu (tu (tu i2 0 columns) 1 rows) 2 best) 3 top) 4 loss)) (columns := columns) (rows := rows) (hF := hGu3)) (cwV 0 hts (lw_V q429 q430 q431 q92 q432) rfl rfl rfl (by decide +kernel) ⟨(Nat.le_of_ble_eq_true rfl), (Nat.le_of_ble_eq_true rfl)⟩) ⟨tk_blind, va_recv hK (hR.at hS) (ci := 2) (q0 := 1) rfl rfl, fun U hU hW => ⟨rfl, tk_mk hP hD hS hA hE hR hX [] [5] rfl rfl rfl rfl U hU hW⟩⟩ rfl rfl hl.1 rfl (lv_room (Nat.le_of_ble_eq_true rfl)) dX5_slides_36 ⟨(Nat.le_of_ble_eq_true rfl), (Nat.le_of_ble_eq_true rfl)⟩) hS (fun q _ h => (va_free hD hS hA [] rfl) q h) (va_free hD hS hA [] rfl) (fun zr zu zt H1 zl zht zvm zw zB zz zk zS => ?_)
        obtain ⟨hP, hD⟩ := tk_join hP hD zk [] rfl rfl (va_free hD hS hA [] rfl) (zht ▸ zB.1) zB.2 (Nat.le_of_ble_eq_true rfl)
        have hS := zS
        have zw := Eq.symm zw
        subst zw
        generalize H1 = H at hP hS ⊢
        have hP : va_P D tkCl [(h0, .inr (4, oX5 r0 (tu (tu (tu i0 11 slid) 12 slidNow) 13 rounds) j0)), ((r0 0), .inl (ar 0, 64, .inl height)), ((r0 1), .inl (ar 0, 64, .inl wet)), ((r0 2), .inl (ar 0, 64, .inl pack))] H := hP
        have hD : va_D A [(h0, .inr (4, oX5 r0 (tu (tu (tu i0 11 slid) 12 slidNow) 13 rounds) j0)), ((r0 0), .inl (ar 0, 64, .inl height)), ((r0 1), .inl (ar 0, 64, .inl wet)), ((r0 2), .inl (ar 0, 64, .inl pack))] := hD
        refine lv_icmp_ge (tgt := 118) hx hb dX5_slides_39 (by decide) (fun c4 => ?_) (fun c4 => ?_)
        · have hF := tk_kt hF c4
          refine lv_aload_n hx hb dX5_slides_118 rfl (lv_at hl 0 rfl) ?_
          refine lv_dup hx hb dX5_slides_119 rfl ?_
          refine va_get (D := D) (ci := 4) (v := .int rounds) (C := RX5) (T := TX5) (N := 18) hx hb hts in_X5 hown hK hP 0 rfl rfl 13 (by decide) (hts _ q378) (fun _ h9 => h9) rfl dX5_slides_120 ?_
          refine lv_iload_n hx hb dX5_slides_123 rfl (lv_at hl 1 rfl) ?_
          refine lv_if_eq (tgt := 131) hx hb dX5_slides_124 (by decide) (fun c5 => ?_) (fun c5 => ?_)
          · have hF := tk_kt hF c5
            refine lv_iconst (v := 0) hx hb dX5_slides_131 (by decide) ?_
            exact ih132 x1 x2 rounds 0 slid slidNow rounds height wet pack _ _ _ hF hP hD hS (lv_sub hl [0, 1, 2] rfl)
          · have hF := tk_kf hF c5
            refine lv_iconst (v := 1) hx hb dX5_slides_127 (by decide) ?_
            refine lv_goto (tgt := 132) hx hb dX5_slides_128 (by decide) ?_
            exact ih132 x1 x2 rounds 1 slid slidNow rounds height wet pack _ _ _ hF hP hD hS (lv_sub hl [0, 1, 2] rfl)
        · have hF := tk_kf hF c4
          refine lv_aload_n hx hb dX5_slides_42 rfl (lv_at hl 0 rfl) ?_
          refine va_get (D := D) (ci := 4) (v := .ref (r0 7)) (C := RX5) (T := TX5) (N := 18) hx hb hts in_X5 hown hK hP 0 rfl rfl 7 (by decide) (hts _ q367) (fun _ h9 => h9) rfl dX5_slides_43 ?_
          refine lv_iload_n hx hb dX5_slides_46 rfl (lv_at hl 3 rfl) ?_
          obtain ⟨gd6, hF⟩ := tk_kg hF
          refine va_zald hx hb hK (hR.at hS) 2 2 rfl rfl gd6 dX5_slides_47 ?_
          refine lv_if_eq (tgt := 55) hx hb dX5_slides_48 (by decide) (fun c7 => ?_) (fun c7 => ?_)
          · have hF := tk_kt hF c7
            refine lv_aload_n hx hb dX5_slides_55 rfl (lv_at hl 0 rfl) ?_
            refine lv_iload_n hx hb dX5_slides_56 rfl (lv_at hl 3 rfl) ?_
            obtain ⟨u8, hGu8, hF⟩ := tk_kb hF
            refine va_calli (va_runV (As := [.int x3]) (rest := []) ⟨hx, hb, hml, hown, hts⟩ (mX5_lowest (l := l) (D := D) (ar := ar) (ad := ad) (xs := xs) (sz := H.size) (h0 := h0) (r0 := r0) (i0 := (tu (tu (tu i0 11 slid) 12 slidNow) 13 rounds)) (j0 := j0) (r1 := r1) (i1 := i1) (r2 := r2) (i2 := (tu (tu (tu (tu (tu i2 0 columns) 1 rows) 2 best) 3 top) 4 loss)) (columns := columns) (rows := rows) (stone := stone) (height := height) (p0 := x3) (hF := hGu8)) (cwV 1 hts (lw_V q1143 q1145 qs19 q99 q1146) rfl rfl rfl (by decide +kernel) ⟨(Nat.le_of_ble_eq_true rfl), (Nat.le_of_ble_eq_true rfl)⟩) ⟨tk_blind, va_recv hK hP (ci := 4) (q0 := 0) rfl rfl, fun U hU hW => ⟨rfl, tk_mk hP hD hS hA hE hR hX [] [0, 4, 5, 6, 1] rfl rfl rfl rfl U hU hW⟩⟩ rfl rfl hl.1 rfl (lv_room (Nat.le_of_ble_eq_true rfl)) dX5_slides_57 ⟨(Nat.le_of_ble_eq_true rfl), (Nat.le_of_ble_eq_true rfl)⟩) hS (fun q _ h => (va_free hD hS hA [] rfl) q h) (va_free hD hS hA [] rfl) (fun zr zu zt H1 zl zht zvm zw zB zz zk zS => ?_)
            obtain ⟨hP, hD⟩ := tk_join hP hD zk [] rfl rfl (va_free hD hS hA [] rfl) (zht ▸ zB.1) zB.2 (Nat.le_of_ble_eq_true rfl)
            have hS := zS
            have zw := Eq.symm zw
            subst zw
            generalize H1 = H at hP hS ⊢
            have hP : va_P D tkCl [(h0, .inr (4, oX5 r0 (tu (tu (tu i0 11 slid) 12 slidNow) 13 rounds) j0)), ((r0 0), .inl (ar 0, 64, .inl height)), ((r0 1), .inl (ar 0, 64, .inl wet)), ((r0 2), .inl (ar 0, 64, .inl pack))] H := hP
            have hD : va_D A [(h0, .inr (4, oX5 r0 (tu (tu (tu i0 11 slid) 12 slidNow) 13 rounds) j0)), ((r0 0), .inl (ar 0, 64, .inl height)), ((r0 1), .inl (ar 0, 64, .inl wet)), ((r0 2), .inl (ar 0, 64, .inl pack))] := hD
            exact ih60 x1 x2 x3 u8 slid slidNow rounds height wet pack _ _ _ hF hP hD hS (lv_sub hl [0, 1, 2, 3] rfl)
          · have hF := tk_kf hF c7
            refine lv_iconst (v := (-1)) hx hb dX5_slides_51 (by decide) ?_
            refine lv_goto (tgt := 60) hx hb dX5_slides_52 (by decide) ?_
            exact ih60 x1 x2 x3 (-1) slid slidNow rounds height wet pack _ _ _ hF hP hD hS (lv_sub hl [0, 1, 2, 3] rfl)
      · intro x1 x2 x3 s0 slid slidNow rounds height wet pack H locs ls hF hP hD hS hl
        have hF : tk_k (stX5_slides columns rows best top loss stone numbers) n (bX5_slides_3 columns rows best top loss stone numbers x1 x2 x3 s0 slid slidNow rounds height wet pack) = some o := hF
        unfold bX5_slides_3 at hF
        refine lv_istore (lv' := [(4, .int s0), (0, .ref h0), (1, .int x1), (2, .int x2), (3, .int x3)]) hx hb dX5_slides_60 hl (Nat.le_of_ble_eq_true rfl) rfl (fun ls hl => ?_)
        refine lv_iload hx hb dX5_slides_62 (lv_at hl 0 rfl) ?_
        refine lv_iconst (v := (-1)) hx hb dX5_slides_64 (by decide) ?_
        refine lv_icmp_eq (tgt := 112) hx hb dX5_slides_65 (by decide) (fun c9 => ?_) (fun c9 => ?_)
        · have hF := tk_kt hF c9
          refine lv_iinc (v := x3 + 1) (lv' := [(3, .int (x3 + 1)), (4, .int s0), (0, .ref h0), (1, .int x1), (2, .int x2)]) hx hb dX5_slides_112 hl (k := 4) rfl (congrArg (fun z => x3 + z) (show Int32.ofInt 1 = 1 by decide)) (Nat.le_of_ble_eq_true rfl) rfl (fun ls hl => ?_)
          refine lv_goto (tgt := 28) hx hb dX5_slides_115 (by decide) ?_
          exact ih28 x1 x2 (x3 + 1) slid slidNow rounds height wet pack _ _ _ hF hP hD hS (lv_sub hl [2, 3, 4, 0] rfl)
        · have hF := tk_kf hF c9
          refine lv_aload_n hx hb dX5_slides_68 rfl (lv_at hl 1 rfl) ?_
          refine va_get (D := D) (ci := 4) (v := .ref (r0 0)) (C := RX5) (T := TX5) (N := 18) hx hb hts in_X5 hown hK hP 0 rfl rfl 0 (by decide) (hts _ q355) (fun _ h9 => h9) rfl dX5_slides_69 ?_
          refine lv_iload_n hx hb dX5_slides_72 rfl (lv_at hl 4 rfl) ?_
          obtain ⟨gd10, hF⟩ := tk_kg hF
          refine va_iald hx hb hK hP 1 0 rfl rfl gd10 dX5_slides_73 ?_
          refine lv_aload_n hx hb dX5_slides_74 rfl (lv_at hl 1 rfl) ?_
          refine va_get (D := D) (ci := 4) (v := .ref (r0 0)) (C := RX5) (T := TX5) (N := 18) hx hb hts in_X5 hown hK hP 0 rfl rfl 0 (by decide) (hts _ q355) (fun _ h9 => h9) rfl dX5_slides_75 ?_
          refine lv_iload hx hb dX5_slides_78 (lv_at hl 0 rfl) ?_
          obtain ⟨gd11, hF⟩ := tk_kg hF
          refine va_iald hx hb hK hP 1 0 rfl rfl gd11 dX5_slides_80 ?_
          refine lv_isub hx hb dX5_slides_81 ?_
          refine lv_aload_n hx hb dX5_slides_82 rfl (lv_at hl 1 rfl) ?_
          refine lv_iload_n hx hb dX5_slides_83 rfl (lv_at hl 4 rfl) ?_
          obtain ⟨u12, hGu12, hF⟩ := tk_kb hF
          refine va_calli (va_runV (As := [.int x3]) (rest := [.int ((height x3.toNatClampNeg) - (height s0.toNatClampNeg))]) ⟨hx, hb, hml, hown, hts⟩ (mX5_holds (l := l) (D := D) (ar := ar) (ad := ad) (xs := xs) (sz := H.size) (h0 := h0) (r0 := r0) (i0 := (tu (tu (tu i0 11 slid) 12 slidNow) 13 rounds)) (j0 := j0) (r1 := r1) (i1 := i1) (r2 := r2) (i2 := (tu (tu (tu (tu (tu i2 0 columns) 1 rows) 2 best) 3 top) 4 loss)) (wet := wet) (pack := pack) (best := best) (top := top) (loss := loss) (numbers := numbers) (p0 := x3) (hF := hGu12)) (cwV 1 hts (lw_V q1151 q1152 q1153 q99 q1154) rfl rfl rfl (by decide +kernel) ⟨(Nat.le_of_ble_eq_true rfl), (Nat.le_of_ble_eq_true rfl)⟩) ⟨tk_blind, va_recv hK hP (ci := 4) (q0 := 0) rfl rfl, fun U hU hW => ⟨rfl, tk_mk hP hD hS hA hE hR hX [] [0, 4, 2, 3, 5, 7] rfl rfl rfl rfl U hU hW⟩⟩ rfl rfl hl.1 rfl (lv_room (Nat.le_of_ble_eq_true rfl)) dX5_slides_84 ⟨(Nat.le_of_ble_eq_true rfl), (Nat.le_of_ble_eq_true rfl)⟩) hS (fun q _ h => (va_free hD hS hA [] rfl) q h) (va_free hD hS hA [] rfl) (fun zr zu zt H1 zl zht zvm zw zB zz zk zS => ?_)
          obtain ⟨hP, hD⟩ := tk_join hP hD zk [] rfl rfl (va_free hD hS hA [] rfl) (zht ▸ zB.1) zB.2 (Nat.le_of_ble_eq_true rfl)
          have hS := zS
          have zw := Eq.symm zw
          subst zw
          generalize H1 = H at hP hS ⊢
          have hP : va_P D tkCl [(h0, .inr (4, oX5 r0 (tu (tu (tu i0 11 slid) 12 slidNow) 13 rounds) j0)), ((r0 0), .inl (ar 0, 64, .inl height)), ((r0 1), .inl (ar 0, 64, .inl wet)), ((r0 2), .inl (ar 0, 64, .inl pack))] H := hP
          have hD : va_D A [(h0, .inr (4, oX5 r0 (tu (tu (tu i0 11 slid) 12 slidNow) 13 rounds) j0)), ((r0 0), .inl (ar 0, 64, .inl height)), ((r0 1), .inl (ar 0, 64, .inl wet)), ((r0 2), .inl (ar 0, 64, .inl pack))] := hD
          refine lv_icmp_gt (tgt := 93) hx hb dX5_slides_87 (by decide) (fun c13 => ?_) (fun c13 => ?_)
          · have hF := tk_kt hF c13
            refine lv_aload_n hx hb dX5_slides_93 rfl (lv_at hl 1 rfl) ?_
            refine lv_iload_n hx hb dX5_slides_94 rfl (lv_at hl 4 rfl) ?_
            refine lv_iload hx hb dX5_slides_95 (lv_at hl 0 rfl) ?_
            obtain ⟨u14, hGu14, hF⟩ := tk_kb hF
            refine va_callv (va_runV (As := [.int x3, .int s0]) (rest := []) ⟨hx, hb, hml, hown, hts⟩ (mX5_go (l := l) (D := D) (ar := ar) (ad := ad) (xs := xs) (sz := H.size) (h0 := h0) (r0 := r0) (i0 := (tu (tu (tu i0 11 slid) 12 slidNow) 13 rounds)) (j0 := j0) (wet := wet) (height := height) (pack := pack) (p0 := x3) (p1 := s0) (hF := hGu14)) (cwV 2 hts (lw_V q1098 q1100 qs14 q99 q1101) rfl rfl rfl (by decide +kernel) ⟨(Nat.le_of_ble_eq_true rfl), (Nat.le_of_ble_eq_true rfl)⟩) ⟨tk_blind, va_recv hK hP (ci := 4) (q0 := 0) rfl rfl, fun U hU hW => ⟨rfl, tk_mk hP hD hS hA hE hR hX [2, 1, 3] [0] rfl rfl rfl rfl U hU hW⟩⟩ rfl rfl hl.1 rfl (lv_room (Nat.le_of_ble_eq_true rfl)) dX5_slides_97 ⟨(Nat.le_of_ble_eq_true rfl), (Nat.le_of_ble_eq_true rfl)⟩) hS (fun q _ h => (va_free hD hS hA [2, 1, 3] rfl) q h) (va_free hD hS hA [2, 1, 3] rfl) (fun zu zt H1 zl zht zvm zw zB zz zk zS => ?_)
            obtain ⟨hP, hD⟩ := tk_join hP hD zk [2, 1, 3] rfl rfl (va_free hD hS hA [2, 1, 3] rfl) (zht ▸ zB.1) zB.2 (Nat.le_of_ble_eq_true rfl)
            have hS := zS
            generalize H1 = H at hP hS ⊢
            have hP : va_P D tkCl [(h0, .inr (4, oX5 r0 (tu (tu (tu i0 11 slid) 12 slidNow) 13 rounds) j0)), ((r0 0), .inl (ar 0, 64, .inl u14.2.1)), ((r0 1), .inl (ar 0, 64, .inl u14.1)), ((r0 2), .inl (ar 0, 64, .inl u14.2.2))] H := hP
            have hD : va_D A [(h0, .inr (4, oX5 r0 (tu (tu (tu i0 11 slid) 12 slidNow) 13 rounds) j0)), ((r0 0), .inl (ar 0, 64, .inl u14.2.1)), ((r0 1), .inl (ar 0, 64, .inl u14.1)), ((r0 2), .inl (ar 0, 64, .inl u14.2.2))] := hD
            refine lv_aload_n hx hb dX5_slides_100 rfl (lv_at hl 1 rfl) ?_
            refine lv_dup hx hb dX5_slides_101 rfl ?_
            refine va_get (D := D) (ci := 4) (v := .int slidNow) (C := RX5) (T := TX5) (N := 18) hx hb hts in_X5 hown hK hP 0 rfl rfl 12 (by decide) (hts _ q376) (fun _ h9 => h9) rfl dX5_slides_102 ?_
            refine lv_iconst (v := 1) hx hb dX5_slides_105 (by decide) ?_
            refine lv_iadd hx hb dX5_slides_106 ?_
            refine va_put (D := D) (ci := 4) (v := .int (slidNow + 1)) (ty := .int) (C := RX5) (T := TX5) (N := 18) hx hb hts in_X5 tyX5 tyX5_ok nmX5 hown hK hP hD hS 0 rfl rfl 12 (by decide) (hts _ q376) (fun _ h9 => h9) rfl (by decide +kernel) rfl rfl (Nat.le_of_ble_eq_true rfl) dX5_slides_107 (fun H locs hP hD hS => ?_)
            have hP : va_P D tkCl [(h0, .inr (4, oX5 r0 (tu (tu (tu i0 11 slid) 12 (slidNow + 1)) 13 rounds) j0)), ((r0 0), .inl (ar 0, 64, .inl u14.2.1)), ((r0 1), .inl (ar 0, 64, .inl u14.1)), ((r0 2), .inl (ar 0, 64, .inl u14.2.2))] H := hP
            have hD : va_D A [(h0, .inr (4, oX5 r0 (tu (tu (tu i0 11 slid) 12 (slidNow + 1)) 13 rounds) j0)), ((r0 0), .inl (ar 0, 64, .inl u14.2.1)), ((r0 1), .inl (ar 0, 64, .inl u14.1)), ((r0 2), .inl (ar 0, 64, .inl u14.2.2))] := hD
            refine lv_iconst (v := 1) hx hb dX5_slides_110 (by decide) ?_
            refine lv_istore_n (lv' := [(1, .int 1), (4, .int s0), (0, .ref h0), (2, .int x2), (3, .int x3)]) hx hb dX5_slides_111 rfl hl (Nat.le_of_ble_eq_true rfl) rfl (fun ls hl => ?_)
            refine lv_iinc (v := x3 + 1) (lv' := [(3, .int (x3 + 1)), (1, .int 1), (4, .int s0), (0, .ref h0), (2, .int x2)]) hx hb dX5_slides_112 hl (k := 4) rfl (congrArg (fun z => x3 + z) (show Int32.ofInt 1 = 1 by decide)) (Nat.le_of_ble_eq_true rfl) rfl (fun ls hl => ?_)
            refine lv_goto (tgt := 28) hx hb dX5_slides_115 (by decide) ?_
            exact ih28 1 x2 (x3 + 1) slid (slidNow + 1) rounds u14.2.1 u14.1 u14.2.2 _ _ _ hF hP hD hS (lv_sub hl [3, 1, 4, 0] rfl)
          · have hF := tk_kf hF c13
            refine lv_goto (tgt := 112) hx hb dX5_slides_90 (by decide) ?_
            refine lv_iinc (v := x3 + 1) (lv' := [(3, .int (x3 + 1)), (4, .int s0), (0, .ref h0), (1, .int x1), (2, .int x2)]) hx hb dX5_slides_112 hl (k := 4) rfl (congrArg (fun z => x3 + z) (show Int32.ofInt 1 = 1 by decide)) (Nat.le_of_ble_eq_true rfl) rfl (fun ls hl => ?_)
            refine lv_goto (tgt := 28) hx hb dX5_slides_115 (by decide) ?_
            exact ih28 x1 x2 (x3 + 1) slid slidNow rounds height wet pack _ _ _ hF hP hD hS (lv_sub hl [2, 3, 4, 0] rfl)
      · intro x1 x2 s1 s2 slid slidNow rounds height wet pack H locs ls hF hP hD hS hl
        have hF : tk_k (stX5_slides columns rows best top loss stone numbers) n (bX5_slides_4 columns rows best top loss stone numbers x1 x2 s1 s2 slid slidNow rounds height wet pack) = some o := hF
        unfold bX5_slides_4 at hF
        refine lv_iadd hx hb dX5_slides_132 ?_
        refine va_put (D := D) (ci := 4) (v := .int (s1 + s2)) (ty := .int) (C := RX5) (T := TX5) (N := 18) hx hb hts in_X5 tyX5 tyX5_ok nmX5 hown hK hP hD hS 0 rfl rfl 13 (by decide) (hts _ q378) (fun _ h9 => h9) rfl (by decide +kernel) rfl rfl (Nat.le_of_ble_eq_true rfl) dX5_slides_133 (fun H locs hP hD hS => ?_)
        have hP : va_P D tkCl [(h0, .inr (4, oX5 r0 (tu (tu (tu i0 11 slid) 12 slidNow) 13 (s1 + s2)) j0)), ((r0 0), .inl (ar 0, 64, .inl height)), ((r0 1), .inl (ar 0, 64, .inl wet)), ((r0 2), .inl (ar 0, 64, .inl pack))] H := hP
        have hD : va_D A [(h0, .inr (4, oX5 r0 (tu (tu (tu i0 11 slid) 12 slidNow) 13 (s1 + s2)) j0)), ((r0 0), .inl (ar 0, 64, .inl height)), ((r0 1), .inl (ar 0, 64, .inl wet)), ((r0 2), .inl (ar 0, 64, .inl pack))] := hD
        refine lv_iinc (v := x2 + 1) (lv' := [(2, .int (x2 + 1)), (0, .ref h0), (1, .int x1)]) hx hb dX5_slides_136 hl (k := 2) rfl (congrArg (fun z => x2 + z) (show Int32.ofInt 1 = 1 by decide)) (Nat.le_of_ble_eq_true rfl) rfl (fun ls hl => ?_)
        refine lv_goto (tgt := 14) hx hb dX5_slides_139 (by decide) ?_
        exact ih14 x1 (x2 + 1) slid slidNow (s1 + s2) height wet pack _ _ _ hF hP hD hS (lv_sub hl [1, 2, 0] rfl)
      · intro slid slidNow rounds height wet pack H locs ls hF hP hD hS hl
        have hF : tk_k (stX5_slides columns rows best top loss stone numbers) n (bX5_slides_5 columns rows best top loss stone numbers slid slidNow rounds height wet pack) = some o := hF
        unfold bX5_slides_5 at hF
        refine lv_aload_n hx hb dX5_slides_142 rfl (lv_at hl 0 rfl) ?_
        refine lv_dup hx hb dX5_slides_143 rfl ?_
        refine va_get (D := D) (ci := 4) (v := .int slid) (C := RX5) (T := TX5) (N := 18) hx hb hts in_X5 hown hK hP 0 rfl rfl 11 (by decide) (hts _ q374) (fun _ h9 => h9) rfl dX5_slides_144 ?_
        refine lv_aload_n hx hb dX5_slides_147 rfl (lv_at hl 0 rfl) ?_
        refine va_get (D := D) (ci := 4) (v := .int slidNow) (C := RX5) (T := TX5) (N := 18) hx hb hts in_X5 hown hK hP 0 rfl rfl 12 (by decide) (hts _ q376) (fun _ h9 => h9) rfl dX5_slides_148 ?_
        refine lv_iadd hx hb dX5_slides_151 ?_
        refine va_put (D := D) (ci := 4) (v := .int (slid + slidNow)) (ty := .int) (C := RX5) (T := TX5) (N := 18) hx hb hts in_X5 tyX5 tyX5_ok nmX5 hown hK hP hD hS 0 rfl rfl 11 (by decide) (hts _ q374) (fun _ h9 => h9) rfl (by decide +kernel) rfl rfl (Nat.le_of_ble_eq_true rfl) dX5_slides_152 (fun H locs hP hD hS => ?_)
        have hP : va_P D tkCl [(h0, .inr (4, oX5 r0 (tu (tu (tu i0 11 (slid + slidNow)) 12 slidNow) 13 rounds) j0)), ((r0 0), .inl (ar 0, 64, .inl height)), ((r0 1), .inl (ar 0, 64, .inl wet)), ((r0 2), .inl (ar 0, 64, .inl pack))] H := hP
        have hD : va_D A [(h0, .inr (4, oX5 r0 (tu (tu (tu i0 11 (slid + slidNow)) 12 slidNow) 13 rounds) j0)), ((r0 0), .inl (ar 0, 64, .inl height)), ((r0 1), .inl (ar 0, 64, .inl wet)), ((r0 2), .inl (ar 0, 64, .inl pack))] := hD
        have eo := tk_kr hF
        subst eo
        exact W.vret hx hb hr (fun t ht hW => ⟨⟨(), rfl, trivial, tk_pst ht hP hD⟩, hS.F ht⟩) hS.2.2 dX5_slides_155
  obtain ⟨ih14, ih28, ih60, ih132, ih142⟩ := key n0
  clear key
  unfold bX5_slides_0 at hF
  have hF : tk_k (stX5_slides columns rows best top loss stone numbers) n0 _ = some o := hF
  refine lv_aload_n hx hb dX5_slides_0 rfl (lv_at hl 0 rfl) ?_
  refine lv_iconst (v := 0) hx hb dX5_slides_1 (by decide) ?_
  refine va_put (D := D) (ci := 4) (v := .int 0) (ty := .int) (C := RX5) (T := TX5) (N := 18) hx hb hts in_X5 tyX5 tyX5_ok nmX5 hown hK hP hD hS 0 rfl rfl 12 (by decide) (hts _ q376) (fun _ h9 => h9) rfl (by decide +kernel) rfl rfl (Nat.le_of_ble_eq_true rfl) dX5_slides_2 (fun H locs hP hD hS => ?_)
  have hP : va_P D tkCl [(h0, .inr (4, oX5 r0 (tu (tu (tu i0 11 slid) 12 0) 13 rounds) j0)), ((r0 0), .inl (ar 0, 64, .inl height)), ((r0 1), .inl (ar 0, 64, .inl wet)), ((r0 2), .inl (ar 0, 64, .inl pack))] H := hP
  have hD : va_D A [(h0, .inr (4, oX5 r0 (tu (tu (tu i0 11 slid) 12 0) 13 rounds) j0)), ((r0 0), .inl (ar 0, 64, .inl height)), ((r0 1), .inl (ar 0, 64, .inl wet)), ((r0 2), .inl (ar 0, 64, .inl pack))] := hD
  refine lv_aload_n hx hb dX5_slides_5 rfl (lv_at hl 0 rfl) ?_
  refine lv_iconst (v := 0) hx hb dX5_slides_6 (by decide) ?_
  refine va_put (D := D) (ci := 4) (v := .int 0) (ty := .int) (C := RX5) (T := TX5) (N := 18) hx hb hts in_X5 tyX5 tyX5_ok nmX5 hown hK hP hD hS 0 rfl rfl 13 (by decide) (hts _ q378) (fun _ h9 => h9) rfl (by decide +kernel) rfl rfl (Nat.le_of_ble_eq_true rfl) dX5_slides_7 (fun H locs hP hD hS => ?_)
  have hP : va_P D tkCl [(h0, .inr (4, oX5 r0 (tu (tu (tu i0 11 slid) 12 0) 13 0) j0)), ((r0 0), .inl (ar 0, 64, .inl height)), ((r0 1), .inl (ar 0, 64, .inl wet)), ((r0 2), .inl (ar 0, 64, .inl pack))] H := hP
  have hD : va_D A [(h0, .inr (4, oX5 r0 (tu (tu (tu i0 11 slid) 12 0) 13 0) j0)), ((r0 0), .inl (ar 0, 64, .inl height)), ((r0 1), .inl (ar 0, 64, .inl wet)), ((r0 2), .inl (ar 0, 64, .inl pack))] := hD
  refine lv_iconst (v := 1) hx hb dX5_slides_10 (by decide) ?_
  refine lv_istore_n (lv' := [(1, .int 1), (0, .ref h0)]) hx hb dX5_slides_11 rfl hl (Nat.le_of_ble_eq_true rfl) rfl (fun ls hl => ?_)
  refine lv_iconst (v := 0) hx hb dX5_slides_12 (by decide) ?_
  refine lv_istore_n (lv' := [(2, .int 0), (1, .int 1), (0, .ref h0)]) hx hb dX5_slides_13 rfl hl (Nat.le_of_ble_eq_true rfl) rfl (fun ls hl => ?_)
  exact ih14 1 0 slid 0 0 height wet pack _ _ _ hF hP hD hS (lv_sub hl [2, 1, 0] rfl)
set_option maxHeartbeats 4000000 in
theorem mX5_begin (l : Launch) (D : va_G) (ar : Nat → ClassId) (ad : Nat → Nat → Nat) (xs : va_W) (sz : Nat) (h0 : Nat) (r0 : Nat → Nat) (i0 : Nat → Int32) (j0 : Nat → Int64) (r1 : Nat → Nat) (i1 : Nat → Int32) (r2 : Nat → Nat) (i2 : Nat → Int32) (columns rows flags : Int32) (numbers heaps flagCell stones : Nat → Int32) (minute v_lost slid slidNow rounds came plan : Int32) (nextAct done isResting height putUp fell wet pack stone : Nat → Int32) (o : Int32 × Int32 × Int32 × Int32 × Int32 × Int32 × Int32 × (Nat → Int32) × (Nat → Int32) × (Nat → Int32) × (Nat → Int32) × (Nat → Int32) × (Nat → Int32) × (Nat → Int32) × (Nat → Int32) × (Nat → Int32)) (hF : fX5_begin columns rows flags numbers heaps flagCell stones minute v_lost slid slidNow rounds came plan nextAct done isResting height putUp fell wet pack stone = some o) : Met l yX5_begin (ws_ yX5_begin cX5_begin 2 none) ({ frames := 2, cells := 0, slots := 0, locals := 44 }) (va_Pc [.ref h0] (tk_Pre D ar ad [(h0, .inr (4, oX5 r0 (tu (tu (tu (tu (tu (tu (tu i0 9 minute) 10 v_lost) 11 slid) 12 slidNow) 13 rounds) 14 came) 15 plan) j0)), ((r0 3), .inl (ar 0, 4, .inl nextAct)), ((r0 4), .inl (ar 0, 4, .inl done)), ((r0 8), .inl (ar 2, 4, .inl isResting)), ((r0 0), .inl (ar 0, 64, .inl height)), ((r0 5), .inl (ar 0, 3, .inl putUp)), ((r0 6), .inl (ar 0, 3, .inl fell)), ((r0 1), .inl (ar 0, 64, .inl wet)), ((r0 2), .inl (ar 0, 64, .inl pack)), ((r0 7), .inl (ar 2, 64, .inl stone))] [((r0 17), .inr (0, oX0 r1 i1)), ((r1 5), .inr (2, oX2 r2 (tu (tu (tu i2 0 columns) 1 rows) 5 flags))), ((r2 7), .inl (ar 0, 6, .inl numbers)), ((r2 8), .inl (ar 0, 64, .inl heaps)), ((r2 9), .inl (ar 0, 3, .inl flagCell)), ((r2 10), .inl (ar 2, 64, .inl stones))] xs sz)) (va_Qv (fun _ : Unit => True) (fun _ t => tk_Post D (va_A [(h0, .inr (4, oX5 r0 (tu (tu (tu (tu (tu (tu (tu i0 9 minute) 10 v_lost) 11 slid) 12 slidNow) 13 rounds) 14 came) 15 plan) j0)), ((r0 3), .inl (ar 0, 4, .inl nextAct)), ((r0 4), .inl (ar 0, 4, .inl done)), ((r0 8), .inl (ar 2, 4, .inl isResting)), ((r0 0), .inl (ar 0, 64, .inl height)), ((r0 5), .inl (ar 0, 3, .inl putUp)), ((r0 6), .inl (ar 0, 3, .inl fell)), ((r0 1), .inl (ar 0, 64, .inl wet)), ((r0 2), .inl (ar 0, 64, .inl pack)), ((r0 7), .inl (ar 2, 64, .inl stone))] sz) [(h0, .inr (4, oX5 r0 (tu (tu (tu (tu (tu (tu (tu i0 9 o.1) 10 o.2.1) 11 o.2.2.1) 12 o.2.2.2.1) 13 o.2.2.2.2.1) 14 o.2.2.2.2.2.1) 15 o.2.2.2.2.2.2.1) j0)), ((r0 3), .inl (ar 0, 4, .inl o.2.2.2.2.2.2.2.1)), ((r0 4), .inl (ar 0, 4, .inl o.2.2.2.2.2.2.2.2.1)), ((r0 8), .inl (ar 2, 4, .inl o.2.2.2.2.2.2.2.2.2.1)), ((r0 0), .inl (ar 0, 64, .inl o.2.2.2.2.2.2.2.2.2.2.1)), ((r0 5), .inl (ar 0, 3, .inl o.2.2.2.2.2.2.2.2.2.2.2.1)), ((r0 6), .inl (ar 0, 3, .inl o.2.2.2.2.2.2.2.2.2.2.2.2.1)), ((r0 1), .inl (ar 0, 64, .inl o.2.2.2.2.2.2.2.2.2.2.2.2.2.1)), ((r0 2), .inl (ar 0, 64, .inl o.2.2.2.2.2.2.2.2.2.2.2.2.2.2.1)), ((r0 7), .inl (ar 2, 64, .inl o.2.2.2.2.2.2.2.2.2.2.2.2.2.2.2))] t) (va_A [(h0, .inr (4, oX5 r0 (tu (tu (tu (tu (tu (tu (tu i0 9 minute) 10 v_lost) 11 slid) 12 slidNow) 13 rounds) 14 came) 15 plan) j0)), ((r0 3), .inl (ar 0, 4, .inl nextAct)), ((r0 4), .inl (ar 0, 4, .inl done)), ((r0 8), .inl (ar 2, 4, .inl isResting)), ((r0 0), .inl (ar 0, 64, .inl height)), ((r0 5), .inl (ar 0, 3, .inl putUp)), ((r0 6), .inl (ar 0, 3, .inl fell)), ((r0 1), .inl (ar 0, 64, .inl wet)), ((r0 2), .inl (ar 0, 64, .inl pack)), ((r0 7), .inl (ar 2, 64, .inl stone))] sz)) 0 0 (va_A [(h0, .inr (4, oX5 r0 (tu (tu (tu (tu (tu (tu (tu i0 9 minute) 10 v_lost) 11 slid) 12 slidNow) 13 rounds) 14 came) 15 plan) j0)), ((r0 3), .inl (ar 0, 4, .inl nextAct)), ((r0 4), .inl (ar 0, 4, .inl done)), ((r0 8), .inl (ar 2, 4, .inl isResting)), ((r0 0), .inl (ar 0, 64, .inl height)), ((r0 5), .inl (ar 0, 3, .inl putUp)), ((r0 6), .inl (ar 0, 3, .inl fell)), ((r0 1), .inl (ar 0, 64, .inl wet)), ((r0 2), .inl (ar 0, 64, .inl pack)), ((r0 7), .inl (ar 2, 64, .inl stone))] sz) := by
  refine Met.ofW (cc := cX5_begin) (maxL := 2) (ret := none) (by decide) rfl ?_
  intro p e s m args below meth c s₁ B hml hv
  obtain ⟨rfl, hsz, hP, hD0, hR, hX, hE⟩ := hv
  have hx := B.exec
  have hb := B.bytes
  have hr := B.returns
  have hts := atoms_spec (ws := (ws_ yX5_begin cX5_begin 2 none)) B.pre
  have hts : ∀ w ∈ lw_all, w.before _ s = true := fun w h => hts w (List.mem_cons_of_mem _ h)
  have hown : s.vm.findClass RX5 = some m.cls := findClass_of_methodNamed B.named
  have hlocks := B.notSynchronized
  subst hsz
  have hD := hD0.self (sz := s.heap.size)
  generalize hAe : va_A [(h0, .inr (4, oX5 r0 (tu (tu (tu (tu (tu (tu (tu i0 9 minute) 10 v_lost) 11 slid) 12 slidNow) 13 rounds) 14 came) 15 plan) j0)), ((r0 3), .inl (ar 0, 4, .inl nextAct)), ((r0 4), .inl (ar 0, 4, .inl done)), ((r0 8), .inl (ar 2, 4, .inl isResting)), ((r0 0), .inl (ar 0, 64, .inl height)), ((r0 5), .inl (ar 0, 3, .inl putUp)), ((r0 6), .inl (ar 0, 3, .inl fell)), ((r0 1), .inl (ar 0, 64, .inl wet)), ((r0 2), .inl (ar 0, 64, .inl pack)), ((r0 7), .inl (ar 2, 64, .inl stone))] s.heap.size = A at hD hR hX hE ⊢
  have hA : ∀ q : Nat, s.heap.size ≤ q → A q := fun q h => by rw [← hAe]; exact Or.inr h
  have hS : va_S A s.heap s.heap [] := va_S.rf
  have hK := hE.1
  have hl := lv_entry ([.ref h0]) (n := 2) (Nat.le_of_ble_eq_true rfl)
  rw [lg_entry_eq]
  generalize (lg_sl ([.ref h0]) ++ List.replicate (2 - (lg_sl ([.ref h0])).length) Slot.unset).toArray = ls at hl ⊢
  have hl : lv_has ls 2 [(0, .ref h0)] := hl
  have hP : va_P D tkCl [(h0, .inr (4, oX5 r0 (tu (tu (tu (tu (tu (tu (tu i0 9 minute) 10 v_lost) 11 slid) 12 slidNow) 13 rounds) 14 came) 15 plan) j0)), ((r0 3), .inl (ar 0, 4, .inl nextAct)), ((r0 4), .inl (ar 0, 4, .inl done)), ((r0 8), .inl (ar 2, 4, .inl isResting)), ((r0 0), .inl (ar 0, 64, .inl height)), ((r0 5), .inl (ar 0, 3, .inl putUp)), ((r0 6), .inl (ar 0, 3, .inl fell)), ((r0 1), .inl (ar 0, 64, .inl wet)), ((r0 2), .inl (ar 0, 64, .inl pack)), ((r0 7), .inl (ar 2, 64, .inl stone))] s.heap := hP
  obtain ⟨n0, hF⟩ : ∃ n, tk_k (stX5_begin columns rows flags numbers heaps flagCell stones) n (bX5_begin_0 columns rows flags numbers heaps flagCell stones minute v_lost slid slidNow rounds came plan nextAct done isResting height putUp fell wet pack stone) = some o := tk_fin_it hF
  have key : ∀ n : Nat, (∀ (x1 minute v_lost slid slidNow rounds came plan : Int32) (nextAct done isResting height putUp fell wet pack stone : Nat → Int32) (H : Heap) (locs : List Loc) (ls : Array Slot), tk_it (stX5_begin columns rows flags numbers heaps flagCell stones) n (1, (x1, 0, 0, minute, v_lost, slid, slidNow, rounds, came, plan, nextAct, done, isResting, height, putUp, fell, wet, pack, stone)) = some o → va_P D tkCl [(h0, .inr (4, oX5 r0 (tu (tu (tu (tu (tu (tu (tu i0 9 minute) 10 v_lost) 11 slid) 12 slidNow) 13 rounds) 14 came) 15 plan) j0)), ((r0 3), .inl (ar 0, 4, .inl nextAct)), ((r0 4), .inl (ar 0, 4, .inl done)), ((r0 8), .inl (ar 2, 4, .inl isResting)), ((r0 0), .inl (ar 0, 64, .inl height)), ((r0 5), .inl (ar 0, 3, .inl putUp)), ((r0 6), .inl (ar 0, 3, .inl fell)), ((r0 1), .inl (ar 0, 64, .inl wet)), ((r0 2), .inl (ar 0, 64, .inl pack)), ((r0 7), .inl (ar 2, 64, .inl stone))] H → va_D A [(h0, .inr (4, oX5 r0 (tu (tu (tu (tu (tu (tu (tu i0 9 minute) 10 v_lost) 11 slid) 12 slidNow) 13 rounds) 14 came) 15 plan) j0)), ((r0 3), .inl (ar 0, 4, .inl nextAct)), ((r0 4), .inl (ar 0, 4, .inl done)), ((r0 8), .inl (ar 2, 4, .inl isResting)), ((r0 0), .inl (ar 0, 64, .inl height)), ((r0 5), .inl (ar 0, 3, .inl putUp)), ((r0 6), .inl (ar 0, 3, .inl fell)), ((r0 1), .inl (ar 0, 64, .inl wet)), ((r0 2), .inl (ar 0, 64, .inl pack)), ((r0 7), .inl (ar 2, 64, .inl stone))] → va_S A s.heap H locs → lv_has ls 2 [(0, .ref h0), (1, .int x1)] → W p l e (headSpec (ws_ yX5_begin cX5_begin 2 none) ({ frames := 2, cells := 0, slots := 0, locals := 44 })).room s m ([.ref h0] : List Value).toArray below meth c H locs 0 0 (MQ below (va_Qv (fun _ : Unit => True) (fun _ t => tk_Post D A [(h0, .inr (4, oX5 r0 (tu (tu (tu (tu (tu (tu (tu i0 9 o.1) 10 o.2.1) 11 o.2.2.1) 12 o.2.2.2.1) 13 o.2.2.2.2.1) 14 o.2.2.2.2.2.1) 15 o.2.2.2.2.2.2.1) j0)), ((r0 3), .inl (ar 0, 4, .inl o.2.2.2.2.2.2.2.1)), ((r0 4), .inl (ar 0, 4, .inl o.2.2.2.2.2.2.2.2.1)), ((r0 8), .inl (ar 2, 4, .inl o.2.2.2.2.2.2.2.2.2.1)), ((r0 0), .inl (ar 0, 64, .inl o.2.2.2.2.2.2.2.2.2.2.1)), ((r0 5), .inl (ar 0, 3, .inl o.2.2.2.2.2.2.2.2.2.2.2.1)), ((r0 6), .inl (ar 0, 3, .inl o.2.2.2.2.2.2.2.2.2.2.2.2.1)), ((r0 1), .inl (ar 0, 64, .inl o.2.2.2.2.2.2.2.2.2.2.2.2.2.1)), ((r0 2), .inl (ar 0, 64, .inl o.2.2.2.2.2.2.2.2.2.2.2.2.2.2.1)), ((r0 7), .inl (ar 2, 64, .inl o.2.2.2.2.2.2.2.2.2.2.2.2.2.2.2))] t) A) ([.ref h0] : List Value).toArray s 0 0 A) (F0 m 2 ls [])) ∧ (∀ (x1 s1 s2 minute v_lost slid slidNow rounds came plan : Int32) (nextAct done isResting height putUp fell wet pack stone : Nat → Int32) (H : Heap) (locs : List Loc) (ls : Array Slot), tk_it (stX5_begin columns rows flags numbers heaps flagCell stones) n (2, (x1, s1, s2, minute, v_lost, slid, slidNow, rounds, came, plan, nextAct, done, isResting, height, putUp, fell, wet, pack, stone)) = some o → va_P D tkCl [(h0, .inr (4, oX5 r0 (tu (tu (tu (tu (tu (tu (tu i0 9 minute) 10 v_lost) 11 slid) 12 slidNow) 13 rounds) 14 came) 15 plan) j0)), ((r0 3), .inl (ar 0, 4, .inl nextAct)), ((r0 4), .inl (ar 0, 4, .inl done)), ((r0 8), .inl (ar 2, 4, .inl isResting)), ((r0 0), .inl (ar 0, 64, .inl height)), ((r0 5), .inl (ar 0, 3, .inl putUp)), ((r0 6), .inl (ar 0, 3, .inl fell)), ((r0 1), .inl (ar 0, 64, .inl wet)), ((r0 2), .inl (ar 0, 64, .inl pack)), ((r0 7), .inl (ar 2, 64, .inl stone))] H → va_D A [(h0, .inr (4, oX5 r0 (tu (tu (tu (tu (tu (tu (tu i0 9 minute) 10 v_lost) 11 slid) 12 slidNow) 13 rounds) 14 came) 15 plan) j0)), ((r0 3), .inl (ar 0, 4, .inl nextAct)), ((r0 4), .inl (ar 0, 4, .inl done)), ((r0 8), .inl (ar 2, 4, .inl isResting)), ((r0 0), .inl (ar 0, 64, .inl height)), ((r0 5), .inl (ar 0, 3, .inl putUp)), ((r0 6), .inl (ar 0, 3, .inl fell)), ((r0 1), .inl (ar 0, 64, .inl wet)), ((r0 2), .inl (ar 0, 64, .inl pack)), ((r0 7), .inl (ar 2, 64, .inl stone))] → va_S A s.heap H locs → lv_has ls 2 [(0, .ref h0), (1, .int x1)] → W p l e (headSpec (ws_ yX5_begin cX5_begin 2 none) ({ frames := 2, cells := 0, slots := 0, locals := 44 })).room s m ([.ref h0] : List Value).toArray below meth c H locs 0 0 (MQ below (va_Qv (fun _ : Unit => True) (fun _ t => tk_Post D A [(h0, .inr (4, oX5 r0 (tu (tu (tu (tu (tu (tu (tu i0 9 o.1) 10 o.2.1) 11 o.2.2.1) 12 o.2.2.2.1) 13 o.2.2.2.2.1) 14 o.2.2.2.2.2.1) 15 o.2.2.2.2.2.2.1) j0)), ((r0 3), .inl (ar 0, 4, .inl o.2.2.2.2.2.2.2.1)), ((r0 4), .inl (ar 0, 4, .inl o.2.2.2.2.2.2.2.2.1)), ((r0 8), .inl (ar 2, 4, .inl o.2.2.2.2.2.2.2.2.2.1)), ((r0 0), .inl (ar 0, 64, .inl o.2.2.2.2.2.2.2.2.2.2.1)), ((r0 5), .inl (ar 0, 3, .inl o.2.2.2.2.2.2.2.2.2.2.2.1)), ((r0 6), .inl (ar 0, 3, .inl o.2.2.2.2.2.2.2.2.2.2.2.2.1)), ((r0 1), .inl (ar 0, 64, .inl o.2.2.2.2.2.2.2.2.2.2.2.2.2.1)), ((r0 2), .inl (ar 0, 64, .inl o.2.2.2.2.2.2.2.2.2.2.2.2.2.2.1)), ((r0 7), .inl (ar 2, 64, .inl o.2.2.2.2.2.2.2.2.2.2.2.2.2.2.2))] t) A) ([.ref h0] : List Value).toArray s 0 0 A) (F0 m 57 ls [.int s2, .int s1, .ref (r0 0)])) ∧ (∀ (x1 minute v_lost slid slidNow rounds came plan : Int32) (nextAct done isResting height putUp fell wet pack stone : Nat → Int32) (H : Heap) (locs : List Loc) (ls : Array Slot), tk_it (stX5_begin columns rows flags numbers heaps flagCell stones) n (3, (x1, 0, 0, minute, v_lost, slid, slidNow, rounds, came, plan, nextAct, done, isResting, height, putUp, fell, wet, pack, stone)) = some o → va_P D tkCl [(h0, .inr (4, oX5 r0 (tu (tu (tu (tu (tu (tu (tu i0 9 minute) 10 v_lost) 11 slid) 12 slidNow) 13 rounds) 14 came) 15 plan) j0)), ((r0 3), .inl (ar 0, 4, .inl nextAct)), ((r0 4), .inl (ar 0, 4, .inl done)), ((r0 8), .inl (ar 2, 4, .inl isResting)), ((r0 0), .inl (ar 0, 64, .inl height)), ((r0 5), .inl (ar 0, 3, .inl putUp)), ((r0 6), .inl (ar 0, 3, .inl fell)), ((r0 1), .inl (ar 0, 64, .inl wet)), ((r0 2), .inl (ar 0, 64, .inl pack)), ((r0 7), .inl (ar 2, 64, .inl stone))] H → va_D A [(h0, .inr (4, oX5 r0 (tu (tu (tu (tu (tu (tu (tu i0 9 minute) 10 v_lost) 11 slid) 12 slidNow) 13 rounds) 14 came) 15 plan) j0)), ((r0 3), .inl (ar 0, 4, .inl nextAct)), ((r0 4), .inl (ar 0, 4, .inl done)), ((r0 8), .inl (ar 2, 4, .inl isResting)), ((r0 0), .inl (ar 0, 64, .inl height)), ((r0 5), .inl (ar 0, 3, .inl putUp)), ((r0 6), .inl (ar 0, 3, .inl fell)), ((r0 1), .inl (ar 0, 64, .inl wet)), ((r0 2), .inl (ar 0, 64, .inl pack)), ((r0 7), .inl (ar 2, 64, .inl stone))] → va_S A s.heap H locs → lv_has ls 2 [(0, .ref h0), (1, .int x1)] → W p l e (headSpec (ws_ yX5_begin cX5_begin 2 none) ({ frames := 2, cells := 0, slots := 0, locals := 44 })).room s m ([.ref h0] : List Value).toArray below meth c H locs 0 0 (MQ below (va_Qv (fun _ : Unit => True) (fun _ t => tk_Post D A [(h0, .inr (4, oX5 r0 (tu (tu (tu (tu (tu (tu (tu i0 9 o.1) 10 o.2.1) 11 o.2.2.1) 12 o.2.2.2.1) 13 o.2.2.2.2.1) 14 o.2.2.2.2.2.1) 15 o.2.2.2.2.2.2.1) j0)), ((r0 3), .inl (ar 0, 4, .inl o.2.2.2.2.2.2.2.1)), ((r0 4), .inl (ar 0, 4, .inl o.2.2.2.2.2.2.2.2.1)), ((r0 8), .inl (ar 2, 4, .inl o.2.2.2.2.2.2.2.2.2.1)), ((r0 0), .inl (ar 0, 64, .inl o.2.2.2.2.2.2.2.2.2.2.1)), ((r0 5), .inl (ar 0, 3, .inl o.2.2.2.2.2.2.2.2.2.2.2.1)), ((r0 6), .inl (ar 0, 3, .inl o.2.2.2.2.2.2.2.2.2.2.2.2.1)), ((r0 1), .inl (ar 0, 64, .inl o.2.2.2.2.2.2.2.2.2.2.2.2.2.1)), ((r0 2), .inl (ar 0, 64, .inl o.2.2.2.2.2.2.2.2.2.2.2.2.2.2.1)), ((r0 7), .inl (ar 2, 64, .inl o.2.2.2.2.2.2.2.2.2.2.2.2.2.2.2))] t) A) ([.ref h0] : List Value).toArray s 0 0 A) (F0 m 110 ls [])) := by
    intro n
    induction n with
    | zero => exact ⟨fun x1 minute v_lost slid slidNow rounds came plan nextAct done isResting height putUp fell wet pack stone H locs ls hF => (by cases hF), fun x1 s1 s2 minute v_lost slid slidNow rounds came plan nextAct done isResting height putUp fell wet pack stone H locs ls hF => (by cases hF), fun x1 minute v_lost slid slidNow rounds came plan nextAct done isResting height putUp fell wet pack stone H locs ls hF => (by cases hF)⟩
    | succ n ih =>
      obtain ⟨ih2, ih57, ih110⟩ := ih
      refine ⟨?_, ?_, ?_⟩
      · intro x1 minute v_lost slid slidNow rounds came plan nextAct done isResting height putUp fell wet pack stone H locs ls hF hP hD hS hl
        have hF : tk_k (stX5_begin columns rows flags numbers heaps flagCell stones) n (bX5_begin_1 columns rows flags numbers heaps flagCell stones x1 minute v_lost slid slidNow rounds came plan nextAct done isResting height putUp fell wet pack stone) = some o := hF
        unfold bX5_begin_1 at hF
        refine lv_iload_n hx hb dX5_begin_2 rfl (lv_at hl 1 rfl) ?_
        refine lv_bipush (v := 64) hx hb dX5_begin_3 (by decide) ?_
        refine lv_icmp_ge (tgt := 108) hx hb dX5_begin_5 (by decide) (fun c1 => ?_) (fun c1 => ?_)
        · have hF := tk_kt hF c1
          refine lv_iconst (v := 0) hx hb dX5_begin_108 (by decide) ?_
          refine lv_istore_n (lv' := [(1, .int 0), (0, .ref h0)]) hx hb dX5_begin_109 rfl hl (Nat.le_of_ble_eq_true rfl) rfl (fun ls hl => ?_)
          exact ih110 0 minute v_lost slid slidNow rounds came plan nextAct done isResting height putUp fell wet pack stone _ _ _ hF hP hD hS (lv_sub hl [1, 0] rfl)
        · have hF := tk_kf hF c1
          refine lv_aload_n hx hb dX5_begin_8 rfl (lv_at hl 0 rfl) ?_
          refine va_get (D := D) (ci := 4) (v := .ref (r0 0)) (C := RX5) (T := TX5) (N := 18) hx hb hts in_X5 hown hK hP 0 rfl rfl 0 (by decide) (hts _ q355) (fun _ h9 => h9) rfl dX5_begin_9 ?_
          refine lv_iload_n hx hb dX5_begin_12 rfl (lv_at hl 1 rfl) ?_
          refine lv_iload_n hx hb dX5_begin_13 rfl (lv_at hl 1 rfl) ?_
          refine lv_aload_n hx hb dX5_begin_14 rfl (lv_at hl 0 rfl) ?_
          refine va_get (D := D) (ci := 4) (v := .ref (r0 17)) (C := RX5) (T := TX5) (N := 18) hx hb hts in_X5 hown hK hP 0 rfl rfl 17 (by decide) (hts _ q386) (fun _ h9 => h9) rfl dX5_begin_15 ?_
          refine va_getN (D := D) (ci := 0) (v := .ref (r1 5)) (C := RX0) (T := TX0) (N := 25) hx hb hts in_X0 hown hK (hR.at hS) 0 rfl rfl 5 (by decide) (hE.2.1.use q456 rfl rfl) (fun _ h9 => h9) rfl dX5_begin_18 ?_
          obtain ⟨u2, hGu2, hF⟩ := tk_kb hF
          refine va_calli (va_runV (As := []) (rest := [.int x1, .int x1, .ref (r0 0)]) ⟨hx, hb, hml, hown, hts⟩ (mX2_cells (l := l) (D := D) (ar := ar) (ad := ad) (xs := xs) (sz := H.size) (h0 := (r1 5)) (r0 := r2) (i0 := (tu (tu (tu i2 0 columns) 1 rows) 5 flags)) (columns := columns) (rows := rows) (hF := hGu2)) (cwV 0 hts (lw_V q429 q430 q431 q92 q432) rfl rfl rfl (by decide +kernel) ⟨(Nat.le_of_ble_eq_true rfl), (Nat.le_of_ble_eq_true rfl)⟩) ⟨tk_blind, va_recv hK (hR.at hS) (ci := 2) (q0 := 1) rfl rfl, fun U hU hW => ⟨rfl, tk_mk hP hD hS hA hE hR hX [] [11] rfl rfl rfl rfl U hU hW⟩⟩ rfl rfl hl.1 rfl (lv_room (Nat.le_of_ble_eq_true rfl)) dX5_begin_21 ⟨(Nat.le_of_ble_eq_true rfl), (Nat.le_of_ble_eq_true rfl)⟩) hS (fun q _ h => (va_free hD hS hA [] rfl) q h) (va_free hD hS hA [] rfl) (fun zr zu zt H1 zl zht zvm zw zB zz zk zS => ?_)
          obtain ⟨hP, hD⟩ := tk_join hP hD zk [] rfl rfl (va_free hD hS hA [] rfl) (zht ▸ zB.1) zB.2 (Nat.le_of_ble_eq_true rfl)
          have hS := zS
          have zw := Eq.symm zw
          subst zw
          generalize H1 = H at hP hS ⊢
          have hP : va_P D tkCl [(h0, .inr (4, oX5 r0 (tu (tu (tu (tu (tu (tu (tu i0 9 minute) 10 v_lost) 11 slid) 12 slidNow) 13 rounds) 14 came) 15 plan) j0)), ((r0 3), .inl (ar 0, 4, .inl nextAct)), ((r0 4), .inl (ar 0, 4, .inl done)), ((r0 8), .inl (ar 2, 4, .inl isResting)), ((r0 0), .inl (ar 0, 64, .inl height)), ((r0 5), .inl (ar 0, 3, .inl putUp)), ((r0 6), .inl (ar 0, 3, .inl fell)), ((r0 1), .inl (ar 0, 64, .inl wet)), ((r0 2), .inl (ar 0, 64, .inl pack)), ((r0 7), .inl (ar 2, 64, .inl stone))] H := hP
          have hD : va_D A [(h0, .inr (4, oX5 r0 (tu (tu (tu (tu (tu (tu (tu i0 9 minute) 10 v_lost) 11 slid) 12 slidNow) 13 rounds) 14 came) 15 plan) j0)), ((r0 3), .inl (ar 0, 4, .inl nextAct)), ((r0 4), .inl (ar 0, 4, .inl done)), ((r0 8), .inl (ar 2, 4, .inl isResting)), ((r0 0), .inl (ar 0, 64, .inl height)), ((r0 5), .inl (ar 0, 3, .inl putUp)), ((r0 6), .inl (ar 0, 3, .inl fell)), ((r0 1), .inl (ar 0, 64, .inl wet)), ((r0 2), .inl (ar 0, 64, .inl pack)), ((r0 7), .inl (ar 2, 64, .inl stone))] := hD
          refine lv_icmp_ge (tgt := 56) hx hb dX5_begin_24 (by decide) (fun c3 => ?_) (fun c3 => ?_)
          · have hF := tk_kt hF c3
            refine lv_iconst (v := 0) hx hb dX5_begin_56 (by decide) ?_
            exact ih57 x1 x1 0 minute v_lost slid slidNow rounds came plan nextAct done isResting height putUp fell wet pack stone _ _ _ hF hP hD hS (lv_sub hl [0, 1] rfl)
          · have hF := tk_kf hF c3
            refine lv_aload_n hx hb dX5_begin_27 rfl (lv_at hl 0 rfl) ?_
            refine va_get (D := D) (ci := 4) (v := .ref (r0 17)) (C := RX5) (T := TX5) (N := 18) hx hb hts in_X5 hown hK hP 0 rfl rfl 17 (by decide) (hts _ q386) (fun _ h9 => h9) rfl dX5_begin_28 ?_
            refine va_getN (D := D) (ci := 0) (v := .ref (r1 5)) (C := RX0) (T := TX0) (N := 25) hx hb hts in_X0 hown hK (hR.at hS) 0 rfl rfl 5 (by decide) (hE.2.1.use q456 rfl rfl) (fun _ h9 => h9) rfl dX5_begin_31 ?_
            refine va_gets (n := "SAND") hx hb (hE.z 0 (by decide)) hS hown (hts _ q433) (fun _ h9 => h9) dX5_begin_34 ?_
            obtain ⟨u4, hGu4, hF⟩ := tk_kb hF
            refine va_calli (va_runV (As := [.ref (ad 2 0)]) (rest := [.int x1, .ref (r0 0)]) ⟨hx, hb, hml, hown, hts⟩ (mX2_of (l := l) (D := D) (ar := ar) (ad := ad) (xs := xs) (sz := H.size) (h0 := (r1 5)) (r0 := r2) (i0 := (tu (tu (tu i2 0 columns) 1 rows) 5 flags)) (numbers := numbers) (p0 := 0) (hk_p0 := by decide) (hF := hGu4)) (cwV 1 hts (lw_V q434 q435 q436 q92 q437) rfl rfl rfl (by decide +kernel) ⟨(Nat.le_of_ble_eq_true rfl), (Nat.le_of_ble_eq_true rfl)⟩) ⟨tk_blind, va_recv hK (hR.at hS) (ci := 2) (q0 := 1) rfl rfl, fun U hU hW => ⟨rfl, tk_mk hP hD hS hA hE hR hX [] [11, 12] rfl rfl rfl rfl U hU hW⟩⟩ rfl rfl hl.1 rfl (lv_room (Nat.le_of_ble_eq_true rfl)) dX5_begin_37 ⟨(Nat.le_of_ble_eq_true rfl), (Nat.le_of_ble_eq_true rfl)⟩) hS (fun q _ h => (va_free hD hS hA [] rfl) q h) (va_free hD hS hA [] rfl) (fun zr zu zt H1 zl zht zvm zw zB zz zk zS => ?_)
            obtain ⟨hP, hD⟩ := tk_join hP hD zk [] rfl rfl (va_free hD hS hA [] rfl) (zht ▸ zB.1) zB.2 (Nat.le_of_ble_eq_true rfl)
            have hS := zS
            have zw := Eq.symm zw
            subst zw
            generalize H1 = H at hP hS ⊢
            have hP : va_P D tkCl [(h0, .inr (4, oX5 r0 (tu (tu (tu (tu (tu (tu (tu i0 9 minute) 10 v_lost) 11 slid) 12 slidNow) 13 rounds) 14 came) 15 plan) j0)), ((r0 3), .inl (ar 0, 4, .inl nextAct)), ((r0 4), .inl (ar 0, 4, .inl done)), ((r0 8), .inl (ar 2, 4, .inl isResting)), ((r0 0), .inl (ar 0, 64, .inl height)), ((r0 5), .inl (ar 0, 3, .inl putUp)), ((r0 6), .inl (ar 0, 3, .inl fell)), ((r0 1), .inl (ar 0, 64, .inl wet)), ((r0 2), .inl (ar 0, 64, .inl pack)), ((r0 7), .inl (ar 2, 64, .inl stone))] H := hP
            have hD : va_D A [(h0, .inr (4, oX5 r0 (tu (tu (tu (tu (tu (tu (tu i0 9 minute) 10 v_lost) 11 slid) 12 slidNow) 13 rounds) 14 came) 15 plan) j0)), ((r0 3), .inl (ar 0, 4, .inl nextAct)), ((r0 4), .inl (ar 0, 4, .inl done)), ((r0 8), .inl (ar 2, 4, .inl isResting)), ((r0 0), .inl (ar 0, 64, .inl height)), ((r0 5), .inl (ar 0, 3, .inl putUp)), ((r0 6), .inl (ar 0, 3, .inl fell)), ((r0 1), .inl (ar 0, 64, .inl wet)), ((r0 2), .inl (ar 0, 64, .inl pack)), ((r0 7), .inl (ar 2, 64, .inl stone))] := hD
            refine lv_aload_n hx hb dX5_begin_40 rfl (lv_at hl 0 rfl) ?_
            refine va_get (D := D) (ci := 4) (v := .ref (r0 17)) (C := RX5) (T := TX5) (N := 18) hx hb hts in_X5 hown hK hP 0 rfl rfl 17 (by decide) (hts _ q386) (fun _ h9 => h9) rfl dX5_begin_41 ?_
            refine va_getN (D := D) (ci := 0) (v := .ref (r1 5)) (C := RX0) (T := TX0) (N := 25) hx hb hts in_X0 hown hK (hR.at hS) 0 rfl rfl 5 (by decide) (hE.2.1.use q456 rfl rfl) (fun _ h9 => h9) rfl dX5_begin_44 ?_
            refine va_getN (D := D) (ci := 2) (v := .ref (r2 8)) (C := RX2) (T := TX2) (N := 11) hx hb hts in_X2 hown hK (hR.at hS) 1 rfl rfl 8 (by decide) (hE.2.1.use q245 rfl rfl) (fun _ h9 => h9) rfl dX5_begin_47 ?_
            refine lv_iload_n hx hb dX5_begin_50 rfl (lv_at hl 1 rfl) ?_
            obtain ⟨gd5, hF⟩ := tk_kg hF
            refine va_iald hx hb hK (hR.at hS) 3 0 rfl rfl gd5 dX5_begin_51 ?_
            refine lv_iadd hx hb dX5_begin_52 ?_
            refine lv_goto (tgt := 57) hx hb dX5_begin_53 (by decide) ?_
            exact ih57 x1 x1 (u4 + (heaps x1.toNatClampNeg)) minute v_lost slid slidNow rounds came plan nextAct done isResting height putUp fell wet pack stone _ _ _ hF hP hD hS (lv_sub hl [0, 1] rfl)
      · intro x1 s1 s2 minute v_lost slid slidNow rounds came plan nextAct done isResting height putUp fell wet pack stone H locs ls hF hP hD hS hl
        have hF : tk_k (stX5_begin columns rows flags numbers heaps flagCell stones) n (bX5_begin_2 columns rows flags numbers heaps flagCell stones x1 s1 s2 minute v_lost slid slidNow rounds came plan nextAct done isResting height putUp fell wet pack stone) = some o := hF
        unfold bX5_begin_2 at hF
        obtain ⟨gd6, hF⟩ := tk_kg hF
        refine va_iast hx hb hK hP hD hS 4 0 rfl rfl gd6 dX5_begin_57 (fun H locs hP hD hS => ?_)
        have hP : va_P D tkCl [(h0, .inr (4, oX5 r0 (tu (tu (tu (tu (tu (tu (tu i0 9 minute) 10 v_lost) 11 slid) 12 slidNow) 13 rounds) 14 came) 15 plan) j0)), ((r0 3), .inl (ar 0, 4, .inl nextAct)), ((r0 4), .inl (ar 0, 4, .inl done)), ((r0 8), .inl (ar 2, 4, .inl isResting)), ((r0 0), .inl (ar 0, 64, .inl (upd height s1.toNatClampNeg s2))), ((r0 5), .inl (ar 0, 3, .inl putUp)), ((r0 6), .inl (ar 0, 3, .inl fell)), ((r0 1), .inl (ar 0, 64, .inl wet)), ((r0 2), .inl (ar 0, 64, .inl pack)), ((r0 7), .inl (ar 2, 64, .inl stone))] H := hP
        have hD : va_D A [(h0, .inr (4, oX5 r0 (tu (tu (tu (tu (tu (tu (tu i0 9 minute) 10 v_lost) 11 slid) 12 slidNow) 13 rounds) 14 came) 15 plan) j0)), ((r0 3), .inl (ar 0, 4, .inl nextAct)), ((r0 4), .inl (ar 0, 4, .inl done)), ((r0 8), .inl (ar 2, 4, .inl isResting)), ((r0 0), .inl (ar 0, 64, .inl (upd height s1.toNatClampNeg s2))), ((r0 5), .inl (ar 0, 3, .inl putUp)), ((r0 6), .inl (ar 0, 3, .inl fell)), ((r0 1), .inl (ar 0, 64, .inl wet)), ((r0 2), .inl (ar 0, 64, .inl pack)), ((r0 7), .inl (ar 2, 64, .inl stone))] := hD
        refine lv_aload_n hx hb dX5_begin_58 rfl (lv_at hl 0 rfl) ?_
        refine va_get (D := D) (ci := 4) (v := .ref (r0 1)) (C := RX5) (T := TX5) (N := 18) hx hb hts in_X5 hown hK hP 0 rfl rfl 1 (by decide) (hts _ q357) (fun _ h9 => h9) rfl dX5_begin_59 ?_
        refine lv_iload_n hx hb dX5_begin_62 rfl (lv_at hl 1 rfl) ?_
        refine lv_aload_n hx hb dX5_begin_63 rfl (lv_at hl 0 rfl) ?_
        refine va_get (D := D) (ci := 4) (v := .ref (r0 17)) (C := RX5) (T := TX5) (N := 18) hx hb hts in_X5 hown hK hP 0 rfl rfl 17 (by decide) (hts _ q386) (fun _ h9 => h9) rfl dX5_begin_64 ?_
        refine va_getN (D := D) (ci := 0) (v := .ref (r1 5)) (C := RX0) (T := TX0) (N := 25) hx hb hts in_X0 hown hK (hR.at hS) 0 rfl rfl 5 (by decide) (hE.2.1.use q456 rfl rfl) (fun _ h9 => h9) rfl dX5_begin_67 ?_
        refine va_gets (n := "DAMP") hx hb (hE.z 3 (by decide)) hS hown (hts _ q438) (fun _ h9 => h9) dX5_begin_70 ?_
        obtain ⟨u7, hGu7, hF⟩ := tk_kb hF
        refine va_calli (va_runV (As := [.ref (ad 2 3)]) (rest := [.int x1, .ref (r0 1)]) ⟨hx, hb, hml, hown, hts⟩ (mX2_of (l := l) (D := D) (ar := ar) (ad := ad) (xs := xs) (sz := H.size) (h0 := (r1 5)) (r0 := r2) (i0 := (tu (tu (tu i2 0 columns) 1 rows) 5 flags)) (numbers := numbers) (p0 := 3) (hk_p0 := by decide) (hF := hGu7)) (cwV 1 hts (lw_V q434 q435 q436 q92 q437) rfl rfl rfl (by decide +kernel) ⟨(Nat.le_of_ble_eq_true rfl), (Nat.le_of_ble_eq_true rfl)⟩) ⟨tk_blind, va_recv hK (hR.at hS) (ci := 2) (q0 := 1) rfl rfl, fun U hU hW => ⟨rfl, tk_mk hP hD hS hA hE hR hX [] [11, 12] rfl rfl rfl rfl U hU hW⟩⟩ rfl rfl hl.1 rfl (lv_room (Nat.le_of_ble_eq_true rfl)) dX5_begin_73 ⟨(Nat.le_of_ble_eq_true rfl), (Nat.le_of_ble_eq_true rfl)⟩) hS (fun q _ h => (va_free hD hS hA [] rfl) q h) (va_free hD hS hA [] rfl) (fun zr zu zt H1 zl zht zvm zw zB zz zk zS => ?_)
        obtain ⟨hP, hD⟩ := tk_join hP hD zk [] rfl rfl (va_free hD hS hA [] rfl) (zht ▸ zB.1) zB.2 (Nat.le_of_ble_eq_true rfl)
        have hS := zS
        have zw := Eq.symm zw
        subst zw
        generalize H1 = H at hP hS ⊢
        have hP : va_P D tkCl [(h0, .inr (4, oX5 r0 (tu (tu (tu (tu (tu (tu (tu i0 9 minute) 10 v_lost) 11 slid) 12 slidNow) 13 rounds) 14 came) 15 plan) j0)), ((r0 3), .inl (ar 0, 4, .inl nextAct)), ((r0 4), .inl (ar 0, 4, .inl done)), ((r0 8), .inl (ar 2, 4, .inl isResting)), ((r0 0), .inl (ar 0, 64, .inl (upd height s1.toNatClampNeg s2))), ((r0 5), .inl (ar 0, 3, .inl putUp)), ((r0 6), .inl (ar 0, 3, .inl fell)), ((r0 1), .inl (ar 0, 64, .inl wet)), ((r0 2), .inl (ar 0, 64, .inl pack)), ((r0 7), .inl (ar 2, 64, .inl stone))] H := hP
        have hD : va_D A [(h0, .inr (4, oX5 r0 (tu (tu (tu (tu (tu (tu (tu i0 9 minute) 10 v_lost) 11 slid) 12 slidNow) 13 rounds) 14 came) 15 plan) j0)), ((r0 3), .inl (ar 0, 4, .inl nextAct)), ((r0 4), .inl (ar 0, 4, .inl done)), ((r0 8), .inl (ar 2, 4, .inl isResting)), ((r0 0), .inl (ar 0, 64, .inl (upd height s1.toNatClampNeg s2))), ((r0 5), .inl (ar 0, 3, .inl putUp)), ((r0 6), .inl (ar 0, 3, .inl fell)), ((r0 1), .inl (ar 0, 64, .inl wet)), ((r0 2), .inl (ar 0, 64, .inl pack)), ((r0 7), .inl (ar 2, 64, .inl stone))] := hD
        obtain ⟨gd8, hF⟩ := tk_kg hF
        refine va_iast hx hb hK hP hD hS 7 0 rfl rfl gd8 dX5_begin_76 (fun H locs hP hD hS => ?_)
        have hP : va_P D tkCl [(h0, .inr (4, oX5 r0 (tu (tu (tu (tu (tu (tu (tu i0 9 minute) 10 v_lost) 11 slid) 12 slidNow) 13 rounds) 14 came) 15 plan) j0)), ((r0 3), .inl (ar 0, 4, .inl nextAct)), ((r0 4), .inl (ar 0, 4, .inl done)), ((r0 8), .inl (ar 2, 4, .inl isResting)), ((r0 0), .inl (ar 0, 64, .inl (upd height s1.toNatClampNeg s2))), ((r0 5), .inl (ar 0, 3, .inl putUp)), ((r0 6), .inl (ar 0, 3, .inl fell)), ((r0 1), .inl (ar 0, 64, .inl (upd wet x1.toNatClampNeg u7))), ((r0 2), .inl (ar 0, 64, .inl pack)), ((r0 7), .inl (ar 2, 64, .inl stone))] H := hP
        have hD : va_D A [(h0, .inr (4, oX5 r0 (tu (tu (tu (tu (tu (tu (tu i0 9 minute) 10 v_lost) 11 slid) 12 slidNow) 13 rounds) 14 came) 15 plan) j0)), ((r0 3), .inl (ar 0, 4, .inl nextAct)), ((r0 4), .inl (ar 0, 4, .inl done)), ((r0 8), .inl (ar 2, 4, .inl isResting)), ((r0 0), .inl (ar 0, 64, .inl (upd height s1.toNatClampNeg s2))), ((r0 5), .inl (ar 0, 3, .inl putUp)), ((r0 6), .inl (ar 0, 3, .inl fell)), ((r0 1), .inl (ar 0, 64, .inl (upd wet x1.toNatClampNeg u7))), ((r0 2), .inl (ar 0, 64, .inl pack)), ((r0 7), .inl (ar 2, 64, .inl stone))] := hD
        refine lv_aload_n hx hb dX5_begin_77 rfl (lv_at hl 0 rfl) ?_
        refine va_get (D := D) (ci := 4) (v := .ref (r0 2)) (C := RX5) (T := TX5) (N := 18) hx hb hts in_X5 hown hK hP 0 rfl rfl 2 (by decide) (hts _ q359) (fun _ h9 => h9) rfl dX5_begin_78 ?_
        refine lv_iload_n hx hb dX5_begin_81 rfl (lv_at hl 1 rfl) ?_
        refine lv_iconst (v := 0) hx hb dX5_begin_82 (by decide) ?_
        refine va_iast hx hb hK hP hD hS 8 0 rfl rfl gd8 dX5_begin_83 (fun H locs hP hD hS => ?_)
        have hP : va_P D tkCl [(h0, .inr (4, oX5 r0 (tu (tu (tu (tu (tu (tu (tu i0 9 minute) 10 v_lost) 11 slid) 12 slidNow) 13 rounds) 14 came) 15 plan) j0)), ((r0 3), .inl (ar 0, 4, .inl nextAct)), ((r0 4), .inl (ar 0, 4, .inl done)), ((r0 8), .inl (ar 2, 4, .inl isResting)), ((r0 0), .inl (ar 0, 64, .inl (upd height s1.toNatClampNeg s2))), ((r0 5), .inl (ar 0, 3, .inl putUp)), ((r0 6), .inl (ar 0, 3, .inl fell)), ((r0 1), .inl (ar 0, 64, .inl (upd wet x1.toNatClampNeg u7))), ((r0 2), .inl (ar 0, 64, .inl (upd pack x1.toNatClampNeg 0))), ((r0 7), .inl (ar 2, 64, .inl stone))] H := hP
        have hD : va_D A [(h0, .inr (4, oX5 r0 (tu (tu (tu (tu (tu (tu (tu i0 9 minute) 10 v_lost) 11 slid) 12 slidNow) 13 rounds) 14 came) 15 plan) j0)), ((r0 3), .inl (ar 0, 4, .inl nextAct)), ((r0 4), .inl (ar 0, 4, .inl done)), ((r0 8), .inl (ar 2, 4, .inl isResting)), ((r0 0), .inl (ar 0, 64, .inl (upd height s1.toNatClampNeg s2))), ((r0 5), .inl (ar 0, 3, .inl putUp)), ((r0 6), .inl (ar 0, 3, .inl fell)), ((r0 1), .inl (ar 0, 64, .inl (upd wet x1.toNatClampNeg u7))), ((r0 2), .inl (ar 0, 64, .inl (upd pack x1.toNatClampNeg 0))), ((r0 7), .inl (ar 2, 64, .inl stone))] := hD
        refine lv_aload_n hx hb dX5_begin_84 rfl (lv_at hl 0 rfl) ?_
        refine va_get (D := D) (ci := 4) (v := .ref (r0 7)) (C := RX5) (T := TX5) (N := 18) hx hb hts in_X5 hown hK hP 0 rfl rfl 7 (by decide) (hts _ q367) (fun _ h9 => h9) rfl dX5_begin_85 ?_
        refine lv_iload_n hx hb dX5_begin_88 rfl (lv_at hl 1 rfl) ?_
        refine lv_aload_n hx hb dX5_begin_89 rfl (lv_at hl 0 rfl) ?_
        refine va_get (D := D) (ci := 4) (v := .ref (r0 17)) (C := RX5) (T := TX5) (N := 18) hx hb hts in_X5 hown hK hP 0 rfl rfl 17 (by decide) (hts _ q386) (fun _ h9 => h9) rfl dX5_begin_90 ?_
        refine va_getN (D := D) (ci := 0) (v := .ref (r1 5)) (C := RX0) (T := TX0) (N := 25) hx hb hts in_X0 hown hK (hR.at hS) 0 rfl rfl 5 (by decide) (hE.2.1.use q456 rfl rfl) (fun _ h9 => h9) rfl dX5_begin_93 ?_
        refine va_getN (D := D) (ci := 2) (v := .ref (r2 10)) (C := RX2) (T := TX2) (N := 11) hx hb hts in_X2 hown hK (hR.at hS) 1 rfl rfl 10 (by decide) (hE.2.1.use q252 rfl rfl) (fun _ h9 => h9) rfl dX5_begin_96 ?_
        refine lv_iload_n hx hb dX5_begin_99 rfl (lv_at hl 1 rfl) ?_
        refine va_zald hx hb hK (hR.at hS) 5 2 rfl rfl gd8 dX5_begin_100 ?_
        refine va_zast hx hb hK hP hD hS 9 2 rfl rfl gd8 dX5_begin_101 (fun H locs hP hD hS => ?_)
        have hP : va_P D tkCl [(h0, .inr (4, oX5 r0 (tu (tu (tu (tu (tu (tu (tu i0 9 minute) 10 v_lost) 11 slid) 12 slidNow) 13 rounds) 14 came) 15 plan) j0)), ((r0 3), .inl (ar 0, 4, .inl nextAct)), ((r0 4), .inl (ar 0, 4, .inl done)), ((r0 8), .inl (ar 2, 4, .inl isResting)), ((r0 0), .inl (ar 0, 64, .inl (upd height s1.toNatClampNeg s2))), ((r0 5), .inl (ar 0, 3, .inl putUp)), ((r0 6), .inl (ar 0, 3, .inl fell)), ((r0 1), .inl (ar 0, 64, .inl (upd wet x1.toNatClampNeg u7))), ((r0 2), .inl (ar 0, 64, .inl (upd pack x1.toNatClampNeg 0))), ((r0 7), .inl (ar 2, 64, .inl (upd stone x1.toNatClampNeg (vp_nar .boolean (stones x1.toNatClampNeg)))))] H := hP
        have hD : va_D A [(h0, .inr (4, oX5 r0 (tu (tu (tu (tu (tu (tu (tu i0 9 minute) 10 v_lost) 11 slid) 12 slidNow) 13 rounds) 14 came) 15 plan) j0)), ((r0 3), .inl (ar 0, 4, .inl nextAct)), ((r0 4), .inl (ar 0, 4, .inl done)), ((r0 8), .inl (ar 2, 4, .inl isResting)), ((r0 0), .inl (ar 0, 64, .inl (upd height s1.toNatClampNeg s2))), ((r0 5), .inl (ar 0, 3, .inl putUp)), ((r0 6), .inl (ar 0, 3, .inl fell)), ((r0 1), .inl (ar 0, 64, .inl (upd wet x1.toNatClampNeg u7))), ((r0 2), .inl (ar 0, 64, .inl (upd pack x1.toNatClampNeg 0))), ((r0 7), .inl (ar 2, 64, .inl (upd stone x1.toNatClampNeg (vp_nar .boolean (stones x1.toNatClampNeg)))))] := hD
        refine lv_iinc (v := x1 + 1) (lv' := [(1, .int (x1 + 1)), (0, .ref h0)]) hx hb dX5_begin_102 hl (k := 1) rfl (congrArg (fun z => x1 + z) (show Int32.ofInt 1 = 1 by decide)) (Nat.le_of_ble_eq_true rfl) rfl (fun ls hl => ?_)
        refine lv_goto (tgt := 2) hx hb dX5_begin_105 (by decide) ?_
        exact ih2 (x1 + 1) minute v_lost slid slidNow rounds came plan nextAct done isResting (upd height s1.toNatClampNeg s2) putUp fell (upd wet x1.toNatClampNeg u7) (upd pack x1.toNatClampNeg 0) (upd stone x1.toNatClampNeg (vp_nar .boolean (stones x1.toNatClampNeg))) _ _ _ hF hP hD hS (lv_sub hl [1, 0] rfl)
      · intro x1 minute v_lost slid slidNow rounds came plan nextAct done isResting height putUp fell wet pack stone H locs ls hF hP hD hS hl
        have hF : tk_k (stX5_begin columns rows flags numbers heaps flagCell stones) n (bX5_begin_3 columns rows flags numbers heaps flagCell stones x1 minute v_lost slid slidNow rounds came plan nextAct done isResting height putUp fell wet pack stone) = some o := hF
        unfold bX5_begin_3 at hF
        refine lv_iload_n hx hb dX5_begin_110 rfl (lv_at hl 1 rfl) ?_
        refine lv_aload_n hx hb dX5_begin_111 rfl (lv_at hl 0 rfl) ?_
        refine va_get (D := D) (ci := 4) (v := .ref (r0 17)) (C := RX5) (T := TX5) (N := 18) hx hb hts in_X5 hown hK hP 0 rfl rfl 17 (by decide) (hts _ q386) (fun _ h9 => h9) rfl dX5_begin_112 ?_
        refine va_getN (D := D) (ci := 0) (v := .ref (r1 5)) (C := RX0) (T := TX0) (N := 25) hx hb hts in_X0 hown hK (hR.at hS) 0 rfl rfl 5 (by decide) (hE.2.1.use q456 rfl rfl) (fun _ h9 => h9) rfl dX5_begin_115 ?_
        refine va_getN (D := D) (ci := 2) (v := .int flags) (C := RX2) (T := TX2) (N := 11) hx hb hts in_X2 hown hK (hR.at hS) 1 rfl rfl 5 (by decide) (hE.2.1.use q236 rfl rfl) (fun _ h9 => h9) rfl dX5_begin_118 ?_
        refine lv_icmp_ge (tgt := 160) hx hb dX5_begin_121 (by decide) (fun c9 => ?_) (fun c9 => ?_)
        · have hF := tk_kt hF c9
          refine lv_aload_n hx hb dX5_begin_160 rfl (lv_at hl 0 rfl) ?_
          refine lv_iconst (v := 0) hx hb dX5_begin_161 (by decide) ?_
          refine va_put (D := D) (ci := 4) (v := .int 0) (ty := .int) (C := RX5) (T := TX5) (N := 18) hx hb hts in_X5 tyX5 tyX5_ok nmX5 hown hK hP hD hS 0 rfl rfl 9 (by decide) (hts _ q370) (fun _ h9 => h9) rfl (by decide +kernel) rfl rfl (Nat.le_of_ble_eq_true rfl) dX5_begin_162 (fun H locs hP hD hS => ?_)
          have hP : va_P D tkCl [(h0, .inr (4, oX5 r0 (tu (tu (tu (tu (tu (tu (tu i0 9 0) 10 v_lost) 11 slid) 12 slidNow) 13 rounds) 14 came) 15 plan) j0)), ((r0 3), .inl (ar 0, 4, .inl nextAct)), ((r0 4), .inl (ar 0, 4, .inl done)), ((r0 8), .inl (ar 2, 4, .inl isResting)), ((r0 0), .inl (ar 0, 64, .inl height)), ((r0 5), .inl (ar 0, 3, .inl putUp)), ((r0 6), .inl (ar 0, 3, .inl fell)), ((r0 1), .inl (ar 0, 64, .inl wet)), ((r0 2), .inl (ar 0, 64, .inl pack)), ((r0 7), .inl (ar 2, 64, .inl stone))] H := hP
          have hD : va_D A [(h0, .inr (4, oX5 r0 (tu (tu (tu (tu (tu (tu (tu i0 9 0) 10 v_lost) 11 slid) 12 slidNow) 13 rounds) 14 came) 15 plan) j0)), ((r0 3), .inl (ar 0, 4, .inl nextAct)), ((r0 4), .inl (ar 0, 4, .inl done)), ((r0 8), .inl (ar 2, 4, .inl isResting)), ((r0 0), .inl (ar 0, 64, .inl height)), ((r0 5), .inl (ar 0, 3, .inl putUp)), ((r0 6), .inl (ar 0, 3, .inl fell)), ((r0 1), .inl (ar 0, 64, .inl wet)), ((r0 2), .inl (ar 0, 64, .inl pack)), ((r0 7), .inl (ar 2, 64, .inl stone))] := hD
          refine lv_aload_n hx hb dX5_begin_165 rfl (lv_at hl 0 rfl) ?_
          refine lv_iconst (v := 0) hx hb dX5_begin_166 (by decide) ?_
          refine va_put (D := D) (ci := 4) (v := .int 0) (ty := .int) (C := RX5) (T := TX5) (N := 18) hx hb hts in_X5 tyX5 tyX5_ok nmX5 hown hK hP hD hS 0 rfl rfl 10 (by decide) (hts _ q372) (fun _ h9 => h9) rfl (by decide +kernel) rfl rfl (Nat.le_of_ble_eq_true rfl) dX5_begin_167 (fun H locs hP hD hS => ?_)
          have hP : va_P D tkCl [(h0, .inr (4, oX5 r0 (tu (tu (tu (tu (tu (tu (tu i0 9 0) 10 0) 11 slid) 12 slidNow) 13 rounds) 14 came) 15 plan) j0)), ((r0 3), .inl (ar 0, 4, .inl nextAct)), ((r0 4), .inl (ar 0, 4, .inl done)), ((r0 8), .inl (ar 2, 4, .inl isResting)), ((r0 0), .inl (ar 0, 64, .inl height)), ((r0 5), .inl (ar 0, 3, .inl putUp)), ((r0 6), .inl (ar 0, 3, .inl fell)), ((r0 1), .inl (ar 0, 64, .inl wet)), ((r0 2), .inl (ar 0, 64, .inl pack)), ((r0 7), .inl (ar 2, 64, .inl stone))] H := hP
          have hD : va_D A [(h0, .inr (4, oX5 r0 (tu (tu (tu (tu (tu (tu (tu i0 9 0) 10 0) 11 slid) 12 slidNow) 13 rounds) 14 came) 15 plan) j0)), ((r0 3), .inl (ar 0, 4, .inl nextAct)), ((r0 4), .inl (ar 0, 4, .inl done)), ((r0 8), .inl (ar 2, 4, .inl isResting)), ((r0 0), .inl (ar 0, 64, .inl height)), ((r0 5), .inl (ar 0, 3, .inl putUp)), ((r0 6), .inl (ar 0, 3, .inl fell)), ((r0 1), .inl (ar 0, 64, .inl wet)), ((r0 2), .inl (ar 0, 64, .inl pack)), ((r0 7), .inl (ar 2, 64, .inl stone))] := hD
          refine lv_aload_n hx hb dX5_begin_170 rfl (lv_at hl 0 rfl) ?_
          refine lv_iconst (v := 0) hx hb dX5_begin_171 (by decide) ?_
          refine va_put (D := D) (ci := 4) (v := .int 0) (ty := .int) (C := RX5) (T := TX5) (N := 18) hx hb hts in_X5 tyX5 tyX5_ok nmX5 hown hK hP hD hS 0 rfl rfl 11 (by decide) (hts _ q374) (fun _ h9 => h9) rfl (by decide +kernel) rfl rfl (Nat.le_of_ble_eq_true rfl) dX5_begin_172 (fun H locs hP hD hS => ?_)
          have hP : va_P D tkCl [(h0, .inr (4, oX5 r0 (tu (tu (tu (tu (tu (tu (tu i0 9 0) 10 0) 11 0) 12 slidNow) 13 rounds) 14 came) 15 plan) j0)), ((r0 3), .inl (ar 0, 4, .inl nextAct)), ((r0 4), .inl (ar 0, 4, .inl done)), ((r0 8), .inl (ar 2, 4, .inl isResting)), ((r0 0), .inl (ar 0, 64, .inl height)), ((r0 5), .inl (ar 0, 3, .inl putUp)), ((r0 6), .inl (ar 0, 3, .inl fell)), ((r0 1), .inl (ar 0, 64, .inl wet)), ((r0 2), .inl (ar 0, 64, .inl pack)), ((r0 7), .inl (ar 2, 64, .inl stone))] H := hP
          have hD : va_D A [(h0, .inr (4, oX5 r0 (tu (tu (tu (tu (tu (tu (tu i0 9 0) 10 0) 11 0) 12 slidNow) 13 rounds) 14 came) 15 plan) j0)), ((r0 3), .inl (ar 0, 4, .inl nextAct)), ((r0 4), .inl (ar 0, 4, .inl done)), ((r0 8), .inl (ar 2, 4, .inl isResting)), ((r0 0), .inl (ar 0, 64, .inl height)), ((r0 5), .inl (ar 0, 3, .inl putUp)), ((r0 6), .inl (ar 0, 3, .inl fell)), ((r0 1), .inl (ar 0, 64, .inl wet)), ((r0 2), .inl (ar 0, 64, .inl pack)), ((r0 7), .inl (ar 2, 64, .inl stone))] := hD
          refine lv_aload_n hx hb dX5_begin_175 rfl (lv_at hl 0 rfl) ?_
          refine lv_iconst (v := 0) hx hb dX5_begin_176 (by decide) ?_
          refine va_put (D := D) (ci := 4) (v := .int 0) (ty := .int) (C := RX5) (T := TX5) (N := 18) hx hb hts in_X5 tyX5 tyX5_ok nmX5 hown hK hP hD hS 0 rfl rfl 12 (by decide) (hts _ q376) (fun _ h9 => h9) rfl (by decide +kernel) rfl rfl (Nat.le_of_ble_eq_true rfl) dX5_begin_177 (fun H locs hP hD hS => ?_)
          have hP : va_P D tkCl [(h0, .inr (4, oX5 r0 (tu (tu (tu (tu (tu (tu (tu i0 9 0) 10 0) 11 0) 12 0) 13 rounds) 14 came) 15 plan) j0)), ((r0 3), .inl (ar 0, 4, .inl nextAct)), ((r0 4), .inl (ar 0, 4, .inl done)), ((r0 8), .inl (ar 2, 4, .inl isResting)), ((r0 0), .inl (ar 0, 64, .inl height)), ((r0 5), .inl (ar 0, 3, .inl putUp)), ((r0 6), .inl (ar 0, 3, .inl fell)), ((r0 1), .inl (ar 0, 64, .inl wet)), ((r0 2), .inl (ar 0, 64, .inl pack)), ((r0 7), .inl (ar 2, 64, .inl stone))] H := hP
          have hD : va_D A [(h0, .inr (4, oX5 r0 (tu (tu (tu (tu (tu (tu (tu i0 9 0) 10 0) 11 0) 12 0) 13 rounds) 14 came) 15 plan) j0)), ((r0 3), .inl (ar 0, 4, .inl nextAct)), ((r0 4), .inl (ar 0, 4, .inl done)), ((r0 8), .inl (ar 2, 4, .inl isResting)), ((r0 0), .inl (ar 0, 64, .inl height)), ((r0 5), .inl (ar 0, 3, .inl putUp)), ((r0 6), .inl (ar 0, 3, .inl fell)), ((r0 1), .inl (ar 0, 64, .inl wet)), ((r0 2), .inl (ar 0, 64, .inl pack)), ((r0 7), .inl (ar 2, 64, .inl stone))] := hD
          refine lv_aload_n hx hb dX5_begin_180 rfl (lv_at hl 0 rfl) ?_
          refine lv_iconst (v := 0) hx hb dX5_begin_181 (by decide) ?_
          refine va_put (D := D) (ci := 4) (v := .int 0) (ty := .int) (C := RX5) (T := TX5) (N := 18) hx hb hts in_X5 tyX5 tyX5_ok nmX5 hown hK hP hD hS 0 rfl rfl 13 (by decide) (hts _ q378) (fun _ h9 => h9) rfl (by decide +kernel) rfl rfl (Nat.le_of_ble_eq_true rfl) dX5_begin_182 (fun H locs hP hD hS => ?_)
          have hP : va_P D tkCl [(h0, .inr (4, oX5 r0 (tu (tu (tu (tu (tu (tu (tu i0 9 0) 10 0) 11 0) 12 0) 13 0) 14 came) 15 plan) j0)), ((r0 3), .inl (ar 0, 4, .inl nextAct)), ((r0 4), .inl (ar 0, 4, .inl done)), ((r0 8), .inl (ar 2, 4, .inl isResting)), ((r0 0), .inl (ar 0, 64, .inl height)), ((r0 5), .inl (ar 0, 3, .inl putUp)), ((r0 6), .inl (ar 0, 3, .inl fell)), ((r0 1), .inl (ar 0, 64, .inl wet)), ((r0 2), .inl (ar 0, 64, .inl pack)), ((r0 7), .inl (ar 2, 64, .inl stone))] H := hP
          have hD : va_D A [(h0, .inr (4, oX5 r0 (tu (tu (tu (tu (tu (tu (tu i0 9 0) 10 0) 11 0) 12 0) 13 0) 14 came) 15 plan) j0)), ((r0 3), .inl (ar 0, 4, .inl nextAct)), ((r0 4), .inl (ar 0, 4, .inl done)), ((r0 8), .inl (ar 2, 4, .inl isResting)), ((r0 0), .inl (ar 0, 64, .inl height)), ((r0 5), .inl (ar 0, 3, .inl putUp)), ((r0 6), .inl (ar 0, 3, .inl fell)), ((r0 1), .inl (ar 0, 64, .inl wet)), ((r0 2), .inl (ar 0, 64, .inl pack)), ((r0 7), .inl (ar 2, 64, .inl stone))] := hD
          refine lv_aload_n hx hb dX5_begin_185 rfl (lv_at hl 0 rfl) ?_
          refine lv_iconst (v := 0) hx hb dX5_begin_186 (by decide) ?_
          refine va_put (D := D) (ci := 4) (v := .int 0) (ty := .int) (C := RX5) (T := TX5) (N := 18) hx hb hts in_X5 tyX5 tyX5_ok nmX5 hown hK hP hD hS 0 rfl rfl 14 (by decide) (hts _ q380) (fun _ h9 => h9) rfl (by decide +kernel) rfl rfl (Nat.le_of_ble_eq_true rfl) dX5_begin_187 (fun H locs hP hD hS => ?_)
          have hP : va_P D tkCl [(h0, .inr (4, oX5 r0 (tu (tu (tu (tu (tu (tu (tu i0 9 0) 10 0) 11 0) 12 0) 13 0) 14 0) 15 plan) j0)), ((r0 3), .inl (ar 0, 4, .inl nextAct)), ((r0 4), .inl (ar 0, 4, .inl done)), ((r0 8), .inl (ar 2, 4, .inl isResting)), ((r0 0), .inl (ar 0, 64, .inl height)), ((r0 5), .inl (ar 0, 3, .inl putUp)), ((r0 6), .inl (ar 0, 3, .inl fell)), ((r0 1), .inl (ar 0, 64, .inl wet)), ((r0 2), .inl (ar 0, 64, .inl pack)), ((r0 7), .inl (ar 2, 64, .inl stone))] H := hP
          have hD : va_D A [(h0, .inr (4, oX5 r0 (tu (tu (tu (tu (tu (tu (tu i0 9 0) 10 0) 11 0) 12 0) 13 0) 14 0) 15 plan) j0)), ((r0 3), .inl (ar 0, 4, .inl nextAct)), ((r0 4), .inl (ar 0, 4, .inl done)), ((r0 8), .inl (ar 2, 4, .inl isResting)), ((r0 0), .inl (ar 0, 64, .inl height)), ((r0 5), .inl (ar 0, 3, .inl putUp)), ((r0 6), .inl (ar 0, 3, .inl fell)), ((r0 1), .inl (ar 0, 64, .inl wet)), ((r0 2), .inl (ar 0, 64, .inl pack)), ((r0 7), .inl (ar 2, 64, .inl stone))] := hD
          refine lv_aload_n hx hb dX5_begin_190 rfl (lv_at hl 0 rfl) ?_
          refine lv_iconst (v := (-1)) hx hb dX5_begin_191 (by decide) ?_
          obtain ⟨u10, hGu10, hF⟩ := tk_kb hF
          refine va_callv (va_runV (As := [.int (-1)]) (rest := []) ⟨hx, hb, hml, hown, hts⟩ (mX5_hold (l := l) (D := D) (ar := ar) (ad := ad) (xs := xs) (sz := H.size) (h0 := h0) (r0 := r0) (i0 := (tu (tu (tu (tu (tu (tu (tu i0 9 0) 10 0) 11 0) 12 0) 13 0) 14 0) 15 plan)) (j0 := j0) (plan := plan) (nextAct := nextAct) (done := done) (isResting := isResting) (p0 := (-1)) (hF := hGu10)) (cwV 1 hts (lw_V q439 q440 q441 q99 q442) rfl rfl rfl (by decide +kernel) ⟨(Nat.le_of_ble_eq_true rfl), (Nat.le_of_ble_eq_true rfl)⟩) ⟨tk_blind, va_recv hK hP (ci := 4) (q0 := 0) rfl rfl, fun U hU hW => ⟨rfl, tk_mk hP hD hS hA hE hR hX [0, 1, 2, 3] [] rfl rfl rfl rfl U hU hW⟩⟩ rfl rfl hl.1 rfl (lv_room (Nat.le_of_ble_eq_true rfl)) dX5_begin_192 ⟨(Nat.le_of_ble_eq_true rfl), (Nat.le_of_ble_eq_true rfl)⟩) hS (fun q _ h => (va_free hD hS hA [0, 1, 2, 3] rfl) q h) (va_free hD hS hA [0, 1, 2, 3] rfl) (fun zu zt H1 zl zht zvm zw zB zz zk zS => ?_)
          obtain ⟨hP, hD⟩ := tk_join hP hD zk [0, 1, 2, 3] rfl rfl (va_free hD hS hA [0, 1, 2, 3] rfl) (zht ▸ zB.1) zB.2 (Nat.le_of_ble_eq_true rfl)
          have hS := zS
          generalize H1 = H at hP hS ⊢
          have hP : va_P D tkCl [(h0, .inr (4, oX5 r0 (tu (tu (tu (tu (tu (tu (tu i0 9 0) 10 0) 11 0) 12 0) 13 0) 14 0) 15 u10.1) j0)), ((r0 3), .inl (ar 0, 4, .inl u10.2.1)), ((r0 4), .inl (ar 0, 4, .inl u10.2.2.1)), ((r0 8), .inl (ar 2, 4, .inl u10.2.2.2)), ((r0 0), .inl (ar 0, 64, .inl height)), ((r0 5), .inl (ar 0, 3, .inl putUp)), ((r0 6), .inl (ar 0, 3, .inl fell)), ((r0 1), .inl (ar 0, 64, .inl wet)), ((r0 2), .inl (ar 0, 64, .inl pack)), ((r0 7), .inl (ar 2, 64, .inl stone))] H := hP
          have hD : va_D A [(h0, .inr (4, oX5 r0 (tu (tu (tu (tu (tu (tu (tu i0 9 0) 10 0) 11 0) 12 0) 13 0) 14 0) 15 u10.1) j0)), ((r0 3), .inl (ar 0, 4, .inl u10.2.1)), ((r0 4), .inl (ar 0, 4, .inl u10.2.2.1)), ((r0 8), .inl (ar 2, 4, .inl u10.2.2.2)), ((r0 0), .inl (ar 0, 64, .inl height)), ((r0 5), .inl (ar 0, 3, .inl putUp)), ((r0 6), .inl (ar 0, 3, .inl fell)), ((r0 1), .inl (ar 0, 64, .inl wet)), ((r0 2), .inl (ar 0, 64, .inl pack)), ((r0 7), .inl (ar 2, 64, .inl stone))] := hD
          have eo := tk_kr hF
          subst eo
          exact W.vret hx hb hr (fun t ht hW => ⟨⟨(), rfl, trivial, tk_pst ht hP hD⟩, hS.F ht⟩) hS.2.2 dX5_begin_195
        · have hF := tk_kf hF c9
          refine lv_aload_n hx hb dX5_begin_124 rfl (lv_at hl 0 rfl) ?_
          refine va_get (D := D) (ci := 4) (v := .ref (r0 5)) (C := RX5) (T := TX5) (N := 18) hx hb hts in_X5 hown hK hP 0 rfl rfl 5 (by decide) (hts _ q363) (fun _ h9 => h9) rfl dX5_begin_125 ?_
          refine lv_iload_n hx hb dX5_begin_128 rfl (lv_at hl 1 rfl) ?_
          refine lv_aload_n hx hb dX5_begin_129 rfl (lv_at hl 0 rfl) ?_
          refine va_get (D := D) (ci := 4) (v := .ref (r0 0)) (C := RX5) (T := TX5) (N := 18) hx hb hts in_X5 hown hK hP 0 rfl rfl 0 (by decide) (hts _ q355) (fun _ h9 => h9) rfl dX5_begin_130 ?_
          refine lv_aload_n hx hb dX5_begin_133 rfl (lv_at hl 0 rfl) ?_
          refine va_get (D := D) (ci := 4) (v := .ref (r0 17)) (C := RX5) (T := TX5) (N := 18) hx hb hts in_X5 hown hK hP 0 rfl rfl 17 (by decide) (hts _ q386) (fun _ h9 => h9) rfl dX5_begin_134 ?_
          refine va_getN (D := D) (ci := 0) (v := .ref (r1 5)) (C := RX0) (T := TX0) (N := 25) hx hb hts in_X0 hown hK (hR.at hS) 0 rfl rfl 5 (by decide) (hE.2.1.use q456 rfl rfl) (fun _ h9 => h9) rfl dX5_begin_137 ?_
          refine va_getN (D := D) (ci := 2) (v := .ref (r2 9)) (C := RX2) (T := TX2) (N := 11) hx hb hts in_X2 hown hK (hR.at hS) 1 rfl rfl 9 (by decide) (hE.2.1.use q248 rfl rfl) (fun _ h9 => h9) rfl dX5_begin_140 ?_
          refine lv_iload_n hx hb dX5_begin_143 rfl (lv_at hl 1 rfl) ?_
          obtain ⟨gd11, hF⟩ := tk_kg hF
          refine va_iald hx hb hK (hR.at hS) 4 0 rfl rfl gd11 dX5_begin_144 ?_
          obtain ⟨gd12, hF⟩ := tk_kg hF
          refine va_iald hx hb hK hP 4 0 rfl rfl gd12 dX5_begin_145 ?_
          refine va_iast hx hb hK hP hD hS 5 0 rfl rfl gd11 dX5_begin_146 (fun H locs hP hD hS => ?_)
          obtain ⟨y13, ey13, hF⟩ := tk_kl hF
          have hP : va_P D tkCl [(h0, .inr (4, oX5 r0 (tu (tu (tu (tu (tu (tu (tu i0 9 minute) 10 v_lost) 11 slid) 12 slidNow) 13 rounds) 14 came) 15 plan) j0)), ((r0 3), .inl (ar 0, 4, .inl nextAct)), ((r0 4), .inl (ar 0, 4, .inl done)), ((r0 8), .inl (ar 2, 4, .inl isResting)), ((r0 0), .inl (ar 0, 64, .inl height)), ((r0 5), .inl (ar 0, 3, .inl y13)), ((r0 6), .inl (ar 0, 3, .inl fell)), ((r0 1), .inl (ar 0, 64, .inl wet)), ((r0 2), .inl (ar 0, 64, .inl pack)), ((r0 7), .inl (ar 2, 64, .inl stone))] H := by rw [ey13]; exact hP
          have hD : va_D A [(h0, .inr (4, oX5 r0 (tu (tu (tu (tu (tu (tu (tu i0 9 minute) 10 v_lost) 11 slid) 12 slidNow) 13 rounds) 14 came) 15 plan) j0)), ((r0 3), .inl (ar 0, 4, .inl nextAct)), ((r0 4), .inl (ar 0, 4, .inl done)), ((r0 8), .inl (ar 2, 4, .inl isResting)), ((r0 0), .inl (ar 0, 64, .inl height)), ((r0 5), .inl (ar 0, 3, .inl y13)), ((r0 6), .inl (ar 0, 3, .inl fell)), ((r0 1), .inl (ar 0, 64, .inl wet)), ((r0 2), .inl (ar 0, 64, .inl pack)), ((r0 7), .inl (ar 2, 64, .inl stone))] := by rw [ey13]; exact hD
          refine lv_aload_n hx hb dX5_begin_147 rfl (lv_at hl 0 rfl) ?_
          refine va_get (D := D) (ci := 4) (v := .ref (r0 6)) (C := RX5) (T := TX5) (N := 18) hx hb hts in_X5 hown hK hP 0 rfl rfl 6 (by decide) (hts _ q365) (fun _ h9 => h9) rfl dX5_begin_148 ?_
          refine lv_iload_n hx hb dX5_begin_151 rfl (lv_at hl 1 rfl) ?_
          refine lv_iconst (v := (-1)) hx hb dX5_begin_152 (by decide) ?_
          refine va_iast hx hb hK hP hD hS 6 0 rfl rfl gd11 dX5_begin_153 (fun H locs hP hD hS => ?_)
          have hP : va_P D tkCl [(h0, .inr (4, oX5 r0 (tu (tu (tu (tu (tu (tu (tu i0 9 minute) 10 v_lost) 11 slid) 12 slidNow) 13 rounds) 14 came) 15 plan) j0)), ((r0 3), .inl (ar 0, 4, .inl nextAct)), ((r0 4), .inl (ar 0, 4, .inl done)), ((r0 8), .inl (ar 2, 4, .inl isResting)), ((r0 0), .inl (ar 0, 64, .inl height)), ((r0 5), .inl (ar 0, 3, .inl y13)), ((r0 6), .inl (ar 0, 3, .inl (upd fell x1.toNatClampNeg (-1)))), ((r0 1), .inl (ar 0, 64, .inl wet)), ((r0 2), .inl (ar 0, 64, .inl pack)), ((r0 7), .inl (ar 2, 64, .inl stone))] H := hP
          have hD : va_D A [(h0, .inr (4, oX5 r0 (tu (tu (tu (tu (tu (tu (tu i0 9 minute) 10 v_lost) 11 slid) 12 slidNow) 13 rounds) 14 came) 15 plan) j0)), ((r0 3), .inl (ar 0, 4, .inl nextAct)), ((r0 4), .inl (ar 0, 4, .inl done)), ((r0 8), .inl (ar 2, 4, .inl isResting)), ((r0 0), .inl (ar 0, 64, .inl height)), ((r0 5), .inl (ar 0, 3, .inl y13)), ((r0 6), .inl (ar 0, 3, .inl (upd fell x1.toNatClampNeg (-1)))), ((r0 1), .inl (ar 0, 64, .inl wet)), ((r0 2), .inl (ar 0, 64, .inl pack)), ((r0 7), .inl (ar 2, 64, .inl stone))] := hD
          refine lv_iinc (v := x1 + 1) (lv' := [(1, .int (x1 + 1)), (0, .ref h0)]) hx hb dX5_begin_154 hl (k := 1) rfl (congrArg (fun z => x1 + z) (show Int32.ofInt 1 = 1 by decide)) (Nat.le_of_ble_eq_true rfl) rfl (fun ls hl => ?_)
          refine lv_goto (tgt := 110) hx hb dX5_begin_157 (by decide) ?_
          exact ih110 (x1 + 1) minute v_lost slid slidNow rounds came plan nextAct done isResting height y13 (upd fell x1.toNatClampNeg (-1)) wet pack stone _ _ _ hF hP hD hS (lv_sub hl [1, 0] rfl)
  obtain ⟨ih2, ih57, ih110⟩ := key n0
  clear key
  unfold bX5_begin_0 at hF
  have hF : tk_k (stX5_begin columns rows flags numbers heaps flagCell stones) n0 _ = some o := hF
  refine lv_iconst (v := 0) hx hb dX5_begin_0 (by decide) ?_
  refine lv_istore_n (lv' := [(1, .int 0), (0, .ref h0)]) hx hb dX5_begin_1 rfl hl (Nat.le_of_ble_eq_true rfl) rfl (fun ls hl => ?_)
  exact ih2 0 minute v_lost slid slidNow rounds came plan nextAct done isResting height putUp fell wet pack stone _ _ _ hF hP hD hS (lv_sub hl [1, 0] rfl)
set_option maxHeartbeats 4000000 in
theorem mX5_become (l : Launch) (D : va_G) (ar : Nat → ClassId) (ad : Nat → Nat → Nat) (xs : va_W) (sz : Nat) (h0 h1 : Nat) (r0 : Nat → Nat) (i0 : Nat → Int32) (j0 : Nat → Int64) (r1 : Nat → Nat) (i1 : Nat → Int32) (j1 : Nat → Int64) (minute v_lost slid slidNow rounds came plan : Int32) (chance : Int64) (height wet pack stone nextAct done isResting putUp fell : Nat → Int32) (minute_2 v_lost_2 slid_2 slidNow_2 rounds_2 came_2 plan_2 : Int32) (chance_2 : Int64) (height_2 wet_2 pack_2 stone_2 nextAct_2 done_2 isResting_2 putUp_2 fell_2 : Nat → Int32) (o : Int32 × Int32 × Int32 × Int32 × Int32 × Int32 × Int32 × Int64 × (Nat → Int32) × (Nat → Int32) × (Nat → Int32) × (Nat → Int32) × (Nat → Int32) × (Nat → Int32) × (Nat → Int32) × (Nat → Int32) × (Nat → Int32)) (hF : fX5_become minute v_lost slid slidNow rounds came plan chance height wet pack stone nextAct done isResting putUp fell minute_2 v_lost_2 slid_2 slidNow_2 rounds_2 came_2 plan_2 chance_2 height_2 wet_2 pack_2 stone_2 nextAct_2 done_2 isResting_2 putUp_2 fell_2 = some o) : Met l yX5_become (ws_ yX5_become cX5_become 3 none) ({ frames := 0, cells := 0, slots := 0, locals := 0 }) (va_Pc [.ref h0, .ref h1] (tk_Pre D ar ad [(h0, .inr (4, oX5 r0 (tu (tu (tu (tu (tu (tu (tu i0 9 minute_2) 10 v_lost_2) 11 slid_2) 12 slidNow_2) 13 rounds_2) 14 came_2) 15 plan_2) (tul j0 16 chance_2))), ((r0 0), .inl (ar 0, 64, .inl height_2)), ((r0 1), .inl (ar 0, 64, .inl wet_2)), ((r0 2), .inl (ar 0, 64, .inl pack_2)), ((r0 7), .inl (ar 2, 64, .inl stone_2)), ((r0 3), .inl (ar 0, 4, .inl nextAct_2)), ((r0 4), .inl (ar 0, 4, .inl done_2)), ((r0 8), .inl (ar 2, 4, .inl isResting_2)), ((r0 5), .inl (ar 0, 3, .inl putUp_2)), ((r0 6), .inl (ar 0, 3, .inl fell_2))] [(h1, .inr (4, oX5 r1 (tu (tu (tu (tu (tu (tu (tu i1 9 minute) 10 v_lost) 11 slid) 12 slidNow) 13 rounds) 14 came) 15 plan) (tul j1 16 chance))), ((r1 0), .inl (ar 0, 64, .inl height)), ((r1 1), .inl (ar 0, 64, .inl wet)), ((r1 2), .inl (ar 0, 64, .inl pack)), ((r1 7), .inl (ar 2, 64, .inl stone)), ((r1 3), .inl (ar 0, 4, .inl nextAct)), ((r1 4), .inl (ar 0, 4, .inl done)), ((r1 8), .inl (ar 2, 4, .inl isResting)), ((r1 5), .inl (ar 0, 3, .inl putUp)), ((r1 6), .inl (ar 0, 3, .inl fell))] xs sz)) (va_Qv (fun _ : Unit => True) (fun _ t => tk_Post D (va_A [(h0, .inr (4, oX5 r0 (tu (tu (tu (tu (tu (tu (tu i0 9 minute_2) 10 v_lost_2) 11 slid_2) 12 slidNow_2) 13 rounds_2) 14 came_2) 15 plan_2) (tul j0 16 chance_2))), ((r0 0), .inl (ar 0, 64, .inl height_2)), ((r0 1), .inl (ar 0, 64, .inl wet_2)), ((r0 2), .inl (ar 0, 64, .inl pack_2)), ((r0 7), .inl (ar 2, 64, .inl stone_2)), ((r0 3), .inl (ar 0, 4, .inl nextAct_2)), ((r0 4), .inl (ar 0, 4, .inl done_2)), ((r0 8), .inl (ar 2, 4, .inl isResting_2)), ((r0 5), .inl (ar 0, 3, .inl putUp_2)), ((r0 6), .inl (ar 0, 3, .inl fell_2))] sz) [(h0, .inr (4, oX5 r0 (tu (tu (tu (tu (tu (tu (tu i0 9 o.1) 10 o.2.1) 11 o.2.2.1) 12 o.2.2.2.1) 13 o.2.2.2.2.1) 14 o.2.2.2.2.2.1) 15 o.2.2.2.2.2.2.1) (tul j0 16 o.2.2.2.2.2.2.2.1))), ((r0 0), .inl (ar 0, 64, .inl o.2.2.2.2.2.2.2.2.1)), ((r0 1), .inl (ar 0, 64, .inl o.2.2.2.2.2.2.2.2.2.1)), ((r0 2), .inl (ar 0, 64, .inl o.2.2.2.2.2.2.2.2.2.2.1)), ((r0 7), .inl (ar 2, 64, .inl o.2.2.2.2.2.2.2.2.2.2.2.1)), ((r0 3), .inl (ar 0, 4, .inl o.2.2.2.2.2.2.2.2.2.2.2.2.1)), ((r0 4), .inl (ar 0, 4, .inl o.2.2.2.2.2.2.2.2.2.2.2.2.2.1)), ((r0 8), .inl (ar 2, 4, .inl o.2.2.2.2.2.2.2.2.2.2.2.2.2.2.1)), ((r0 5), .inl (ar 0, 3, .inl o.2.2.2.2.2.2.2.2.2.2.2.2.2.2.2.1)), ((r0 6), .inl (ar 0, 3, .inl o.2.2.2.2.2.2.2.2.2.2.2.2.2.2.2.2))] t) (va_A [(h0, .inr (4, oX5 r0 (tu (tu (tu (tu (tu (tu (tu i0 9 minute_2) 10 v_lost_2) 11 slid_2) 12 slidNow_2) 13 rounds_2) 14 came_2) 15 plan_2) (tul j0 16 chance_2))), ((r0 0), .inl (ar 0, 64, .inl height_2)), ((r0 1), .inl (ar 0, 64, .inl wet_2)), ((r0 2), .inl (ar 0, 64, .inl pack_2)), ((r0 7), .inl (ar 2, 64, .inl stone_2)), ((r0 3), .inl (ar 0, 4, .inl nextAct_2)), ((r0 4), .inl (ar 0, 4, .inl done_2)), ((r0 8), .inl (ar 2, 4, .inl isResting_2)), ((r0 5), .inl (ar 0, 3, .inl putUp_2)), ((r0 6), .inl (ar 0, 3, .inl fell_2))] sz)) 0 0 (va_A [(h0, .inr (4, oX5 r0 (tu (tu (tu (tu (tu (tu (tu i0 9 minute_2) 10 v_lost_2) 11 slid_2) 12 slidNow_2) 13 rounds_2) 14 came_2) 15 plan_2) (tul j0 16 chance_2))), ((r0 0), .inl (ar 0, 64, .inl height_2)), ((r0 1), .inl (ar 0, 64, .inl wet_2)), ((r0 2), .inl (ar 0, 64, .inl pack_2)), ((r0 7), .inl (ar 2, 64, .inl stone_2)), ((r0 3), .inl (ar 0, 4, .inl nextAct_2)), ((r0 4), .inl (ar 0, 4, .inl done_2)), ((r0 8), .inl (ar 2, 4, .inl isResting_2)), ((r0 5), .inl (ar 0, 3, .inl putUp_2)), ((r0 6), .inl (ar 0, 3, .inl fell_2))] sz) := by
  refine Met.ofW (cc := cX5_become) (maxL := 3) (ret := none) (by decide) rfl ?_
  intro p e s m args below meth c s₁ B hml hv
  obtain ⟨rfl, hsz, hP, hD0, hR, hX, hE⟩ := hv
  have hx := B.exec
  have hb := B.bytes
  have hr := B.returns
  have hts := atoms_spec (ws := (ws_ yX5_become cX5_become 3 none)) B.pre
  have hts : ∀ w ∈ lw_all, w.before _ s = true := fun w h => hts w (List.mem_cons_of_mem _ h)
  have hown : s.vm.findClass RX5 = some m.cls := findClass_of_methodNamed B.named
  have hlocks := B.notSynchronized
  subst hsz
  have hD := hD0.self (sz := s.heap.size)
  generalize hAe : va_A [(h0, .inr (4, oX5 r0 (tu (tu (tu (tu (tu (tu (tu i0 9 minute_2) 10 v_lost_2) 11 slid_2) 12 slidNow_2) 13 rounds_2) 14 came_2) 15 plan_2) (tul j0 16 chance_2))), ((r0 0), .inl (ar 0, 64, .inl height_2)), ((r0 1), .inl (ar 0, 64, .inl wet_2)), ((r0 2), .inl (ar 0, 64, .inl pack_2)), ((r0 7), .inl (ar 2, 64, .inl stone_2)), ((r0 3), .inl (ar 0, 4, .inl nextAct_2)), ((r0 4), .inl (ar 0, 4, .inl done_2)), ((r0 8), .inl (ar 2, 4, .inl isResting_2)), ((r0 5), .inl (ar 0, 3, .inl putUp_2)), ((r0 6), .inl (ar 0, 3, .inl fell_2))] s.heap.size = A at hD hR hX hE ⊢
  have hA : ∀ q : Nat, s.heap.size ≤ q → A q := fun q h => by rw [← hAe]; exact Or.inr h
  have hS : va_S A s.heap s.heap [] := va_S.rf
  have hK := hE.1
  have hl := lv_entry ([.ref h0, .ref h1]) (n := 3) (Nat.le_of_ble_eq_true rfl)
  rw [lg_entry_eq]
  generalize (lg_sl ([.ref h0, .ref h1]) ++ List.replicate (3 - (lg_sl ([.ref h0, .ref h1])).length) Slot.unset).toArray = ls at hl ⊢
  have hl : lv_has ls 3 [(0, .ref h0), (1, .ref h1)] := hl
  have hP : va_P D tkCl [(h0, .inr (4, oX5 r0 (tu (tu (tu (tu (tu (tu (tu i0 9 minute_2) 10 v_lost_2) 11 slid_2) 12 slidNow_2) 13 rounds_2) 14 came_2) 15 plan_2) (tul j0 16 chance_2))), ((r0 0), .inl (ar 0, 64, .inl height_2)), ((r0 1), .inl (ar 0, 64, .inl wet_2)), ((r0 2), .inl (ar 0, 64, .inl pack_2)), ((r0 7), .inl (ar 2, 64, .inl stone_2)), ((r0 3), .inl (ar 0, 4, .inl nextAct_2)), ((r0 4), .inl (ar 0, 4, .inl done_2)), ((r0 8), .inl (ar 2, 4, .inl isResting_2)), ((r0 5), .inl (ar 0, 3, .inl putUp_2)), ((r0 6), .inl (ar 0, 3, .inl fell_2))] s.heap := hP
  obtain ⟨n0, hF⟩ : ∃ n, tk_k (stX5_become minute v_lost slid slidNow rounds came plan chance height wet pack stone nextAct done isResting putUp fell) n (bX5_become_0 minute v_lost slid slidNow rounds came plan chance height wet pack stone nextAct done isResting putUp fell minute_2 v_lost_2 slid_2 slidNow_2 rounds_2 came_2 plan_2 chance_2 height_2 wet_2 pack_2 stone_2 nextAct_2 done_2 isResting_2 putUp_2 fell_2) = some o := tk_fin_it hF
  have key : ∀ n : Nat, (∀ (x2 minute_2 v_lost_2 slid_2 slidNow_2 rounds_2 came_2 plan_2 : Int32) (chance_2 : Int64) (height_2 wet_2 pack_2 stone_2 nextAct_2 done_2 isResting_2 putUp_2 fell_2 : Nat → Int32) (H : Heap) (locs : List Loc) (ls : Array Slot), tk_it (stX5_become minute v_lost slid slidNow rounds came plan chance height wet pack stone nextAct done isResting putUp fell) n (1, (x2, minute_2, v_lost_2, slid_2, slidNow_2, rounds_2, came_2, plan_2, chance_2, height_2, wet_2, pack_2, stone_2, nextAct_2, done_2, isResting_2, putUp_2, fell_2)) = some o → va_P D tkCl [(h0, .inr (4, oX5 r0 (tu (tu (tu (tu (tu (tu (tu i0 9 minute_2) 10 v_lost_2) 11 slid_2) 12 slidNow_2) 13 rounds_2) 14 came_2) 15 plan_2) (tul j0 16 chance_2))), ((r0 0), .inl (ar 0, 64, .inl height_2)), ((r0 1), .inl (ar 0, 64, .inl wet_2)), ((r0 2), .inl (ar 0, 64, .inl pack_2)), ((r0 7), .inl (ar 2, 64, .inl stone_2)), ((r0 3), .inl (ar 0, 4, .inl nextAct_2)), ((r0 4), .inl (ar 0, 4, .inl done_2)), ((r0 8), .inl (ar 2, 4, .inl isResting_2)), ((r0 5), .inl (ar 0, 3, .inl putUp_2)), ((r0 6), .inl (ar 0, 3, .inl fell_2))] H → va_D A [(h0, .inr (4, oX5 r0 (tu (tu (tu (tu (tu (tu (tu i0 9 minute_2) 10 v_lost_2) 11 slid_2) 12 slidNow_2) 13 rounds_2) 14 came_2) 15 plan_2) (tul j0 16 chance_2))), ((r0 0), .inl (ar 0, 64, .inl height_2)), ((r0 1), .inl (ar 0, 64, .inl wet_2)), ((r0 2), .inl (ar 0, 64, .inl pack_2)), ((r0 7), .inl (ar 2, 64, .inl stone_2)), ((r0 3), .inl (ar 0, 4, .inl nextAct_2)), ((r0 4), .inl (ar 0, 4, .inl done_2)), ((r0 8), .inl (ar 2, 4, .inl isResting_2)), ((r0 5), .inl (ar 0, 3, .inl putUp_2)), ((r0 6), .inl (ar 0, 3, .inl fell_2))] → va_S A s.heap H locs → lv_has ls 3 [(0, .ref h0), (1, .ref h1), (2, .int x2)] → W p l e (headSpec (ws_ yX5_become cX5_become 3 none) ({ frames := 0, cells := 0, slots := 0, locals := 0 })).room s m ([.ref h0, .ref h1] : List Value).toArray below meth c H locs 0 0 (MQ below (va_Qv (fun _ : Unit => True) (fun _ t => tk_Post D A [(h0, .inr (4, oX5 r0 (tu (tu (tu (tu (tu (tu (tu i0 9 o.1) 10 o.2.1) 11 o.2.2.1) 12 o.2.2.2.1) 13 o.2.2.2.2.1) 14 o.2.2.2.2.2.1) 15 o.2.2.2.2.2.2.1) (tul j0 16 o.2.2.2.2.2.2.2.1))), ((r0 0), .inl (ar 0, 64, .inl o.2.2.2.2.2.2.2.2.1)), ((r0 1), .inl (ar 0, 64, .inl o.2.2.2.2.2.2.2.2.2.1)), ((r0 2), .inl (ar 0, 64, .inl o.2.2.2.2.2.2.2.2.2.2.1)), ((r0 7), .inl (ar 2, 64, .inl o.2.2.2.2.2.2.2.2.2.2.2.1)), ((r0 3), .inl (ar 0, 4, .inl o.2.2.2.2.2.2.2.2.2.2.2.2.1)), ((r0 4), .inl (ar 0, 4, .inl o.2.2.2.2.2.2.2.2.2.2.2.2.2.1)), ((r0 8), .inl (ar 2, 4, .inl o.2.2.2.2.2.2.2.2.2.2.2.2.2.2.1)), ((r0 5), .inl (ar 0, 3, .inl o.2.2.2.2.2.2.2.2.2.2.2.2.2.2.2.1)), ((r0 6), .inl (ar 0, 3, .inl o.2.2.2.2.2.2.2.2.2.2.2.2.2.2.2.2))] t) A) ([.ref h0, .ref h1] : List Value).toArray s 0 0 A) (F0 m 2 ls [])) ∧ (∀ (x2 minute_2 v_lost_2 slid_2 slidNow_2 rounds_2 came_2 plan_2 : Int32) (chance_2 : Int64) (height_2 wet_2 pack_2 stone_2 nextAct_2 done_2 isResting_2 putUp_2 fell_2 : Nat → Int32) (H : Heap) (locs : List Loc) (ls : Array Slot), tk_it (stX5_become minute v_lost slid slidNow rounds came plan chance height wet pack stone nextAct done isResting putUp fell) n (2, (x2, minute_2, v_lost_2, slid_2, slidNow_2, rounds_2, came_2, plan_2, chance_2, height_2, wet_2, pack_2, stone_2, nextAct_2, done_2, isResting_2, putUp_2, fell_2)) = some o → va_P D tkCl [(h0, .inr (4, oX5 r0 (tu (tu (tu (tu (tu (tu (tu i0 9 minute_2) 10 v_lost_2) 11 slid_2) 12 slidNow_2) 13 rounds_2) 14 came_2) 15 plan_2) (tul j0 16 chance_2))), ((r0 0), .inl (ar 0, 64, .inl height_2)), ((r0 1), .inl (ar 0, 64, .inl wet_2)), ((r0 2), .inl (ar 0, 64, .inl pack_2)), ((r0 7), .inl (ar 2, 64, .inl stone_2)), ((r0 3), .inl (ar 0, 4, .inl nextAct_2)), ((r0 4), .inl (ar 0, 4, .inl done_2)), ((r0 8), .inl (ar 2, 4, .inl isResting_2)), ((r0 5), .inl (ar 0, 3, .inl putUp_2)), ((r0 6), .inl (ar 0, 3, .inl fell_2))] H → va_D A [(h0, .inr (4, oX5 r0 (tu (tu (tu (tu (tu (tu (tu i0 9 minute_2) 10 v_lost_2) 11 slid_2) 12 slidNow_2) 13 rounds_2) 14 came_2) 15 plan_2) (tul j0 16 chance_2))), ((r0 0), .inl (ar 0, 64, .inl height_2)), ((r0 1), .inl (ar 0, 64, .inl wet_2)), ((r0 2), .inl (ar 0, 64, .inl pack_2)), ((r0 7), .inl (ar 2, 64, .inl stone_2)), ((r0 3), .inl (ar 0, 4, .inl nextAct_2)), ((r0 4), .inl (ar 0, 4, .inl done_2)), ((r0 8), .inl (ar 2, 4, .inl isResting_2)), ((r0 5), .inl (ar 0, 3, .inl putUp_2)), ((r0 6), .inl (ar 0, 3, .inl fell_2))] → va_S A s.heap H locs → lv_has ls 3 [(0, .ref h0), (1, .ref h1), (2, .int x2)] → W p l e (headSpec (ws_ yX5_become cX5_become 3 none) ({ frames := 0, cells := 0, slots := 0, locals := 0 })).room s m ([.ref h0, .ref h1] : List Value).toArray below meth c H locs 0 0 (MQ below (va_Qv (fun _ : Unit => True) (fun _ t => tk_Post D A [(h0, .inr (4, oX5 r0 (tu (tu (tu (tu (tu (tu (tu i0 9 o.1) 10 o.2.1) 11 o.2.2.1) 12 o.2.2.2.1) 13 o.2.2.2.2.1) 14 o.2.2.2.2.2.1) 15 o.2.2.2.2.2.2.1) (tul j0 16 o.2.2.2.2.2.2.2.1))), ((r0 0), .inl (ar 0, 64, .inl o.2.2.2.2.2.2.2.2.1)), ((r0 1), .inl (ar 0, 64, .inl o.2.2.2.2.2.2.2.2.2.1)), ((r0 2), .inl (ar 0, 64, .inl o.2.2.2.2.2.2.2.2.2.2.1)), ((r0 7), .inl (ar 2, 64, .inl o.2.2.2.2.2.2.2.2.2.2.2.1)), ((r0 3), .inl (ar 0, 4, .inl o.2.2.2.2.2.2.2.2.2.2.2.2.1)), ((r0 4), .inl (ar 0, 4, .inl o.2.2.2.2.2.2.2.2.2.2.2.2.2.1)), ((r0 8), .inl (ar 2, 4, .inl o.2.2.2.2.2.2.2.2.2.2.2.2.2.2.1)), ((r0 5), .inl (ar 0, 3, .inl o.2.2.2.2.2.2.2.2.2.2.2.2.2.2.2.1)), ((r0 6), .inl (ar 0, 3, .inl o.2.2.2.2.2.2.2.2.2.2.2.2.2.2.2.2))] t) A) ([.ref h0, .ref h1] : List Value).toArray s 0 0 A) (F0 m 64 ls [])) ∧ (∀ (x2 minute_2 v_lost_2 slid_2 slidNow_2 rounds_2 came_2 plan_2 : Int32) (chance_2 : Int64) (height_2 wet_2 pack_2 stone_2 nextAct_2 done_2 isResting_2 putUp_2 fell_2 : Nat → Int32) (H : Heap) (locs : List Loc) (ls : Array Slot), tk_it (stX5_become minute v_lost slid slidNow rounds came plan chance height wet pack stone nextAct done isResting putUp fell) n (3, (x2, minute_2, v_lost_2, slid_2, slidNow_2, rounds_2, came_2, plan_2, chance_2, height_2, wet_2, pack_2, stone_2, nextAct_2, done_2, isResting_2, putUp_2, fell_2)) = some o → va_P D tkCl [(h0, .inr (4, oX5 r0 (tu (tu (tu (tu (tu (tu (tu i0 9 minute_2) 10 v_lost_2) 11 slid_2) 12 slidNow_2) 13 rounds_2) 14 came_2) 15 plan_2) (tul j0 16 chance_2))), ((r0 0), .inl (ar 0, 64, .inl height_2)), ((r0 1), .inl (ar 0, 64, .inl wet_2)), ((r0 2), .inl (ar 0, 64, .inl pack_2)), ((r0 7), .inl (ar 2, 64, .inl stone_2)), ((r0 3), .inl (ar 0, 4, .inl nextAct_2)), ((r0 4), .inl (ar 0, 4, .inl done_2)), ((r0 8), .inl (ar 2, 4, .inl isResting_2)), ((r0 5), .inl (ar 0, 3, .inl putUp_2)), ((r0 6), .inl (ar 0, 3, .inl fell_2))] H → va_D A [(h0, .inr (4, oX5 r0 (tu (tu (tu (tu (tu (tu (tu i0 9 minute_2) 10 v_lost_2) 11 slid_2) 12 slidNow_2) 13 rounds_2) 14 came_2) 15 plan_2) (tul j0 16 chance_2))), ((r0 0), .inl (ar 0, 64, .inl height_2)), ((r0 1), .inl (ar 0, 64, .inl wet_2)), ((r0 2), .inl (ar 0, 64, .inl pack_2)), ((r0 7), .inl (ar 2, 64, .inl stone_2)), ((r0 3), .inl (ar 0, 4, .inl nextAct_2)), ((r0 4), .inl (ar 0, 4, .inl done_2)), ((r0 8), .inl (ar 2, 4, .inl isResting_2)), ((r0 5), .inl (ar 0, 3, .inl putUp_2)), ((r0 6), .inl (ar 0, 3, .inl fell_2))] → va_S A s.heap H locs → lv_has ls 3 [(0, .ref h0), (1, .ref h1), (2, .int x2)] → W p l e (headSpec (ws_ yX5_become cX5_become 3 none) ({ frames := 0, cells := 0, slots := 0, locals := 0 })).room s m ([.ref h0, .ref h1] : List Value).toArray below meth c H locs 0 0 (MQ below (va_Qv (fun _ : Unit => True) (fun _ t => tk_Post D A [(h0, .inr (4, oX5 r0 (tu (tu (tu (tu (tu (tu (tu i0 9 o.1) 10 o.2.1) 11 o.2.2.1) 12 o.2.2.2.1) 13 o.2.2.2.2.1) 14 o.2.2.2.2.2.1) 15 o.2.2.2.2.2.2.1) (tul j0 16 o.2.2.2.2.2.2.2.1))), ((r0 0), .inl (ar 0, 64, .inl o.2.2.2.2.2.2.2.2.1)), ((r0 1), .inl (ar 0, 64, .inl o.2.2.2.2.2.2.2.2.2.1)), ((r0 2), .inl (ar 0, 64, .inl o.2.2.2.2.2.2.2.2.2.2.1)), ((r0 7), .inl (ar 2, 64, .inl o.2.2.2.2.2.2.2.2.2.2.2.1)), ((r0 3), .inl (ar 0, 4, .inl o.2.2.2.2.2.2.2.2.2.2.2.2.1)), ((r0 4), .inl (ar 0, 4, .inl o.2.2.2.2.2.2.2.2.2.2.2.2.2.1)), ((r0 8), .inl (ar 2, 4, .inl o.2.2.2.2.2.2.2.2.2.2.2.2.2.2.1)), ((r0 5), .inl (ar 0, 3, .inl o.2.2.2.2.2.2.2.2.2.2.2.2.2.2.2.1)), ((r0 6), .inl (ar 0, 3, .inl o.2.2.2.2.2.2.2.2.2.2.2.2.2.2.2.2))] t) A) ([.ref h0, .ref h1] : List Value).toArray s 0 0 A) (F0 m 113 ls [])) := by
    intro n
    induction n with
    | zero => exact ⟨fun x2 minute_2 v_lost_2 slid_2 slidNow_2 rounds_2 came_2 plan_2 chance_2 height_2 wet_2 pack_2 stone_2 nextAct_2 done_2 isResting_2 putUp_2 fell_2 H locs ls hF => (by cases hF), fun x2 minute_2 v_lost_2 slid_2 slidNow_2 rounds_2 came_2 plan_2 chance_2 height_2 wet_2 pack_2 stone_2 nextAct_2 done_2 isResting_2 putUp_2 fell_2 H locs ls hF => (by cases hF), fun x2 minute_2 v_lost_2 slid_2 slidNow_2 rounds_2 came_2 plan_2 chance_2 height_2 wet_2 pack_2 stone_2 nextAct_2 done_2 isResting_2 putUp_2 fell_2 H locs ls hF => (by cases hF)⟩
    | succ n ih =>
      obtain ⟨ih2, ih64, ih113⟩ := ih
      refine ⟨?_, ?_, ?_⟩
      · intro x2 minute_2 v_lost_2 slid_2 slidNow_2 rounds_2 came_2 plan_2 chance_2 height_2 wet_2 pack_2 stone_2 nextAct_2 done_2 isResting_2 putUp_2 fell_2 H locs ls hF hP hD hS hl
        have hF : tk_k (stX5_become minute v_lost slid slidNow rounds came plan chance height wet pack stone nextAct done isResting putUp fell) n (bX5_become_1 minute v_lost slid slidNow rounds came plan chance height wet pack stone nextAct done isResting putUp fell x2 minute_2 v_lost_2 slid_2 slidNow_2 rounds_2 came_2 plan_2 chance_2 height_2 wet_2 pack_2 stone_2 nextAct_2 done_2 isResting_2 putUp_2 fell_2) = some o := hF
        unfold bX5_become_1 at hF
        refine lv_iload_n hx hb dX5_become_2 rfl (lv_at hl 2 rfl) ?_
        refine lv_bipush (v := 64) hx hb dX5_become_3 (by decide) ?_
        refine lv_icmp_ge (tgt := 62) hx hb dX5_become_5 (by decide) (fun c1 => ?_) (fun c1 => ?_)
        · have hF := tk_kt hF c1
          refine lv_iconst (v := 0) hx hb dX5_become_62 (by decide) ?_
          refine lv_istore_n (lv' := [(2, .int 0), (0, .ref h0), (1, .ref h1)]) hx hb dX5_become_63 rfl hl (Nat.le_of_ble_eq_true rfl) rfl (fun ls hl => ?_)
          exact ih64 0 minute_2 v_lost_2 slid_2 slidNow_2 rounds_2 came_2 plan_2 chance_2 height_2 wet_2 pack_2 stone_2 nextAct_2 done_2 isResting_2 putUp_2 fell_2 _ _ _ hF hP hD hS (lv_sub hl [1, 2, 0] rfl)
        · have hF := tk_kf hF c1
          refine lv_aload_n hx hb dX5_become_8 rfl (lv_at hl 0 rfl) ?_
          refine va_get (D := D) (ci := 4) (v := .ref (r0 0)) (C := RX5) (T := TX5) (N := 18) hx hb hts in_X5 hown hK hP 0 rfl rfl 0 (by decide) (hts _ q355) (fun _ h9 => h9) rfl dX5_become_9 ?_
          refine lv_iload_n hx hb dX5_become_12 rfl (lv_at hl 2 rfl) ?_
          refine lv_aload_n hx hb dX5_become_13 rfl (lv_at hl 1 rfl) ?_
          refine va_get (D := D) (ci := 4) (v := .ref (r1 0)) (C := RX5) (T := TX5) (N := 18) hx hb hts in_X5 hown hK (hR.at hS) 0 rfl rfl 0 (by decide) (hts _ q355) (fun _ h9 => h9) rfl dX5_become_14 ?_
          refine lv_iload_n hx hb dX5_become_17 rfl (lv_at hl 2 rfl) ?_
          obtain ⟨gd2, hF⟩ := tk_kg hF
          refine va_iald hx hb hK (hR.at hS) 1 0 rfl rfl gd2 dX5_become_18 ?_
          refine va_iast hx hb hK hP hD hS 1 0 rfl rfl gd2 dX5_become_19 (fun H locs hP hD hS => ?_)
          have hP : va_P D tkCl [(h0, .inr (4, oX5 r0 (tu (tu (tu (tu (tu (tu (tu i0 9 minute_2) 10 v_lost_2) 11 slid_2) 12 slidNow_2) 13 rounds_2) 14 came_2) 15 plan_2) (tul j0 16 chance_2))), ((r0 0), .inl (ar 0, 64, .inl (upd height_2 x2.toNatClampNeg (height x2.toNatClampNeg)))), ((r0 1), .inl (ar 0, 64, .inl wet_2)), ((r0 2), .inl (ar 0, 64, .inl pack_2)), ((r0 7), .inl (ar 2, 64, .inl stone_2)), ((r0 3), .inl (ar 0, 4, .inl nextAct_2)), ((r0 4), .inl (ar 0, 4, .inl done_2)), ((r0 8), .inl (ar 2, 4, .inl isResting_2)), ((r0 5), .inl (ar 0, 3, .inl putUp_2)), ((r0 6), .inl (ar 0, 3, .inl fell_2))] H := hP
          have hD : va_D A [(h0, .inr (4, oX5 r0 (tu (tu (tu (tu (tu (tu (tu i0 9 minute_2) 10 v_lost_2) 11 slid_2) 12 slidNow_2) 13 rounds_2) 14 came_2) 15 plan_2) (tul j0 16 chance_2))), ((r0 0), .inl (ar 0, 64, .inl (upd height_2 x2.toNatClampNeg (height x2.toNatClampNeg)))), ((r0 1), .inl (ar 0, 64, .inl wet_2)), ((r0 2), .inl (ar 0, 64, .inl pack_2)), ((r0 7), .inl (ar 2, 64, .inl stone_2)), ((r0 3), .inl (ar 0, 4, .inl nextAct_2)), ((r0 4), .inl (ar 0, 4, .inl done_2)), ((r0 8), .inl (ar 2, 4, .inl isResting_2)), ((r0 5), .inl (ar 0, 3, .inl putUp_2)), ((r0 6), .inl (ar 0, 3, .inl fell_2))] := hD
          refine lv_aload_n hx hb dX5_become_20 rfl (lv_at hl 0 rfl) ?_
          refine va_get (D := D) (ci := 4) (v := .ref (r0 1)) (C := RX5) (T := TX5) (N := 18) hx hb hts in_X5 hown hK hP 0 rfl rfl 1 (by decide) (hts _ q357) (fun _ h9 => h9) rfl dX5_become_21 ?_
          refine lv_iload_n hx hb dX5_become_24 rfl (lv_at hl 2 rfl) ?_
          refine lv_aload_n hx hb dX5_become_25 rfl (lv_at hl 1 rfl) ?_
          refine va_get (D := D) (ci := 4) (v := .ref (r1 1)) (C := RX5) (T := TX5) (N := 18) hx hb hts in_X5 hown hK (hR.at hS) 0 rfl rfl 1 (by decide) (hts _ q357) (fun _ h9 => h9) rfl dX5_become_26 ?_
          refine lv_iload_n hx hb dX5_become_29 rfl (lv_at hl 2 rfl) ?_
          refine va_iald hx hb hK (hR.at hS) 2 0 rfl rfl gd2 dX5_become_30 ?_
          refine va_iast hx hb hK hP hD hS 2 0 rfl rfl gd2 dX5_become_31 (fun H locs hP hD hS => ?_)
          have hP : va_P D tkCl [(h0, .inr (4, oX5 r0 (tu (tu (tu (tu (tu (tu (tu i0 9 minute_2) 10 v_lost_2) 11 slid_2) 12 slidNow_2) 13 rounds_2) 14 came_2) 15 plan_2) (tul j0 16 chance_2))), ((r0 0), .inl (ar 0, 64, .inl (upd height_2 x2.toNatClampNeg (height x2.toNatClampNeg)))), ((r0 1), .inl (ar 0, 64, .inl (upd wet_2 x2.toNatClampNeg (wet x2.toNatClampNeg)))), ((r0 2), .inl (ar 0, 64, .inl pack_2)), ((r0 7), .inl (ar 2, 64, .inl stone_2)), ((r0 3), .inl (ar 0, 4, .inl nextAct_2)), ((r0 4), .inl (ar 0, 4, .inl done_2)), ((r0 8), .inl (ar 2, 4, .inl isResting_2)), ((r0 5), .inl (ar 0, 3, .inl putUp_2)), ((r0 6), .inl (ar 0, 3, .inl fell_2))] H := hP
          have hD : va_D A [(h0, .inr (4, oX5 r0 (tu (tu (tu (tu (tu (tu (tu i0 9 minute_2) 10 v_lost_2) 11 slid_2) 12 slidNow_2) 13 rounds_2) 14 came_2) 15 plan_2) (tul j0 16 chance_2))), ((r0 0), .inl (ar 0, 64, .inl (upd height_2 x2.toNatClampNeg (height x2.toNatClampNeg)))), ((r0 1), .inl (ar 0, 64, .inl (upd wet_2 x2.toNatClampNeg (wet x2.toNatClampNeg)))), ((r0 2), .inl (ar 0, 64, .inl pack_2)), ((r0 7), .inl (ar 2, 64, .inl stone_2)), ((r0 3), .inl (ar 0, 4, .inl nextAct_2)), ((r0 4), .inl (ar 0, 4, .inl done_2)), ((r0 8), .inl (ar 2, 4, .inl isResting_2)), ((r0 5), .inl (ar 0, 3, .inl putUp_2)), ((r0 6), .inl (ar 0, 3, .inl fell_2))] := hD
          refine lv_aload_n hx hb dX5_become_32 rfl (lv_at hl 0 rfl) ?_
          refine va_get (D := D) (ci := 4) (v := .ref (r0 2)) (C := RX5) (T := TX5) (N := 18) hx hb hts in_X5 hown hK hP 0 rfl rfl 2 (by decide) (hts _ q359) (fun _ h9 => h9) rfl dX5_become_33 ?_
          refine lv_iload_n hx hb dX5_become_36 rfl (lv_at hl 2 rfl) ?_
          refine lv_aload_n hx hb dX5_become_37 rfl (lv_at hl 1 rfl) ?_
          refine va_get (D := D) (ci := 4) (v := .ref (r1 2)) (C := RX5) (T := TX5) (N := 18) hx hb hts in_X5 hown hK (hR.at hS) 0 rfl rfl 2 (by decide) (hts _ q359) (fun _ h9 => h9) rfl dX5_become_38 ?_
          refine lv_iload_n hx hb dX5_become_41 rfl (lv_at hl 2 rfl) ?_
          refine va_iald hx hb hK (hR.at hS) 3 0 rfl rfl gd2 dX5_become_42 ?_
          refine va_iast hx hb hK hP hD hS 3 0 rfl rfl gd2 dX5_become_43 (fun H locs hP hD hS => ?_)
          have hP : va_P D tkCl [(h0, .inr (4, oX5 r0 (tu (tu (tu (tu (tu (tu (tu i0 9 minute_2) 10 v_lost_2) 11 slid_2) 12 slidNow_2) 13 rounds_2) 14 came_2) 15 plan_2) (tul j0 16 chance_2))), ((r0 0), .inl (ar 0, 64, .inl (upd height_2 x2.toNatClampNeg (height x2.toNatClampNeg)))), ((r0 1), .inl (ar 0, 64, .inl (upd wet_2 x2.toNatClampNeg (wet x2.toNatClampNeg)))), ((r0 2), .inl (ar 0, 64, .inl (upd pack_2 x2.toNatClampNeg (pack x2.toNatClampNeg)))), ((r0 7), .inl (ar 2, 64, .inl stone_2)), ((r0 3), .inl (ar 0, 4, .inl nextAct_2)), ((r0 4), .inl (ar 0, 4, .inl done_2)), ((r0 8), .inl (ar 2, 4, .inl isResting_2)), ((r0 5), .inl (ar 0, 3, .inl putUp_2)), ((r0 6), .inl (ar 0, 3, .inl fell_2))] H := hP
          have hD : va_D A [(h0, .inr (4, oX5 r0 (tu (tu (tu (tu (tu (tu (tu i0 9 minute_2) 10 v_lost_2) 11 slid_2) 12 slidNow_2) 13 rounds_2) 14 came_2) 15 plan_2) (tul j0 16 chance_2))), ((r0 0), .inl (ar 0, 64, .inl (upd height_2 x2.toNatClampNeg (height x2.toNatClampNeg)))), ((r0 1), .inl (ar 0, 64, .inl (upd wet_2 x2.toNatClampNeg (wet x2.toNatClampNeg)))), ((r0 2), .inl (ar 0, 64, .inl (upd pack_2 x2.toNatClampNeg (pack x2.toNatClampNeg)))), ((r0 7), .inl (ar 2, 64, .inl stone_2)), ((r0 3), .inl (ar 0, 4, .inl nextAct_2)), ((r0 4), .inl (ar 0, 4, .inl done_2)), ((r0 8), .inl (ar 2, 4, .inl isResting_2)), ((r0 5), .inl (ar 0, 3, .inl putUp_2)), ((r0 6), .inl (ar 0, 3, .inl fell_2))] := hD
          refine lv_aload_n hx hb dX5_become_44 rfl (lv_at hl 0 rfl) ?_
          refine va_get (D := D) (ci := 4) (v := .ref (r0 7)) (C := RX5) (T := TX5) (N := 18) hx hb hts in_X5 hown hK hP 0 rfl rfl 7 (by decide) (hts _ q367) (fun _ h9 => h9) rfl dX5_become_45 ?_
          refine lv_iload_n hx hb dX5_become_48 rfl (lv_at hl 2 rfl) ?_
          refine lv_aload_n hx hb dX5_become_49 rfl (lv_at hl 1 rfl) ?_
          refine va_get (D := D) (ci := 4) (v := .ref (r1 7)) (C := RX5) (T := TX5) (N := 18) hx hb hts in_X5 hown hK (hR.at hS) 0 rfl rfl 7 (by decide) (hts _ q367) (fun _ h9 => h9) rfl dX5_become_50 ?_
          refine lv_iload_n hx hb dX5_become_53 rfl (lv_at hl 2 rfl) ?_
          refine va_zald hx hb hK (hR.at hS) 4 2 rfl rfl gd2 dX5_become_54 ?_
          refine va_zast hx hb hK hP hD hS 4 2 rfl rfl gd2 dX5_become_55 (fun H locs hP hD hS => ?_)
          obtain ⟨y3, ey3, hF⟩ := tk_kl hF
          have hP : va_P D tkCl [(h0, .inr (4, oX5 r0 (tu (tu (tu (tu (tu (tu (tu i0 9 minute_2) 10 v_lost_2) 11 slid_2) 12 slidNow_2) 13 rounds_2) 14 came_2) 15 plan_2) (tul j0 16 chance_2))), ((r0 0), .inl (ar 0, 64, .inl (upd height_2 x2.toNatClampNeg (height x2.toNatClampNeg)))), ((r0 1), .inl (ar 0, 64, .inl (upd wet_2 x2.toNatClampNeg (wet x2.toNatClampNeg)))), ((r0 2), .inl (ar 0, 64, .inl (upd pack_2 x2.toNatClampNeg (pack x2.toNatClampNeg)))), ((r0 7), .inl (ar 2, 64, .inl y3)), ((r0 3), .inl (ar 0, 4, .inl nextAct_2)), ((r0 4), .inl (ar 0, 4, .inl done_2)), ((r0 8), .inl (ar 2, 4, .inl isResting_2)), ((r0 5), .inl (ar 0, 3, .inl putUp_2)), ((r0 6), .inl (ar 0, 3, .inl fell_2))] H := by rw [ey3]; exact hP
          have hD : va_D A [(h0, .inr (4, oX5 r0 (tu (tu (tu (tu (tu (tu (tu i0 9 minute_2) 10 v_lost_2) 11 slid_2) 12 slidNow_2) 13 rounds_2) 14 came_2) 15 plan_2) (tul j0 16 chance_2))), ((r0 0), .inl (ar 0, 64, .inl (upd height_2 x2.toNatClampNeg (height x2.toNatClampNeg)))), ((r0 1), .inl (ar 0, 64, .inl (upd wet_2 x2.toNatClampNeg (wet x2.toNatClampNeg)))), ((r0 2), .inl (ar 0, 64, .inl (upd pack_2 x2.toNatClampNeg (pack x2.toNatClampNeg)))), ((r0 7), .inl (ar 2, 64, .inl y3)), ((r0 3), .inl (ar 0, 4, .inl nextAct_2)), ((r0 4), .inl (ar 0, 4, .inl done_2)), ((r0 8), .inl (ar 2, 4, .inl isResting_2)), ((r0 5), .inl (ar 0, 3, .inl putUp_2)), ((r0 6), .inl (ar 0, 3, .inl fell_2))] := by rw [ey3]; exact hD
          refine lv_iinc (v := x2 + 1) (lv' := [(2, .int (x2 + 1)), (0, .ref h0), (1, .ref h1)]) hx hb dX5_become_56 hl (k := 2) rfl (congrArg (fun z => x2 + z) (show Int32.ofInt 1 = 1 by decide)) (Nat.le_of_ble_eq_true rfl) rfl (fun ls hl => ?_)
          refine lv_goto (tgt := 2) hx hb dX5_become_59 (by decide) ?_
          exact ih2 (x2 + 1) minute_2 v_lost_2 slid_2 slidNow_2 rounds_2 came_2 plan_2 chance_2 (upd height_2 x2.toNatClampNeg (height x2.toNatClampNeg)) (upd wet_2 x2.toNatClampNeg (wet x2.toNatClampNeg)) (upd pack_2 x2.toNatClampNeg (pack x2.toNatClampNeg)) y3 nextAct_2 done_2 isResting_2 putUp_2 fell_2 _ _ _ hF hP hD hS (lv_sub hl [1, 2, 0] rfl)
      · intro x2 minute_2 v_lost_2 slid_2 slidNow_2 rounds_2 came_2 plan_2 chance_2 height_2 wet_2 pack_2 stone_2 nextAct_2 done_2 isResting_2 putUp_2 fell_2 H locs ls hF hP hD hS hl
        have hF : tk_k (stX5_become minute v_lost slid slidNow rounds came plan chance height wet pack stone nextAct done isResting putUp fell) n (bX5_become_2 minute v_lost slid slidNow rounds came plan chance height wet pack stone nextAct done isResting putUp fell x2 minute_2 v_lost_2 slid_2 slidNow_2 rounds_2 came_2 plan_2 chance_2 height_2 wet_2 pack_2 stone_2 nextAct_2 done_2 isResting_2 putUp_2 fell_2) = some o := hF
        unfold bX5_become_2 at hF
        refine lv_iload_n hx hb dX5_become_64 rfl (lv_at hl 2 rfl) ?_
        refine lv_iconst (v := 4) hx hb dX5_become_65 (by decide) ?_
        refine lv_icmp_ge (tgt := 111) hx hb dX5_become_66 (by decide) (fun c4 => ?_) (fun c4 => ?_)
        · have hF := tk_kt hF c4
          refine lv_iconst (v := 0) hx hb dX5_become_111 (by decide) ?_
          refine lv_istore_n (lv' := [(2, .int 0), (0, .ref h0), (1, .ref h1)]) hx hb dX5_become_112 rfl hl (Nat.le_of_ble_eq_true rfl) rfl (fun ls hl => ?_)
          exact ih113 0 minute_2 v_lost_2 slid_2 slidNow_2 rounds_2 came_2 plan_2 chance_2 height_2 wet_2 pack_2 stone_2 nextAct_2 done_2 isResting_2 putUp_2 fell_2 _ _ _ hF hP hD hS (lv_sub hl [1, 2, 0] rfl)
        · have hF := tk_kf hF c4
          refine lv_aload_n hx hb dX5_become_69 rfl (lv_at hl 0 rfl) ?_
          refine va_get (D := D) (ci := 4) (v := .ref (r0 3)) (C := RX5) (T := TX5) (N := 18) hx hb hts in_X5 hown hK hP 0 rfl rfl 3 (by decide) (hts _ q361) (fun _ h9 => h9) rfl dX5_become_70 ?_
          refine lv_iload_n hx hb dX5_become_73 rfl (lv_at hl 2 rfl) ?_
          refine lv_aload_n hx hb dX5_become_74 rfl (lv_at hl 1 rfl) ?_
          refine va_get (D := D) (ci := 4) (v := .ref (r1 3)) (C := RX5) (T := TX5) (N := 18) hx hb hts in_X5 hown hK (hR.at hS) 0 rfl rfl 3 (by decide) (hts _ q361) (fun _ h9 => h9) rfl dX5_become_75 ?_
          refine lv_iload_n hx hb dX5_become_78 rfl (lv_at hl 2 rfl) ?_
          obtain ⟨gd5, hF⟩ := tk_kg hF
          refine va_iald hx hb hK (hR.at hS) 5 0 rfl rfl gd5 dX5_become_79 ?_
          refine va_iast hx hb hK hP hD hS 5 0 rfl rfl gd5 dX5_become_80 (fun H locs hP hD hS => ?_)
          have hP : va_P D tkCl [(h0, .inr (4, oX5 r0 (tu (tu (tu (tu (tu (tu (tu i0 9 minute_2) 10 v_lost_2) 11 slid_2) 12 slidNow_2) 13 rounds_2) 14 came_2) 15 plan_2) (tul j0 16 chance_2))), ((r0 0), .inl (ar 0, 64, .inl height_2)), ((r0 1), .inl (ar 0, 64, .inl wet_2)), ((r0 2), .inl (ar 0, 64, .inl pack_2)), ((r0 7), .inl (ar 2, 64, .inl stone_2)), ((r0 3), .inl (ar 0, 4, .inl (upd nextAct_2 x2.toNatClampNeg (nextAct x2.toNatClampNeg)))), ((r0 4), .inl (ar 0, 4, .inl done_2)), ((r0 8), .inl (ar 2, 4, .inl isResting_2)), ((r0 5), .inl (ar 0, 3, .inl putUp_2)), ((r0 6), .inl (ar 0, 3, .inl fell_2))] H := hP
          have hD : va_D A [(h0, .inr (4, oX5 r0 (tu (tu (tu (tu (tu (tu (tu i0 9 minute_2) 10 v_lost_2) 11 slid_2) 12 slidNow_2) 13 rounds_2) 14 came_2) 15 plan_2) (tul j0 16 chance_2))), ((r0 0), .inl (ar 0, 64, .inl height_2)), ((r0 1), .inl (ar 0, 64, .inl wet_2)), ((r0 2), .inl (ar 0, 64, .inl pack_2)), ((r0 7), .inl (ar 2, 64, .inl stone_2)), ((r0 3), .inl (ar 0, 4, .inl (upd nextAct_2 x2.toNatClampNeg (nextAct x2.toNatClampNeg)))), ((r0 4), .inl (ar 0, 4, .inl done_2)), ((r0 8), .inl (ar 2, 4, .inl isResting_2)), ((r0 5), .inl (ar 0, 3, .inl putUp_2)), ((r0 6), .inl (ar 0, 3, .inl fell_2))] := hD
          refine lv_aload_n hx hb dX5_become_81 rfl (lv_at hl 0 rfl) ?_
          refine va_get (D := D) (ci := 4) (v := .ref (r0 4)) (C := RX5) (T := TX5) (N := 18) hx hb hts in_X5 hown hK hP 0 rfl rfl 4 (by decide) (hts _ q362) (fun _ h9 => h9) rfl dX5_become_82 ?_
          refine lv_iload_n hx hb dX5_become_85 rfl (lv_at hl 2 rfl) ?_
          refine lv_aload_n hx hb dX5_become_86 rfl (lv_at hl 1 rfl) ?_
          refine va_get (D := D) (ci := 4) (v := .ref (r1 4)) (C := RX5) (T := TX5) (N := 18) hx hb hts in_X5 hown hK (hR.at hS) 0 rfl rfl 4 (by decide) (hts _ q362) (fun _ h9 => h9) rfl dX5_become_87 ?_
          refine lv_iload_n hx hb dX5_become_90 rfl (lv_at hl 2 rfl) ?_
          refine va_iald hx hb hK (hR.at hS) 6 0 rfl rfl gd5 dX5_become_91 ?_
          refine va_iast hx hb hK hP hD hS 6 0 rfl rfl gd5 dX5_become_92 (fun H locs hP hD hS => ?_)
          have hP : va_P D tkCl [(h0, .inr (4, oX5 r0 (tu (tu (tu (tu (tu (tu (tu i0 9 minute_2) 10 v_lost_2) 11 slid_2) 12 slidNow_2) 13 rounds_2) 14 came_2) 15 plan_2) (tul j0 16 chance_2))), ((r0 0), .inl (ar 0, 64, .inl height_2)), ((r0 1), .inl (ar 0, 64, .inl wet_2)), ((r0 2), .inl (ar 0, 64, .inl pack_2)), ((r0 7), .inl (ar 2, 64, .inl stone_2)), ((r0 3), .inl (ar 0, 4, .inl (upd nextAct_2 x2.toNatClampNeg (nextAct x2.toNatClampNeg)))), ((r0 4), .inl (ar 0, 4, .inl (upd done_2 x2.toNatClampNeg (done x2.toNatClampNeg)))), ((r0 8), .inl (ar 2, 4, .inl isResting_2)), ((r0 5), .inl (ar 0, 3, .inl putUp_2)), ((r0 6), .inl (ar 0, 3, .inl fell_2))] H := hP
          have hD : va_D A [(h0, .inr (4, oX5 r0 (tu (tu (tu (tu (tu (tu (tu i0 9 minute_2) 10 v_lost_2) 11 slid_2) 12 slidNow_2) 13 rounds_2) 14 came_2) 15 plan_2) (tul j0 16 chance_2))), ((r0 0), .inl (ar 0, 64, .inl height_2)), ((r0 1), .inl (ar 0, 64, .inl wet_2)), ((r0 2), .inl (ar 0, 64, .inl pack_2)), ((r0 7), .inl (ar 2, 64, .inl stone_2)), ((r0 3), .inl (ar 0, 4, .inl (upd nextAct_2 x2.toNatClampNeg (nextAct x2.toNatClampNeg)))), ((r0 4), .inl (ar 0, 4, .inl (upd done_2 x2.toNatClampNeg (done x2.toNatClampNeg)))), ((r0 8), .inl (ar 2, 4, .inl isResting_2)), ((r0 5), .inl (ar 0, 3, .inl putUp_2)), ((r0 6), .inl (ar 0, 3, .inl fell_2))] := hD
          refine lv_aload_n hx hb dX5_become_93 rfl (lv_at hl 0 rfl) ?_
          refine va_get (D := D) (ci := 4) (v := .ref (r0 8)) (C := RX5) (T := TX5) (N := 18) hx hb hts in_X5 hown hK hP 0 rfl rfl 8 (by decide) (hts _ q369) (fun _ h9 => h9) rfl dX5_become_94 ?_
          refine lv_iload_n hx hb dX5_become_97 rfl (lv_at hl 2 rfl) ?_
          refine lv_aload_n hx hb dX5_become_98 rfl (lv_at hl 1 rfl) ?_
          refine va_get (D := D) (ci := 4) (v := .ref (r1 8)) (C := RX5) (T := TX5) (N := 18) hx hb hts in_X5 hown hK (hR.at hS) 0 rfl rfl 8 (by decide) (hts _ q369) (fun _ h9 => h9) rfl dX5_become_99 ?_
          refine lv_iload_n hx hb dX5_become_102 rfl (lv_at hl 2 rfl) ?_
          refine va_zald hx hb hK (hR.at hS) 7 2 rfl rfl gd5 dX5_become_103 ?_
          refine va_zast hx hb hK hP hD hS 7 2 rfl rfl gd5 dX5_become_104 (fun H locs hP hD hS => ?_)
          obtain ⟨y6, ey6, hF⟩ := tk_kl hF
          have hP : va_P D tkCl [(h0, .inr (4, oX5 r0 (tu (tu (tu (tu (tu (tu (tu i0 9 minute_2) 10 v_lost_2) 11 slid_2) 12 slidNow_2) 13 rounds_2) 14 came_2) 15 plan_2) (tul j0 16 chance_2))), ((r0 0), .inl (ar 0, 64, .inl height_2)), ((r0 1), .inl (ar 0, 64, .inl wet_2)), ((r0 2), .inl (ar 0, 64, .inl pack_2)), ((r0 7), .inl (ar 2, 64, .inl stone_2)), ((r0 3), .inl (ar 0, 4, .inl (upd nextAct_2 x2.toNatClampNeg (nextAct x2.toNatClampNeg)))), ((r0 4), .inl (ar 0, 4, .inl (upd done_2 x2.toNatClampNeg (done x2.toNatClampNeg)))), ((r0 8), .inl (ar 2, 4, .inl y6)), ((r0 5), .inl (ar 0, 3, .inl putUp_2)), ((r0 6), .inl (ar 0, 3, .inl fell_2))] H := by rw [ey6]; exact hP
          have hD : va_D A [(h0, .inr (4, oX5 r0 (tu (tu (tu (tu (tu (tu (tu i0 9 minute_2) 10 v_lost_2) 11 slid_2) 12 slidNow_2) 13 rounds_2) 14 came_2) 15 plan_2) (tul j0 16 chance_2))), ((r0 0), .inl (ar 0, 64, .inl height_2)), ((r0 1), .inl (ar 0, 64, .inl wet_2)), ((r0 2), .inl (ar 0, 64, .inl pack_2)), ((r0 7), .inl (ar 2, 64, .inl stone_2)), ((r0 3), .inl (ar 0, 4, .inl (upd nextAct_2 x2.toNatClampNeg (nextAct x2.toNatClampNeg)))), ((r0 4), .inl (ar 0, 4, .inl (upd done_2 x2.toNatClampNeg (done x2.toNatClampNeg)))), ((r0 8), .inl (ar 2, 4, .inl y6)), ((r0 5), .inl (ar 0, 3, .inl putUp_2)), ((r0 6), .inl (ar 0, 3, .inl fell_2))] := by rw [ey6]; exact hD
          refine lv_iinc (v := x2 + 1) (lv' := [(2, .int (x2 + 1)), (0, .ref h0), (1, .ref h1)]) hx hb dX5_become_105 hl (k := 2) rfl (congrArg (fun z => x2 + z) (show Int32.ofInt 1 = 1 by decide)) (Nat.le_of_ble_eq_true rfl) rfl (fun ls hl => ?_)
          refine lv_goto (tgt := 64) hx hb dX5_become_108 (by decide) ?_
          exact ih64 (x2 + 1) minute_2 v_lost_2 slid_2 slidNow_2 rounds_2 came_2 plan_2 chance_2 height_2 wet_2 pack_2 stone_2 (upd nextAct_2 x2.toNatClampNeg (nextAct x2.toNatClampNeg)) (upd done_2 x2.toNatClampNeg (done x2.toNatClampNeg)) y6 putUp_2 fell_2 _ _ _ hF hP hD hS (lv_sub hl [1, 2, 0] rfl)
      · intro x2 minute_2 v_lost_2 slid_2 slidNow_2 rounds_2 came_2 plan_2 chance_2 height_2 wet_2 pack_2 stone_2 nextAct_2 done_2 isResting_2 putUp_2 fell_2 H locs ls hF hP hD hS hl
        have hF : tk_k (stX5_become minute v_lost slid slidNow rounds came plan chance height wet pack stone nextAct done isResting putUp fell) n (bX5_become_3 minute v_lost slid slidNow rounds came plan chance height wet pack stone nextAct done isResting putUp fell x2 minute_2 v_lost_2 slid_2 slidNow_2 rounds_2 came_2 plan_2 chance_2 height_2 wet_2 pack_2 stone_2 nextAct_2 done_2 isResting_2 putUp_2 fell_2) = some o := hF
        unfold bX5_become_3 at hF
        refine lv_iload_n hx hb dX5_become_113 rfl (lv_at hl 2 rfl) ?_
        refine lv_iconst (v := 3) hx hb dX5_become_114 (by decide) ?_
        refine lv_icmp_ge (tgt := 148) hx hb dX5_become_115 (by decide) (fun c7 => ?_) (fun c7 => ?_)
        · have hF := tk_kt hF c7
          refine lv_aload_n hx hb dX5_become_148 rfl (lv_at hl 0 rfl) ?_
          refine lv_aload_n hx hb dX5_become_149 rfl (lv_at hl 1 rfl) ?_
          refine va_get (D := D) (ci := 4) (v := .int minute) (C := RX5) (T := TX5) (N := 18) hx hb hts in_X5 hown hK (hR.at hS) 0 rfl rfl 9 (by decide) (hts _ q370) (fun _ h9 => h9) rfl dX5_become_150 ?_
          refine va_put (D := D) (ci := 4) (v := .int minute) (ty := .int) (C := RX5) (T := TX5) (N := 18) hx hb hts in_X5 tyX5 tyX5_ok nmX5 hown hK hP hD hS 0 rfl rfl 9 (by decide) (hts _ q370) (fun _ h9 => h9) rfl (by decide +kernel) rfl rfl (Nat.le_of_ble_eq_true rfl) dX5_become_153 (fun H locs hP hD hS => ?_)
          have hP : va_P D tkCl [(h0, .inr (4, oX5 r0 (tu (tu (tu (tu (tu (tu (tu i0 9 minute) 10 v_lost_2) 11 slid_2) 12 slidNow_2) 13 rounds_2) 14 came_2) 15 plan_2) (tul j0 16 chance_2))), ((r0 0), .inl (ar 0, 64, .inl height_2)), ((r0 1), .inl (ar 0, 64, .inl wet_2)), ((r0 2), .inl (ar 0, 64, .inl pack_2)), ((r0 7), .inl (ar 2, 64, .inl stone_2)), ((r0 3), .inl (ar 0, 4, .inl nextAct_2)), ((r0 4), .inl (ar 0, 4, .inl done_2)), ((r0 8), .inl (ar 2, 4, .inl isResting_2)), ((r0 5), .inl (ar 0, 3, .inl putUp_2)), ((r0 6), .inl (ar 0, 3, .inl fell_2))] H := hP
          have hD : va_D A [(h0, .inr (4, oX5 r0 (tu (tu (tu (tu (tu (tu (tu i0 9 minute) 10 v_lost_2) 11 slid_2) 12 slidNow_2) 13 rounds_2) 14 came_2) 15 plan_2) (tul j0 16 chance_2))), ((r0 0), .inl (ar 0, 64, .inl height_2)), ((r0 1), .inl (ar 0, 64, .inl wet_2)), ((r0 2), .inl (ar 0, 64, .inl pack_2)), ((r0 7), .inl (ar 2, 64, .inl stone_2)), ((r0 3), .inl (ar 0, 4, .inl nextAct_2)), ((r0 4), .inl (ar 0, 4, .inl done_2)), ((r0 8), .inl (ar 2, 4, .inl isResting_2)), ((r0 5), .inl (ar 0, 3, .inl putUp_2)), ((r0 6), .inl (ar 0, 3, .inl fell_2))] := hD
          refine lv_aload_n hx hb dX5_become_156 rfl (lv_at hl 0 rfl) ?_
          refine lv_aload_n hx hb dX5_become_157 rfl (lv_at hl 1 rfl) ?_
          refine va_get (D := D) (ci := 4) (v := .int v_lost) (C := RX5) (T := TX5) (N := 18) hx hb hts in_X5 hown hK (hR.at hS) 0 rfl rfl 10 (by decide) (hts _ q372) (fun _ h9 => h9) rfl dX5_become_158 ?_
          refine va_put (D := D) (ci := 4) (v := .int v_lost) (ty := .int) (C := RX5) (T := TX5) (N := 18) hx hb hts in_X5 tyX5 tyX5_ok nmX5 hown hK hP hD hS 0 rfl rfl 10 (by decide) (hts _ q372) (fun _ h9 => h9) rfl (by decide +kernel) rfl rfl (Nat.le_of_ble_eq_true rfl) dX5_become_161 (fun H locs hP hD hS => ?_)
          have hP : va_P D tkCl [(h0, .inr (4, oX5 r0 (tu (tu (tu (tu (tu (tu (tu i0 9 minute) 10 v_lost) 11 slid_2) 12 slidNow_2) 13 rounds_2) 14 came_2) 15 plan_2) (tul j0 16 chance_2))), ((r0 0), .inl (ar 0, 64, .inl height_2)), ((r0 1), .inl (ar 0, 64, .inl wet_2)), ((r0 2), .inl (ar 0, 64, .inl pack_2)), ((r0 7), .inl (ar 2, 64, .inl stone_2)), ((r0 3), .inl (ar 0, 4, .inl nextAct_2)), ((r0 4), .inl (ar 0, 4, .inl done_2)), ((r0 8), .inl (ar 2, 4, .inl isResting_2)), ((r0 5), .inl (ar 0, 3, .inl putUp_2)), ((r0 6), .inl (ar 0, 3, .inl fell_2))] H := hP
          have hD : va_D A [(h0, .inr (4, oX5 r0 (tu (tu (tu (tu (tu (tu (tu i0 9 minute) 10 v_lost) 11 slid_2) 12 slidNow_2) 13 rounds_2) 14 came_2) 15 plan_2) (tul j0 16 chance_2))), ((r0 0), .inl (ar 0, 64, .inl height_2)), ((r0 1), .inl (ar 0, 64, .inl wet_2)), ((r0 2), .inl (ar 0, 64, .inl pack_2)), ((r0 7), .inl (ar 2, 64, .inl stone_2)), ((r0 3), .inl (ar 0, 4, .inl nextAct_2)), ((r0 4), .inl (ar 0, 4, .inl done_2)), ((r0 8), .inl (ar 2, 4, .inl isResting_2)), ((r0 5), .inl (ar 0, 3, .inl putUp_2)), ((r0 6), .inl (ar 0, 3, .inl fell_2))] := hD
          refine lv_aload_n hx hb dX5_become_164 rfl (lv_at hl 0 rfl) ?_
          refine lv_aload_n hx hb dX5_become_165 rfl (lv_at hl 1 rfl) ?_
          refine va_get (D := D) (ci := 4) (v := .int slid) (C := RX5) (T := TX5) (N := 18) hx hb hts in_X5 hown hK (hR.at hS) 0 rfl rfl 11 (by decide) (hts _ q374) (fun _ h9 => h9) rfl dX5_become_166 ?_
          refine va_put (D := D) (ci := 4) (v := .int slid) (ty := .int) (C := RX5) (T := TX5) (N := 18) hx hb hts in_X5 tyX5 tyX5_ok nmX5 hown hK hP hD hS 0 rfl rfl 11 (by decide) (hts _ q374) (fun _ h9 => h9) rfl (by decide +kernel) rfl rfl (Nat.le_of_ble_eq_true rfl) dX5_become_169 (fun H locs hP hD hS => ?_)
          have hP : va_P D tkCl [(h0, .inr (4, oX5 r0 (tu (tu (tu (tu (tu (tu (tu i0 9 minute) 10 v_lost) 11 slid) 12 slidNow_2) 13 rounds_2) 14 came_2) 15 plan_2) (tul j0 16 chance_2))), ((r0 0), .inl (ar 0, 64, .inl height_2)), ((r0 1), .inl (ar 0, 64, .inl wet_2)), ((r0 2), .inl (ar 0, 64, .inl pack_2)), ((r0 7), .inl (ar 2, 64, .inl stone_2)), ((r0 3), .inl (ar 0, 4, .inl nextAct_2)), ((r0 4), .inl (ar 0, 4, .inl done_2)), ((r0 8), .inl (ar 2, 4, .inl isResting_2)), ((r0 5), .inl (ar 0, 3, .inl putUp_2)), ((r0 6), .inl (ar 0, 3, .inl fell_2))] H := hP
          have hD : va_D A [(h0, .inr (4, oX5 r0 (tu (tu (tu (tu (tu (tu (tu i0 9 minute) 10 v_lost) 11 slid) 12 slidNow_2) 13 rounds_2) 14 came_2) 15 plan_2) (tul j0 16 chance_2))), ((r0 0), .inl (ar 0, 64, .inl height_2)), ((r0 1), .inl (ar 0, 64, .inl wet_2)), ((r0 2), .inl (ar 0, 64, .inl pack_2)), ((r0 7), .inl (ar 2, 64, .inl stone_2)), ((r0 3), .inl (ar 0, 4, .inl nextAct_2)), ((r0 4), .inl (ar 0, 4, .inl done_2)), ((r0 8), .inl (ar 2, 4, .inl isResting_2)), ((r0 5), .inl (ar 0, 3, .inl putUp_2)), ((r0 6), .inl (ar 0, 3, .inl fell_2))] := hD
          refine lv_aload_n hx hb dX5_become_172 rfl (lv_at hl 0 rfl) ?_
          refine lv_aload_n hx hb dX5_become_173 rfl (lv_at hl 1 rfl) ?_
          refine va_get (D := D) (ci := 4) (v := .int slidNow) (C := RX5) (T := TX5) (N := 18) hx hb hts in_X5 hown hK (hR.at hS) 0 rfl rfl 12 (by decide) (hts _ q376) (fun _ h9 => h9) rfl dX5_become_174 ?_
          refine va_put (D := D) (ci := 4) (v := .int slidNow) (ty := .int) (C := RX5) (T := TX5) (N := 18) hx hb hts in_X5 tyX5 tyX5_ok nmX5 hown hK hP hD hS 0 rfl rfl 12 (by decide) (hts _ q376) (fun _ h9 => h9) rfl (by decide +kernel) rfl rfl (Nat.le_of_ble_eq_true rfl) dX5_become_177 (fun H locs hP hD hS => ?_)
          have hP : va_P D tkCl [(h0, .inr (4, oX5 r0 (tu (tu (tu (tu (tu (tu (tu i0 9 minute) 10 v_lost) 11 slid) 12 slidNow) 13 rounds_2) 14 came_2) 15 plan_2) (tul j0 16 chance_2))), ((r0 0), .inl (ar 0, 64, .inl height_2)), ((r0 1), .inl (ar 0, 64, .inl wet_2)), ((r0 2), .inl (ar 0, 64, .inl pack_2)), ((r0 7), .inl (ar 2, 64, .inl stone_2)), ((r0 3), .inl (ar 0, 4, .inl nextAct_2)), ((r0 4), .inl (ar 0, 4, .inl done_2)), ((r0 8), .inl (ar 2, 4, .inl isResting_2)), ((r0 5), .inl (ar 0, 3, .inl putUp_2)), ((r0 6), .inl (ar 0, 3, .inl fell_2))] H := hP
          have hD : va_D A [(h0, .inr (4, oX5 r0 (tu (tu (tu (tu (tu (tu (tu i0 9 minute) 10 v_lost) 11 slid) 12 slidNow) 13 rounds_2) 14 came_2) 15 plan_2) (tul j0 16 chance_2))), ((r0 0), .inl (ar 0, 64, .inl height_2)), ((r0 1), .inl (ar 0, 64, .inl wet_2)), ((r0 2), .inl (ar 0, 64, .inl pack_2)), ((r0 7), .inl (ar 2, 64, .inl stone_2)), ((r0 3), .inl (ar 0, 4, .inl nextAct_2)), ((r0 4), .inl (ar 0, 4, .inl done_2)), ((r0 8), .inl (ar 2, 4, .inl isResting_2)), ((r0 5), .inl (ar 0, 3, .inl putUp_2)), ((r0 6), .inl (ar 0, 3, .inl fell_2))] := hD
          refine lv_aload_n hx hb dX5_become_180 rfl (lv_at hl 0 rfl) ?_
          refine lv_aload_n hx hb dX5_become_181 rfl (lv_at hl 1 rfl) ?_
          refine va_get (D := D) (ci := 4) (v := .int rounds) (C := RX5) (T := TX5) (N := 18) hx hb hts in_X5 hown hK (hR.at hS) 0 rfl rfl 13 (by decide) (hts _ q378) (fun _ h9 => h9) rfl dX5_become_182 ?_
          refine va_put (D := D) (ci := 4) (v := .int rounds) (ty := .int) (C := RX5) (T := TX5) (N := 18) hx hb hts in_X5 tyX5 tyX5_ok nmX5 hown hK hP hD hS 0 rfl rfl 13 (by decide) (hts _ q378) (fun _ h9 => h9) rfl (by decide +kernel) rfl rfl (Nat.le_of_ble_eq_true rfl) dX5_become_185 (fun H locs hP hD hS => ?_)
          have hP : va_P D tkCl [(h0, .inr (4, oX5 r0 (tu (tu (tu (tu (tu (tu (tu i0 9 minute) 10 v_lost) 11 slid) 12 slidNow) 13 rounds) 14 came_2) 15 plan_2) (tul j0 16 chance_2))), ((r0 0), .inl (ar 0, 64, .inl height_2)), ((r0 1), .inl (ar 0, 64, .inl wet_2)), ((r0 2), .inl (ar 0, 64, .inl pack_2)), ((r0 7), .inl (ar 2, 64, .inl stone_2)), ((r0 3), .inl (ar 0, 4, .inl nextAct_2)), ((r0 4), .inl (ar 0, 4, .inl done_2)), ((r0 8), .inl (ar 2, 4, .inl isResting_2)), ((r0 5), .inl (ar 0, 3, .inl putUp_2)), ((r0 6), .inl (ar 0, 3, .inl fell_2))] H := hP
          have hD : va_D A [(h0, .inr (4, oX5 r0 (tu (tu (tu (tu (tu (tu (tu i0 9 minute) 10 v_lost) 11 slid) 12 slidNow) 13 rounds) 14 came_2) 15 plan_2) (tul j0 16 chance_2))), ((r0 0), .inl (ar 0, 64, .inl height_2)), ((r0 1), .inl (ar 0, 64, .inl wet_2)), ((r0 2), .inl (ar 0, 64, .inl pack_2)), ((r0 7), .inl (ar 2, 64, .inl stone_2)), ((r0 3), .inl (ar 0, 4, .inl nextAct_2)), ((r0 4), .inl (ar 0, 4, .inl done_2)), ((r0 8), .inl (ar 2, 4, .inl isResting_2)), ((r0 5), .inl (ar 0, 3, .inl putUp_2)), ((r0 6), .inl (ar 0, 3, .inl fell_2))] := hD
          refine lv_aload_n hx hb dX5_become_188 rfl (lv_at hl 0 rfl) ?_
          refine lv_aload_n hx hb dX5_become_189 rfl (lv_at hl 1 rfl) ?_
          refine va_get (D := D) (ci := 4) (v := .int came) (C := RX5) (T := TX5) (N := 18) hx hb hts in_X5 hown hK (hR.at hS) 0 rfl rfl 14 (by decide) (hts _ q380) (fun _ h9 => h9) rfl dX5_become_190 ?_
          refine va_put (D := D) (ci := 4) (v := .int came) (ty := .int) (C := RX5) (T := TX5) (N := 18) hx hb hts in_X5 tyX5 tyX5_ok nmX5 hown hK hP hD hS 0 rfl rfl 14 (by decide) (hts _ q380) (fun _ h9 => h9) rfl (by decide +kernel) rfl rfl (Nat.le_of_ble_eq_true rfl) dX5_become_193 (fun H locs hP hD hS => ?_)
          have hP : va_P D tkCl [(h0, .inr (4, oX5 r0 (tu (tu (tu (tu (tu (tu (tu i0 9 minute) 10 v_lost) 11 slid) 12 slidNow) 13 rounds) 14 came) 15 plan_2) (tul j0 16 chance_2))), ((r0 0), .inl (ar 0, 64, .inl height_2)), ((r0 1), .inl (ar 0, 64, .inl wet_2)), ((r0 2), .inl (ar 0, 64, .inl pack_2)), ((r0 7), .inl (ar 2, 64, .inl stone_2)), ((r0 3), .inl (ar 0, 4, .inl nextAct_2)), ((r0 4), .inl (ar 0, 4, .inl done_2)), ((r0 8), .inl (ar 2, 4, .inl isResting_2)), ((r0 5), .inl (ar 0, 3, .inl putUp_2)), ((r0 6), .inl (ar 0, 3, .inl fell_2))] H := hP
          have hD : va_D A [(h0, .inr (4, oX5 r0 (tu (tu (tu (tu (tu (tu (tu i0 9 minute) 10 v_lost) 11 slid) 12 slidNow) 13 rounds) 14 came) 15 plan_2) (tul j0 16 chance_2))), ((r0 0), .inl (ar 0, 64, .inl height_2)), ((r0 1), .inl (ar 0, 64, .inl wet_2)), ((r0 2), .inl (ar 0, 64, .inl pack_2)), ((r0 7), .inl (ar 2, 64, .inl stone_2)), ((r0 3), .inl (ar 0, 4, .inl nextAct_2)), ((r0 4), .inl (ar 0, 4, .inl done_2)), ((r0 8), .inl (ar 2, 4, .inl isResting_2)), ((r0 5), .inl (ar 0, 3, .inl putUp_2)), ((r0 6), .inl (ar 0, 3, .inl fell_2))] := hD
          refine lv_aload_n hx hb dX5_become_196 rfl (lv_at hl 0 rfl) ?_
          refine lv_aload_n hx hb dX5_become_197 rfl (lv_at hl 1 rfl) ?_
          refine va_get (D := D) (ci := 4) (v := .int plan) (C := RX5) (T := TX5) (N := 18) hx hb hts in_X5 hown hK (hR.at hS) 0 rfl rfl 15 (by decide) (hts _ q382) (fun _ h9 => h9) rfl dX5_become_198 ?_
          refine va_put (D := D) (ci := 4) (v := .int plan) (ty := .int) (C := RX5) (T := TX5) (N := 18) hx hb hts in_X5 tyX5 tyX5_ok nmX5 hown hK hP hD hS 0 rfl rfl 15 (by decide) (hts _ q382) (fun _ h9 => h9) rfl (by decide +kernel) rfl rfl (Nat.le_of_ble_eq_true rfl) dX5_become_201 (fun H locs hP hD hS => ?_)
          have hP : va_P D tkCl [(h0, .inr (4, oX5 r0 (tu (tu (tu (tu (tu (tu (tu i0 9 minute) 10 v_lost) 11 slid) 12 slidNow) 13 rounds) 14 came) 15 plan) (tul j0 16 chance_2))), ((r0 0), .inl (ar 0, 64, .inl height_2)), ((r0 1), .inl (ar 0, 64, .inl wet_2)), ((r0 2), .inl (ar 0, 64, .inl pack_2)), ((r0 7), .inl (ar 2, 64, .inl stone_2)), ((r0 3), .inl (ar 0, 4, .inl nextAct_2)), ((r0 4), .inl (ar 0, 4, .inl done_2)), ((r0 8), .inl (ar 2, 4, .inl isResting_2)), ((r0 5), .inl (ar 0, 3, .inl putUp_2)), ((r0 6), .inl (ar 0, 3, .inl fell_2))] H := hP
          have hD : va_D A [(h0, .inr (4, oX5 r0 (tu (tu (tu (tu (tu (tu (tu i0 9 minute) 10 v_lost) 11 slid) 12 slidNow) 13 rounds) 14 came) 15 plan) (tul j0 16 chance_2))), ((r0 0), .inl (ar 0, 64, .inl height_2)), ((r0 1), .inl (ar 0, 64, .inl wet_2)), ((r0 2), .inl (ar 0, 64, .inl pack_2)), ((r0 7), .inl (ar 2, 64, .inl stone_2)), ((r0 3), .inl (ar 0, 4, .inl nextAct_2)), ((r0 4), .inl (ar 0, 4, .inl done_2)), ((r0 8), .inl (ar 2, 4, .inl isResting_2)), ((r0 5), .inl (ar 0, 3, .inl putUp_2)), ((r0 6), .inl (ar 0, 3, .inl fell_2))] := hD
          refine lv_aload_n hx hb dX5_become_204 rfl (lv_at hl 0 rfl) ?_
          refine lv_aload_n hx hb dX5_become_205 rfl (lv_at hl 1 rfl) ?_
          refine va_get (D := D) (ci := 4) (v := .long chance) (C := RX5) (T := TX5) (N := 18) hx hb hts in_X5 hown hK (hR.at hS) 0 rfl rfl 16 (by decide) (hts _ q384) (fun _ h9 => h9) rfl dX5_become_206 ?_
          refine va_put (D := D) (ci := 4) (v := .long chance) (ty := .long) (C := RX5) (T := TX5) (N := 18) hx hb hts in_X5 tyX5 tyX5_ok nmX5 hown hK hP hD hS 0 rfl rfl 16 (by decide) (hts _ q384) (fun _ h9 => h9) rfl (by decide +kernel) rfl rfl (Nat.le_of_ble_eq_true rfl) dX5_become_209 (fun H locs hP hD hS => ?_)
          have hP : va_P D tkCl [(h0, .inr (4, oX5 r0 (tu (tu (tu (tu (tu (tu (tu i0 9 minute) 10 v_lost) 11 slid) 12 slidNow) 13 rounds) 14 came) 15 plan) (tul j0 16 chance))), ((r0 0), .inl (ar 0, 64, .inl height_2)), ((r0 1), .inl (ar 0, 64, .inl wet_2)), ((r0 2), .inl (ar 0, 64, .inl pack_2)), ((r0 7), .inl (ar 2, 64, .inl stone_2)), ((r0 3), .inl (ar 0, 4, .inl nextAct_2)), ((r0 4), .inl (ar 0, 4, .inl done_2)), ((r0 8), .inl (ar 2, 4, .inl isResting_2)), ((r0 5), .inl (ar 0, 3, .inl putUp_2)), ((r0 6), .inl (ar 0, 3, .inl fell_2))] H := hP
          have hD : va_D A [(h0, .inr (4, oX5 r0 (tu (tu (tu (tu (tu (tu (tu i0 9 minute) 10 v_lost) 11 slid) 12 slidNow) 13 rounds) 14 came) 15 plan) (tul j0 16 chance))), ((r0 0), .inl (ar 0, 64, .inl height_2)), ((r0 1), .inl (ar 0, 64, .inl wet_2)), ((r0 2), .inl (ar 0, 64, .inl pack_2)), ((r0 7), .inl (ar 2, 64, .inl stone_2)), ((r0 3), .inl (ar 0, 4, .inl nextAct_2)), ((r0 4), .inl (ar 0, 4, .inl done_2)), ((r0 8), .inl (ar 2, 4, .inl isResting_2)), ((r0 5), .inl (ar 0, 3, .inl putUp_2)), ((r0 6), .inl (ar 0, 3, .inl fell_2))] := hD
          have eo := tk_kr hF
          subst eo
          exact W.vret hx hb hr (fun t ht hW => ⟨⟨(), rfl, trivial, tk_pst ht hP hD⟩, hS.F ht⟩) hS.2.2 dX5_become_212
        · have hF := tk_kf hF c7
          refine lv_aload_n hx hb dX5_become_118 rfl (lv_at hl 0 rfl) ?_
          refine va_get (D := D) (ci := 4) (v := .ref (r0 5)) (C := RX5) (T := TX5) (N := 18) hx hb hts in_X5 hown hK hP 0 rfl rfl 5 (by decide) (hts _ q363) (fun _ h9 => h9) rfl dX5_become_119 ?_
          refine lv_iload_n hx hb dX5_become_122 rfl (lv_at hl 2 rfl) ?_
          refine lv_aload_n hx hb dX5_become_123 rfl (lv_at hl 1 rfl) ?_
          refine va_get (D := D) (ci := 4) (v := .ref (r1 5)) (C := RX5) (T := TX5) (N := 18) hx hb hts in_X5 hown hK (hR.at hS) 0 rfl rfl 5 (by decide) (hts _ q363) (fun _ h9 => h9) rfl dX5_become_124 ?_
          refine lv_iload_n hx hb dX5_become_127 rfl (lv_at hl 2 rfl) ?_
          obtain ⟨gd8, hF⟩ := tk_kg hF
          refine va_iald hx hb hK (hR.at hS) 8 0 rfl rfl gd8 dX5_become_128 ?_
          refine va_iast hx hb hK hP hD hS 8 0 rfl rfl gd8 dX5_become_129 (fun H locs hP hD hS => ?_)
          have hP : va_P D tkCl [(h0, .inr (4, oX5 r0 (tu (tu (tu (tu (tu (tu (tu i0 9 minute_2) 10 v_lost_2) 11 slid_2) 12 slidNow_2) 13 rounds_2) 14 came_2) 15 plan_2) (tul j0 16 chance_2))), ((r0 0), .inl (ar 0, 64, .inl height_2)), ((r0 1), .inl (ar 0, 64, .inl wet_2)), ((r0 2), .inl (ar 0, 64, .inl pack_2)), ((r0 7), .inl (ar 2, 64, .inl stone_2)), ((r0 3), .inl (ar 0, 4, .inl nextAct_2)), ((r0 4), .inl (ar 0, 4, .inl done_2)), ((r0 8), .inl (ar 2, 4, .inl isResting_2)), ((r0 5), .inl (ar 0, 3, .inl (upd putUp_2 x2.toNatClampNeg (putUp x2.toNatClampNeg)))), ((r0 6), .inl (ar 0, 3, .inl fell_2))] H := hP
          have hD : va_D A [(h0, .inr (4, oX5 r0 (tu (tu (tu (tu (tu (tu (tu i0 9 minute_2) 10 v_lost_2) 11 slid_2) 12 slidNow_2) 13 rounds_2) 14 came_2) 15 plan_2) (tul j0 16 chance_2))), ((r0 0), .inl (ar 0, 64, .inl height_2)), ((r0 1), .inl (ar 0, 64, .inl wet_2)), ((r0 2), .inl (ar 0, 64, .inl pack_2)), ((r0 7), .inl (ar 2, 64, .inl stone_2)), ((r0 3), .inl (ar 0, 4, .inl nextAct_2)), ((r0 4), .inl (ar 0, 4, .inl done_2)), ((r0 8), .inl (ar 2, 4, .inl isResting_2)), ((r0 5), .inl (ar 0, 3, .inl (upd putUp_2 x2.toNatClampNeg (putUp x2.toNatClampNeg)))), ((r0 6), .inl (ar 0, 3, .inl fell_2))] := hD
          refine lv_aload_n hx hb dX5_become_130 rfl (lv_at hl 0 rfl) ?_
          refine va_get (D := D) (ci := 4) (v := .ref (r0 6)) (C := RX5) (T := TX5) (N := 18) hx hb hts in_X5 hown hK hP 0 rfl rfl 6 (by decide) (hts _ q365) (fun _ h9 => h9) rfl dX5_become_131 ?_
          refine lv_iload_n hx hb dX5_become_134 rfl (lv_at hl 2 rfl) ?_
          refine lv_aload_n hx hb dX5_become_135 rfl (lv_at hl 1 rfl) ?_
          refine va_get (D := D) (ci := 4) (v := .ref (r1 6)) (C := RX5) (T := TX5) (N := 18) hx hb hts in_X5 hown hK (hR.at hS) 0 rfl rfl 6 (by decide) (hts _ q365) (fun _ h9 => h9) rfl dX5_become_136 ?_
          refine lv_iload_n hx hb dX5_become_139 rfl (lv_at hl 2 rfl) ?_
          refine va_iald hx hb hK (hR.at hS) 9 0 rfl rfl gd8 dX5_become_140 ?_
          refine va_iast hx hb hK hP hD hS 9 0 rfl rfl gd8 dX5_become_141 (fun H locs hP hD hS => ?_)
          have hP : va_P D tkCl [(h0, .inr (4, oX5 r0 (tu (tu (tu (tu (tu (tu (tu i0 9 minute_2) 10 v_lost_2) 11 slid_2) 12 slidNow_2) 13 rounds_2) 14 came_2) 15 plan_2) (tul j0 16 chance_2))), ((r0 0), .inl (ar 0, 64, .inl height_2)), ((r0 1), .inl (ar 0, 64, .inl wet_2)), ((r0 2), .inl (ar 0, 64, .inl pack_2)), ((r0 7), .inl (ar 2, 64, .inl stone_2)), ((r0 3), .inl (ar 0, 4, .inl nextAct_2)), ((r0 4), .inl (ar 0, 4, .inl done_2)), ((r0 8), .inl (ar 2, 4, .inl isResting_2)), ((r0 5), .inl (ar 0, 3, .inl (upd putUp_2 x2.toNatClampNeg (putUp x2.toNatClampNeg)))), ((r0 6), .inl (ar 0, 3, .inl (upd fell_2 x2.toNatClampNeg (fell x2.toNatClampNeg))))] H := hP
          have hD : va_D A [(h0, .inr (4, oX5 r0 (tu (tu (tu (tu (tu (tu (tu i0 9 minute_2) 10 v_lost_2) 11 slid_2) 12 slidNow_2) 13 rounds_2) 14 came_2) 15 plan_2) (tul j0 16 chance_2))), ((r0 0), .inl (ar 0, 64, .inl height_2)), ((r0 1), .inl (ar 0, 64, .inl wet_2)), ((r0 2), .inl (ar 0, 64, .inl pack_2)), ((r0 7), .inl (ar 2, 64, .inl stone_2)), ((r0 3), .inl (ar 0, 4, .inl nextAct_2)), ((r0 4), .inl (ar 0, 4, .inl done_2)), ((r0 8), .inl (ar 2, 4, .inl isResting_2)), ((r0 5), .inl (ar 0, 3, .inl (upd putUp_2 x2.toNatClampNeg (putUp x2.toNatClampNeg)))), ((r0 6), .inl (ar 0, 3, .inl (upd fell_2 x2.toNatClampNeg (fell x2.toNatClampNeg))))] := hD
          refine lv_iinc (v := x2 + 1) (lv' := [(2, .int (x2 + 1)), (0, .ref h0), (1, .ref h1)]) hx hb dX5_become_142 hl (k := 2) rfl (congrArg (fun z => x2 + z) (show Int32.ofInt 1 = 1 by decide)) (Nat.le_of_ble_eq_true rfl) rfl (fun ls hl => ?_)
          refine lv_goto (tgt := 113) hx hb dX5_become_145 (by decide) ?_
          exact ih113 (x2 + 1) minute_2 v_lost_2 slid_2 slidNow_2 rounds_2 came_2 plan_2 chance_2 height_2 wet_2 pack_2 stone_2 nextAct_2 done_2 isResting_2 (upd putUp_2 x2.toNatClampNeg (putUp x2.toNatClampNeg)) (upd fell_2 x2.toNatClampNeg (fell x2.toNatClampNeg)) _ _ _ hF hP hD hS (lv_sub hl [1, 2, 0] rfl)
  obtain ⟨ih2, ih64, ih113⟩ := key n0
  clear key
  unfold bX5_become_0 at hF
  have hF : tk_k (stX5_become minute v_lost slid slidNow rounds came plan chance height wet pack stone nextAct done isResting putUp fell) n0 _ = some o := hF
  refine lv_iconst (v := 0) hx hb dX5_become_0 (by decide) ?_
  refine lv_istore_n (lv' := [(2, .int 0), (0, .ref h0), (1, .ref h1)]) hx hb dX5_become_1 rfl hl (Nat.le_of_ble_eq_true rfl) rfl (fun ls hl => ?_)
  exact ih2 0 minute_2 v_lost_2 slid_2 slidNow_2 rounds_2 came_2 plan_2 chance_2 height_2 wet_2 pack_2 stone_2 nextAct_2 done_2 isResting_2 putUp_2 fell_2 _ _ _ hF hP hD hS (lv_sub hl [1, 2, 0] rfl)
