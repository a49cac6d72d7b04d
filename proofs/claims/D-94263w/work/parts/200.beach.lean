set_option maxRecDepth 100000
noncomputable def fX1_by (p0 p1 kind place : Int32) : Option (Int32 × Int32) := some (p0, p1)
noncomputable def fX7_see_X8 (size : Int32) (tape : Nat → Int32) (p0 : Int32) : Option (Int32) := if size ≤ p0 then (some 0) else (if tk_in p0 900 then (some ((tape p0.toNatClampNeg) &&& 255)) else none)
noncomputable def fX7_isSmall_X8 (p0 : Int32) : Option (Int32) := if p0 < 97 then (some 0) else (if 122 < p0 then (some 0) else (some 1))
noncomputable def fX7_isDigit_X8 (p0 : Int32) : Option (Int32) := if p0 < 48 then (some 0) else (if 57 < p0 then (some 0) else (some 1))
abbrev VX7_goOn_X8 : Type := Int32 × Int32 × Int32 × Int32 × Int32 × Int32
abbrev OX7_goOn_X8 : Type := Int32 × Int32 × Int32 × Int32
noncomputable def bX7_goOn_X8_1 (size : Int32) (tape : Nat → Int32) (x1 sort v_at v_to v_value : Int32) : Option ((Nat × VX7_goOn_X8) ⊕ OX7_goOn_X8) := (fX7_see_X8 size tape x1).bind (fun u1 => if u1 = 32 then (some (.inl (1, (x1 + 1, 0, sort, v_at, v_to, v_value)))) else ((fX7_see_X8 size tape x1).bind (fun u3 => if u3 = 10 then (some (.inl (1, (x1 + 1, 0, sort, v_at, v_to, v_value)))) else ((fX7_see_X8 size tape x1).bind (fun u5 => if x1 < size then ((fX7_isSmall_X8 u5).bind (fun u7 => if u7 = 0 then ((fX7_isDigit_X8 u5).bind (fun u9 => if u9 = 0 then (if u5 = 59 then (some (.inl (7, (0, 3, sort, x1, x1 + 1, v_value)))) else (some (.inl (7, (0, 4, sort, x1, x1 + 1, v_value))))) else (some (.inl (4, (x1, 0, sort, x1, x1, 0)))))) else (some (.inl (2, (x1, 0, sort, x1, x1 + 1, v_value)))))) else (some (.inr (0, x1, x1, v_value))))))))
noncomputable def bX7_goOn_X8_2 (size : Int32) (tape : Nat → Int32) (x1 sort v_at v_to v_value : Int32) : Option ((Nat × VX7_goOn_X8) ⊕ OX7_goOn_X8) := (fX7_see_X8 size tape v_to).bind (fun u12 => (fX7_isSmall_X8 u12).bind (fun u13 => if u13 = 0 then (if (v_to - x1) ≤ 8 then (some (.inl (3, (0, 1, sort, v_at, v_to, v_value)))) else (some (.inl (3, (0, 4, sort, v_at, v_to, v_value))))) else (some (.inl (2, (x1, 0, sort, v_at, v_to + 1, v_value))))))
noncomputable def bX7_goOn_X8_3 (size : Int32) (tape : Nat → Int32) (s1 sort v_at v_to v_value : Int32) : Option ((Nat × VX7_goOn_X8) ⊕ OX7_goOn_X8) := some (.inr (s1, v_at, v_to, v_value))
noncomputable def bX7_goOn_X8_4 (size : Int32) (tape : Nat → Int32) (x1 sort v_at v_to v_value : Int32) : Option ((Nat × VX7_goOn_X8) ⊕ OX7_goOn_X8) := (fX7_see_X8 size tape v_to).bind (fun u16 => (fX7_isDigit_X8 u16).bind (fun u17 => if u17 = 0 then (if (v_to - x1) ≤ 3 then (some (.inl (6, (0, 2, sort, v_at, v_to, v_value)))) else (some (.inl (6, (0, 4, sort, v_at, v_to, v_value))))) else (if 3 ≤ (v_to - x1) then (some (.inl (5, (x1, v_value, sort, v_at, v_to, v_value)))) else ((fX7_see_X8 size tape v_to).bind (fun u21 => some (.inl (5, (x1, ((10 * v_value) + u21) - 48, sort, v_at, v_to, v_value))))))))
noncomputable def bX7_goOn_X8_5 (size : Int32) (tape : Nat → Int32) (x1 s1 sort v_at v_to v_value : Int32) : Option ((Nat × VX7_goOn_X8) ⊕ OX7_goOn_X8) := some (.inl (4, (x1, 0, sort, v_at, v_to + 1, s1)))
noncomputable def bX7_goOn_X8_6 (size : Int32) (tape : Nat → Int32) (s1 sort v_at v_to v_value : Int32) : Option ((Nat × VX7_goOn_X8) ⊕ OX7_goOn_X8) := some (.inr (s1, v_at, v_to, v_value))
noncomputable def bX7_goOn_X8_7 (size : Int32) (tape : Nat → Int32) (s1 sort v_at v_to v_value : Int32) : Option ((Nat × VX7_goOn_X8) ⊕ OX7_goOn_X8) := some (.inr (s1, v_at, v_to, v_value))
noncomputable def bX7_goOn_X8_0 (size : Int32) (tape : Nat → Int32) (sort v_at v_to v_value : Int32) : Option ((Nat × VX7_goOn_X8) ⊕ OX7_goOn_X8) := some (.inl (1, (v_to, 0, sort, v_at, v_to, v_value)))
noncomputable def stX7_goOn_X8 (size : Int32) (tape : Nat → Int32) (z : Nat × VX7_goOn_X8) : Option ((Nat × VX7_goOn_X8) ⊕ OX7_goOn_X8) := match z.1 with
  | 1 => bX7_goOn_X8_1 size tape z.2.1 z.2.2.2.1 z.2.2.2.2.1 z.2.2.2.2.2.1 z.2.2.2.2.2.2
  | 2 => bX7_goOn_X8_2 size tape z.2.1 z.2.2.2.1 z.2.2.2.2.1 z.2.2.2.2.2.1 z.2.2.2.2.2.2
  | 3 => bX7_goOn_X8_3 size tape z.2.2.1 z.2.2.2.1 z.2.2.2.2.1 z.2.2.2.2.2.1 z.2.2.2.2.2.2
  | 4 => bX7_goOn_X8_4 size tape z.2.1 z.2.2.2.1 z.2.2.2.2.1 z.2.2.2.2.2.1 z.2.2.2.2.2.2
  | 5 => bX7_goOn_X8_5 size tape z.2.1 z.2.2.1 z.2.2.2.1 z.2.2.2.2.1 z.2.2.2.2.2.1 z.2.2.2.2.2.2
  | 6 => bX7_goOn_X8_6 size tape z.2.2.1 z.2.2.2.1 z.2.2.2.2.1 z.2.2.2.2.2.1 z.2.2.2.2.2.2
  | 7 => bX7_goOn_X8_7 size tape z.2.2.1 z.2.2.2.1 z.2.2.2.2.1 z.2.2.2.2.2.1 z.2.2.2.2.2.2
  | _ => none
noncomputable def fX7_goOn_X8_1 (size : Int32) (tape : Nat → Int32) (x1 sort v_at v_to v_value : Int32) : Option OX7_goOn_X8 := tk_lp (stX7_goOn_X8 size tape) (1, (x1, 0, sort, v_at, v_to, v_value))
noncomputable def fX7_goOn_X8_2 (size : Int32) (tape : Nat → Int32) (x1 sort v_at v_to v_value : Int32) : Option OX7_goOn_X8 := tk_lp (stX7_goOn_X8 size tape) (2, (x1, 0, sort, v_at, v_to, v_value))
noncomputable def fX7_goOn_X8_3 (size : Int32) (tape : Nat → Int32) (s1 sort v_at v_to v_value : Int32) : Option OX7_goOn_X8 := tk_lp (stX7_goOn_X8 size tape) (3, (0, s1, sort, v_at, v_to, v_value))
noncomputable def fX7_goOn_X8_4 (size : Int32) (tape : Nat → Int32) (x1 sort v_at v_to v_value : Int32) : Option OX7_goOn_X8 := tk_lp (stX7_goOn_X8 size tape) (4, (x1, 0, sort, v_at, v_to, v_value))
noncomputable def fX7_goOn_X8_5 (size : Int32) (tape : Nat → Int32) (x1 s1 sort v_at v_to v_value : Int32) : Option OX7_goOn_X8 := tk_lp (stX7_goOn_X8 size tape) (5, (x1, s1, sort, v_at, v_to, v_value))
noncomputable def fX7_goOn_X8_6 (size : Int32) (tape : Nat → Int32) (s1 sort v_at v_to v_value : Int32) : Option OX7_goOn_X8 := tk_lp (stX7_goOn_X8 size tape) (6, (0, s1, sort, v_at, v_to, v_value))
noncomputable def fX7_goOn_X8_7 (size : Int32) (tape : Nat → Int32) (s1 sort v_at v_to v_value : Int32) : Option OX7_goOn_X8 := tk_lp (stX7_goOn_X8 size tape) (7, (0, s1, sort, v_at, v_to, v_value))
noncomputable def fX7_goOn_X8 (size : Int32) (tape : Nat → Int32) (sort v_at v_to v_value : Int32) : Option OX7_goOn_X8 := tk_fin (stX7_goOn_X8 size tape) (bX7_goOn_X8_0 size tape sort v_at v_to v_value)
theorem fX7_goOn_X8_1_eq (size : Int32) (tape : Nat → Int32) (x1 sort v_at v_to v_value : Int32) : fX7_goOn_X8_1 size tape x1 sort v_at v_to v_value = (fX7_see_X8 size tape x1).bind (fun u1 => if u1 = 32 then (fX7_goOn_X8_1 size tape (x1 + 1) sort v_at v_to v_value) else ((fX7_see_X8 size tape x1).bind (fun u3 => if u3 = 10 then (fX7_goOn_X8_1 size tape (x1 + 1) sort v_at v_to v_value) else ((fX7_see_X8 size tape x1).bind (fun u5 => if x1 < size then ((fX7_isSmall_X8 u5).bind (fun u7 => if u7 = 0 then ((fX7_isDigit_X8 u5).bind (fun u9 => if u9 = 0 then (if u5 = 59 then (fX7_goOn_X8_7 size tape 3 sort x1 (x1 + 1) v_value) else (fX7_goOn_X8_7 size tape 4 sort x1 (x1 + 1) v_value)) else (fX7_goOn_X8_4 size tape x1 sort x1 x1 0))) else (fX7_goOn_X8_2 size tape x1 sort x1 (x1 + 1) v_value))) else (some (0, x1, x1, v_value))))))) := by
  unfold fX7_goOn_X8_1
  rw [tk_lp_eq]
  show tk_fin _ (bX7_goOn_X8_1 size tape x1 sort v_at v_to v_value) = _
  unfold bX7_goOn_X8_1
  simp only [tk_fin_t, tk_fin_b, tk_fin_l, tk_fin_n, tk_fin_i, tk_fin_r, fX7_goOn_X8_1, fX7_goOn_X8_2, fX7_goOn_X8_4, fX7_goOn_X8_7]
  try rfl
theorem fX7_goOn_X8_2_eq (size : Int32) (tape : Nat → Int32) (x1 sort v_at v_to v_value : Int32) : fX7_goOn_X8_2 size tape x1 sort v_at v_to v_value = (fX7_see_X8 size tape v_to).bind (fun u12 => (fX7_isSmall_X8 u12).bind (fun u13 => if u13 = 0 then (if (v_to - x1) ≤ 8 then (fX7_goOn_X8_3 size tape 1 sort v_at v_to v_value) else (fX7_goOn_X8_3 size tape 4 sort v_at v_to v_value)) else (fX7_goOn_X8_2 size tape x1 sort v_at (v_to + 1) v_value))) := by
  unfold fX7_goOn_X8_2
  rw [tk_lp_eq]
  show tk_fin _ (bX7_goOn_X8_2 size tape x1 sort v_at v_to v_value) = _
  unfold bX7_goOn_X8_2
  simp only [tk_fin_t, tk_fin_b, tk_fin_l, tk_fin_n, tk_fin_i, tk_fin_r, fX7_goOn_X8_2, fX7_goOn_X8_3]
  try rfl
theorem fX7_goOn_X8_3_eq (size : Int32) (tape : Nat → Int32) (s1 sort v_at v_to v_value : Int32) : fX7_goOn_X8_3 size tape s1 sort v_at v_to v_value = some (s1, v_at, v_to, v_value) := by
  unfold fX7_goOn_X8_3
  rw [tk_lp_eq]
  show tk_fin _ (bX7_goOn_X8_3 size tape s1 sort v_at v_to v_value) = _
  unfold bX7_goOn_X8_3
  simp only [tk_fin_t, tk_fin_b, tk_fin_l, tk_fin_n, tk_fin_i, tk_fin_r]
  try rfl
theorem fX7_goOn_X8_4_eq (size : Int32) (tape : Nat → Int32) (x1 sort v_at v_to v_value : Int32) : fX7_goOn_X8_4 size tape x1 sort v_at v_to v_value = (fX7_see_X8 size tape v_to).bind (fun u16 => (fX7_isDigit_X8 u16).bind (fun u17 => if u17 = 0 then (if (v_to - x1) ≤ 3 then (fX7_goOn_X8_6 size tape 2 sort v_at v_to v_value) else (fX7_goOn_X8_6 size tape 4 sort v_at v_to v_value)) else (if 3 ≤ (v_to - x1) then (fX7_goOn_X8_5 size tape x1 v_value sort v_at v_to v_value) else ((fX7_see_X8 size tape v_to).bind (fun u21 => fX7_goOn_X8_5 size tape x1 (((10 * v_value) + u21) - 48) sort v_at v_to v_value))))) := by
  unfold fX7_goOn_X8_4
  rw [tk_lp_eq]
  show tk_fin _ (bX7_goOn_X8_4 size tape x1 sort v_at v_to v_value) = _
  unfold bX7_goOn_X8_4
  simp only [tk_fin_t, tk_fin_b, tk_fin_l, tk_fin_n, tk_fin_i, tk_fin_r, fX7_goOn_X8_5, fX7_goOn_X8_6]
  try rfl
theorem fX7_goOn_X8_5_eq (size : Int32) (tape : Nat → Int32) (x1 s1 sort v_at v_to v_value : Int32) : fX7_goOn_X8_5 size tape x1 s1 sort v_at v_to v_value = fX7_goOn_X8_4 size tape x1 sort v_at (v_to + 1) s1 := by
  unfold fX7_goOn_X8_5
  rw [tk_lp_eq]
  show tk_fin _ (bX7_goOn_X8_5 size tape x1 s1 sort v_at v_to v_value) = _
  unfold bX7_goOn_X8_5
  simp only [tk_fin_t, tk_fin_b, tk_fin_l, tk_fin_n, tk_fin_i, tk_fin_r, fX7_goOn_X8_4]
  try rfl
theorem fX7_goOn_X8_6_eq (size : Int32) (tape : Nat → Int32) (s1 sort v_at v_to v_value : Int32) : fX7_goOn_X8_6 size tape s1 sort v_at v_to v_value = some (s1, v_at, v_to, v_value) := by
  unfold fX7_goOn_X8_6
  rw [tk_lp_eq]
  show tk_fin _ (bX7_goOn_X8_6 size tape s1 sort v_at v_to v_value) = _
  unfold bX7_goOn_X8_6
  simp only [tk_fin_t, tk_fin_b, tk_fin_l, tk_fin_n, tk_fin_i, tk_fin_r]
  try rfl
theorem fX7_goOn_X8_7_eq (size : Int32) (tape : Nat → Int32) (s1 sort v_at v_to v_value : Int32) : fX7_goOn_X8_7 size tape s1 sort v_at v_to v_value = some (s1, v_at, v_to, v_value) := by
  unfold fX7_goOn_X8_7
  rw [tk_lp_eq]
  show tk_fin _ (bX7_goOn_X8_7 size tape s1 sort v_at v_to v_value) = _
  unfold bX7_goOn_X8_7
  simp only [tk_fin_t, tk_fin_b, tk_fin_l, tk_fin_n, tk_fin_i, tk_fin_r]
  try rfl
theorem fX7_goOn_X8_eq (size : Int32) (tape : Nat → Int32) (sort v_at v_to v_value : Int32) : fX7_goOn_X8 size tape sort v_at v_to v_value = fX7_goOn_X8_1 size tape v_to sort v_at v_to v_value := by
  unfold fX7_goOn_X8 bX7_goOn_X8_0
  simp only [tk_fin_t, tk_fin_b, tk_fin_l, tk_fin_n, tk_fin_i, tk_fin_r, fX7_goOn_X8_1]
  try rfl
noncomputable def fX7_ask_X8 (v_at p0 p1 kind place : Int32) : Option ((Int32 × Int32) ⊕ (Int32 × Int32)) := if p0 = 0 then ((fX1_by p1 v_at kind place).bind (fun u2 => some (.inr (u2.1, u2.2)))) else (some (.inl (kind, place)))
abbrev VX7_is_X8 : Type := Int32
abbrev OX7_is_X8 : Type := Int32
noncomputable def bX7_is_X8_1 (size sort v_at v_to : Int32) (tape : Nat → Int32) (p0 : Nat) (x2 : Int32) : Option ((Nat × VX7_is_X8) ⊕ OX7_is_X8) := if (Int32.ofNat (tk_sq p0).length) ≤ x2 then (some (.inr 1)) else ((fX7_see_X8 size tape (v_at + x2)).bind (fun u4 => if tk_in x2 (tk_sq p0).length then (if u4 = ((tk_sq p0).getD x2.toNatClampNeg 0) then (some (.inl (1, x2 + 1))) else (some (.inr 0))) else none))
noncomputable def bX7_is_X8_0 (size sort v_at v_to : Int32) (tape : Nat → Int32) (p0 : Nat) : Option ((Nat × VX7_is_X8) ⊕ OX7_is_X8) := if sort = 1 then (if (v_to - v_at) = (Int32.ofNat (tk_sq p0).length) then (some (.inl (1, 0))) else (some (.inr 0))) else (some (.inr 0))
noncomputable def stX7_is_X8 (size sort v_at v_to : Int32) (tape : Nat → Int32) (p0 : Nat) (z : Nat × VX7_is_X8) : Option ((Nat × VX7_is_X8) ⊕ OX7_is_X8) := match z.1 with
  | 1 => bX7_is_X8_1 size sort v_at v_to tape p0 z.2
  | _ => none
noncomputable def fX7_is_X8_1 (size sort v_at v_to : Int32) (tape : Nat → Int32) (p0 : Nat) (x2 : Int32) : Option OX7_is_X8 := tk_lp (stX7_is_X8 size sort v_at v_to tape p0) (1, x2)
noncomputable def fX7_is_X8 (size sort v_at v_to : Int32) (tape : Nat → Int32) (p0 : Nat) : Option OX7_is_X8 := tk_fin (stX7_is_X8 size sort v_at v_to tape p0) (bX7_is_X8_0 size sort v_at v_to tape p0)
theorem fX7_is_X8_1_eq (size sort v_at v_to : Int32) (tape : Nat → Int32) (p0 : Nat) (x2 : Int32) : fX7_is_X8_1 size sort v_at v_to tape p0 x2 = if (Int32.ofNat (tk_sq p0).length) ≤ x2 then (some 1) else ((fX7_see_X8 size tape (v_at + x2)).bind (fun u4 => if tk_in x2 (tk_sq p0).length then (if u4 = ((tk_sq p0).getD x2.toNatClampNeg 0) then (fX7_is_X8_1 size sort v_at v_to tape p0 (x2 + 1)) else (some 0)) else none)) := by
  unfold fX7_is_X8_1
  rw [tk_lp_eq]
  show tk_fin _ (bX7_is_X8_1 size sort v_at v_to tape p0 x2) = _
  unfold bX7_is_X8_1
  simp only [tk_fin_t, tk_fin_b, tk_fin_l, tk_fin_n, tk_fin_i, tk_fin_r, fX7_is_X8_1]
  try rfl
theorem fX7_is_X8_eq (size sort v_at v_to : Int32) (tape : Nat → Int32) (p0 : Nat) : fX7_is_X8 size sort v_at v_to tape p0 = if sort = 1 then (if (v_to - v_at) = (Int32.ofNat (tk_sq p0).length) then (fX7_is_X8_1 size sort v_at v_to tape p0 0) else (some 0)) else (some 0) := by
  unfold fX7_is_X8 bX7_is_X8_0
  simp only [tk_fin_t, tk_fin_b, tk_fin_l, tk_fin_n, tk_fin_i, tk_fin_r, fX7_is_X8_1]
  try rfl
abbrev VX7_begins_X8 : Type := Int32 × Int32 × Int32 × Int32 × Int32 × Int32 × Int32 × Int32 × Int32
abbrev OX7_begins_X8 : Type := (Int32 × Int32 × Int32 × Int32 × Int32 × Int32 × Int32 × Int32) ⊕ (Int32 × Int32 × Int32 × Int32 × Int32 × Int32 × Int32)
noncomputable def bX7_begins_X8_1 (size : Int32) (tape : Nat → Int32) (p0 : Nat) (x2 s1 sort v_at v_to v_value told kind place : Int32) : Option ((Nat × VX7_begins_X8) ⊕ OX7_begins_X8) := (fX7_ask_X8 v_at s1 3 kind place).bind (fun u4 => tk_s u4 (fun ru4 => (fX7_goOn_X8 size tape sort v_at v_to v_value).bind (fun u5 => some (.inr (.inl (1, u5.1, u5.2.1, u5.2.2.1, u5.2.2.2, told ||| (1 <<< (x2 &&& 31)), ru4.1, ru4.2))))) (fun xu4 => some (.inr (.inr (sort, v_at, v_to, v_value, told, xu4.1, xu4.2)))))
noncomputable def bX7_begins_X8_0 (size : Int32) (tape : Nat → Int32) (p0 : Nat) (p1 sort v_at v_to v_value told kind place : Int32) : Option ((Nat × VX7_begins_X8) ⊕ OX7_begins_X8) := (fX7_is_X8 size sort v_at v_to tape p0).bind (fun u1 => if u1 = 0 then (some (.inr (.inl (0, sort, v_at, v_to, v_value, told, kind, place)))) else (if ((told >>> (p1 &&& 31)) &&& 1) = 0 then (some (.inl (1, (p1, 1, sort, v_at, v_to, v_value, told, kind, place)))) else (some (.inl (1, (p1, 0, sort, v_at, v_to, v_value, told, kind, place))))))
noncomputable def stX7_begins_X8 (size : Int32) (tape : Nat → Int32) (p0 : Nat) (z : Nat × VX7_begins_X8) : Option ((Nat × VX7_begins_X8) ⊕ OX7_begins_X8) := match z.1 with
  | 1 => bX7_begins_X8_1 size tape p0 z.2.1 z.2.2.1 z.2.2.2.1 z.2.2.2.2.1 z.2.2.2.2.2.1 z.2.2.2.2.2.2.1 z.2.2.2.2.2.2.2.1 z.2.2.2.2.2.2.2.2.1 z.2.2.2.2.2.2.2.2.2
  | _ => none
noncomputable def fX7_begins_X8_1 (size : Int32) (tape : Nat → Int32) (p0 : Nat) (x2 s1 sort v_at v_to v_value told kind place : Int32) : Option OX7_begins_X8 := tk_lp (stX7_begins_X8 size tape p0) (1, (x2, s1, sort, v_at, v_to, v_value, told, kind, place))
noncomputable def fX7_begins_X8 (size : Int32) (tape : Nat → Int32) (p0 : Nat) (p1 sort v_at v_to v_value told kind place : Int32) : Option OX7_begins_X8 := tk_fin (stX7_begins_X8 size tape p0) (bX7_begins_X8_0 size tape p0 p1 sort v_at v_to v_value told kind place)
theorem fX7_begins_X8_1_eq (size : Int32) (tape : Nat → Int32) (p0 : Nat) (x2 s1 sort v_at v_to v_value told kind place : Int32) : fX7_begins_X8_1 size tape p0 x2 s1 sort v_at v_to v_value told kind place = (fX7_ask_X8 v_at s1 3 kind place).bind (fun u4 => tk_s u4 (fun ru4 => (fX7_goOn_X8 size tape sort v_at v_to v_value).bind (fun u5 => some (.inl (1, u5.1, u5.2.1, u5.2.2.1, u5.2.2.2, told ||| (1 <<< (x2 &&& 31)), ru4.1, ru4.2)))) (fun xu4 => some (.inr (sort, v_at, v_to, v_value, told, xu4.1, xu4.2)))) := by
  unfold fX7_begins_X8_1
  rw [tk_lp_eq]
  show tk_fin _ (bX7_begins_X8_1 size tape p0 x2 s1 sort v_at v_to v_value told kind place) = _
  unfold bX7_begins_X8_1
  simp only [tk_fin_t, tk_fin_b, tk_fin_l, tk_fin_s, tk_fin_n, tk_fin_i, tk_fin_r]
  try rfl
theorem fX7_begins_X8_eq (size : Int32) (tape : Nat → Int32) (p0 : Nat) (p1 sort v_at v_to v_value told kind place : Int32) : fX7_begins_X8 size tape p0 p1 sort v_at v_to v_value told kind place = (fX7_is_X8 size sort v_at v_to tape p0).bind (fun u1 => if u1 = 0 then (some (.inl (0, sort, v_at, v_to, v_value, told, kind, place))) else (if ((told >>> (p1 &&& 31)) &&& 1) = 0 then (fX7_begins_X8_1 size tape p0 p1 1 sort v_at v_to v_value told kind place) else (fX7_begins_X8_1 size tape p0 p1 0 sort v_at v_to v_value told kind place))) := by
  unfold fX7_begins_X8 bX7_begins_X8_0
  simp only [tk_fin_t, tk_fin_b, tk_fin_l, tk_fin_s, tk_fin_n, tk_fin_i, tk_fin_r, fX7_begins_X8_1]
  try rfl
abbrev VX7_within_X8 : Type := Int32 × Int32 × Int32 × Int32 × Int32
abbrev OX7_within_X8 : Type := (Int32 × Int32 × Int32) ⊕ (Int32 × Int32)
noncomputable def bX7_within_X8_1 (sort v_at v_value x1 x2 s1 kind place : Int32) : Option ((Nat × VX7_within_X8) ⊕ OX7_within_X8) := (fX7_ask_X8 v_at s1 1 kind place).bind (fun u2 => tk_s u2 (fun ru2 => (fX0_in v_value x1 x2).bind (fun u3 => (fX7_ask_X8 v_at u3 2 ru2.1 ru2.2).bind (fun u4 => tk_s u4 (fun ru4 => some (.inr (.inl (v_value, ru4.1, ru4.2)))) (fun xu4 => some (.inr (.inr (xu4.1, xu4.2))))))) (fun xu2 => some (.inr (.inr (xu2.1, xu2.2)))))
noncomputable def bX7_within_X8_0 (sort v_at v_value p0 p1 kind place : Int32) : Option ((Nat × VX7_within_X8) ⊕ OX7_within_X8) := if sort = 2 then (some (.inl (1, (p0, p1, 1, kind, place)))) else (some (.inl (1, (p0, p1, 0, kind, place))))
noncomputable def stX7_within_X8 (sort v_at v_value : Int32) (z : Nat × VX7_within_X8) : Option ((Nat × VX7_within_X8) ⊕ OX7_within_X8) := match z.1 with
  | 1 => bX7_within_X8_1 sort v_at v_value z.2.1 z.2.2.1 z.2.2.2.1 z.2.2.2.2.1 z.2.2.2.2.2
  | _ => none
noncomputable def fX7_within_X8_1 (sort v_at v_value x1 x2 s1 kind place : Int32) : Option OX7_within_X8 := tk_lp (stX7_within_X8 sort v_at v_value) (1, (x1, x2, s1, kind, place))
noncomputable def fX7_within_X8 (sort v_at v_value p0 p1 kind place : Int32) : Option OX7_within_X8 := tk_fin (stX7_within_X8 sort v_at v_value) (bX7_within_X8_0 sort v_at v_value p0 p1 kind place)
theorem fX7_within_X8_1_eq (sort v_at v_value x1 x2 s1 kind place : Int32) : fX7_within_X8_1 sort v_at v_value x1 x2 s1 kind place = (fX7_ask_X8 v_at s1 1 kind place).bind (fun u2 => tk_s u2 (fun ru2 => (fX0_in v_value x1 x2).bind (fun u3 => (fX7_ask_X8 v_at u3 2 ru2.1 ru2.2).bind (fun u4 => tk_s u4 (fun ru4 => some (.inl (v_value, ru4.1, ru4.2))) (fun xu4 => some (.inr (xu4.1, xu4.2)))))) (fun xu2 => some (.inr (xu2.1, xu2.2)))) := by
  unfold fX7_within_X8_1
  rw [tk_lp_eq]
  show tk_fin _ (bX7_within_X8_1 sort v_at v_value x1 x2 s1 kind place) = _
  unfold bX7_within_X8_1
  simp only [tk_fin_t, tk_fin_b, tk_fin_l, tk_fin_s, tk_fin_n, tk_fin_i, tk_fin_r]
  try rfl
theorem fX7_within_X8_eq (sort v_at v_value p0 p1 kind place : Int32) : fX7_within_X8 sort v_at v_value p0 p1 kind place = if sort = 2 then (fX7_within_X8_1 sort v_at v_value p0 p1 1 kind place) else (fX7_within_X8_1 sort v_at v_value p0 p1 0 kind place) := by
  unfold fX7_within_X8 bX7_within_X8_0
  simp only [tk_fin_t, tk_fin_b, tk_fin_l, tk_fin_s, tk_fin_n, tk_fin_i, tk_fin_r, fX7_within_X8_1]
  try rfl
noncomputable def fX7_number_X8 (size : Int32) (tape : Nat → Int32) (p0 p1 sort v_at v_to v_value kind place : Int32) : Option ((Int32 × Int32 × Int32 × Int32 × Int32 × Int32 × Int32) ⊕ (Int32 × Int32 × Int32 × Int32 × Int32 × Int32)) := (fX7_within_X8 sort v_at v_value p0 p1 kind place).bind (fun u1 => tk_s u1 (fun ru1 => (fX7_goOn_X8 size tape sort v_at v_to v_value).bind (fun u2 => some (.inl (ru1.1, u2.1, u2.2.1, u2.2.2.1, u2.2.2.2, ru1.2.1, ru1.2.2)))) (fun xu1 => some (.inr (sort, v_at, v_to, v_value, xu1.1, xu1.2))))
noncomputable def fX8_isTold (told p0 : Int32) : Option (Int32) := if ((told >>> (p0 &&& 31)) &&& 1) = 1 then (some 1) else (some 0)
abbrev VX8_thing : Type := Int32 × Int32 × Int32 × Int32 × Int32 × Int32 × Int32 × Int32 × Int32 × Int32 × Int32 × Int32 × Int32 × Int32 × Int32 × (Nat → Int32) × (Nat → Int32) × (Nat → Int32)
abbrev OX8_thing : Type := (Int32 × Int32 × Int32 × Int32 × Int32 × Int32 × Int32 × Int32 × (Nat → Int32) × (Nat → Int32) × (Nat → Int32)) ⊕ (Int32 × Int32 × Int32 × Int32 × Int32 × Int32 × Int32 × Int32 × (Nat → Int32) × (Nat → Int32) × (Nat → Int32))
noncomputable def bX8_thing_1 (size : Int32) (tape : Nat → Int32) (columns rows x1 x2 sort v_at v_to v_value hasThings flags kind place : Int32) (stones heaps flagCell : Nat → Int32) : Option ((Nat × VX8_thing) ⊕ OX8_thing) := some (.inl (2, (x1, x2, 1, 0, 0, 0, 0, sort, v_at, v_to, v_value, hasThings, flags, kind, place, stones, heaps, flagCell)))
noncomputable def bX8_thing_2 (size : Int32) (tape : Nat → Int32) (columns rows x1 x2 s1 sort v_at v_to v_value hasThings flags kind place : Int32) (stones heaps flagCell : Nat → Int32) : Option ((Nat × VX8_thing) ⊕ OX8_thing) := (fX7_ask_X8 v_at s1 4 kind place).bind (fun u6 => tk_s u6 (fun ru6 => (fX7_goOn_X8 size tape sort v_at v_to v_value).bind (fun u7 => if x1 = 0 then (some (.inl (3, (x1, x2, 0, 0, 0, 0, 0, u7.1, u7.2.1, u7.2.2.1, u7.2.2.2, 1, flags, ru6.1, ru6.2, stones, heaps, flagCell)))) else ((fX7_number_X8 size tape 1 40 u7.1 u7.2.1 u7.2.2.1 u7.2.2.2 ru6.1 ru6.2).bind (fun u9 => tk_s u9 (fun ru9 => some (.inl (3, (x1, x2, 0, ru9.1, 0, 0, 0, ru9.2.1, ru9.2.2.1, ru9.2.2.2.1, ru9.2.2.2.2.1, 1, flags, ru9.2.2.2.2.2.1, ru9.2.2.2.2.2.2, stones, heaps, flagCell)))) (fun xu9 => some (.inr (.inr (xu9.1, xu9.2.1, xu9.2.2.1, xu9.2.2.2.1, 1, flags, xu9.2.2.2.2.1, xu9.2.2.2.2.2, stones, heaps, flagCell)))))))) (fun xu6 => some (.inr (.inr (sort, v_at, v_to, v_value, hasThings, flags, xu6.1, xu6.2, stones, heaps, flagCell)))))
noncomputable def bX8_thing_3 (size : Int32) (tape : Nat → Int32) (columns rows x1 x2 s0 sort v_at v_to v_value hasThings flags kind place : Int32) (stones heaps flagCell : Nat → Int32) : Option ((Nat × VX8_thing) ⊕ OX8_thing) := (fX7_number_X8 size tape 0 (columns - 1) sort v_at v_to v_value kind place).bind (fun u10 => tk_s u10 (fun ru10 => (fX7_within_X8 ru10.2.1 ru10.2.2.1 ru10.2.2.2.2.1 0 (rows - 1) ru10.2.2.2.2.2.1 ru10.2.2.2.2.2.2).bind (fun u11 => tk_s u11 (fun ru11 => if x1 = 0 then (if x2 = 0 then (some (.inl (6, (0, 0, 0, 0, 0, (columns * ru11.1) + ru10.1, 0, ru10.2.1, ru10.2.2.1, ru10.2.2.2.1, ru10.2.2.2.2.1, hasThings, flags, ru11.2.1, ru11.2.2, stones, heaps, flagCell)))) else (if tk_in ((columns * ru11.1) + ru10.1) 64 then (if (stones ((columns * ru11.1) + ru10.1).toNatClampNeg) = 0 then (some (.inl (5, (0, 0, 1, 0, 0, (columns * ru11.1) + ru10.1, 0, ru10.2.1, ru10.2.2.1, ru10.2.2.2.1, ru10.2.2.2.2.1, hasThings, flags, ru11.2.1, ru11.2.2, stones, heaps, flagCell)))) else (some (.inl (5, (0, 0, 0, 0, 0, (columns * ru11.1) + ru10.1, 0, ru10.2.1, ru10.2.2.1, ru10.2.2.2.1, ru10.2.2.2.2.1, hasThings, flags, ru11.2.1, ru11.2.2, stones, heaps, flagCell))))) else none)) else (if tk_in ((columns * ru11.1) + ru10.1) 64 then (if 59 < ((heaps ((columns * ru11.1) + ru10.1).toNatClampNeg) + s0) then (some (.inl (4, (0, 0, 0, 0, s0, (columns * ru11.1) + ru10.1, 0, ru10.2.1, ru10.2.2.1, ru10.2.2.2.1, ru10.2.2.2.2.1, hasThings, flags, ru11.2.1, ru11.2.2, stones, heaps, flagCell)))) else (some (.inl (4, (0, 0, 1, 0, s0, (columns * ru11.1) + ru10.1, 0, ru10.2.1, ru10.2.2.1, ru10.2.2.2.1, ru10.2.2.2.2.1, hasThings, flags, ru11.2.1, ru11.2.2, stones, heaps, flagCell))))) else none)) (fun xu11 => some (.inr (.inr (ru10.2.1, ru10.2.2.1, ru10.2.2.2.1, ru10.2.2.2.2.1, hasThings, flags, xu11.1, xu11.2, stones, heaps, flagCell)))))) (fun xu10 => some (.inr (.inr (xu10.1, xu10.2.1, xu10.2.2.1, xu10.2.2.2.1, hasThings, flags, xu10.2.2.2.2.1, xu10.2.2.2.2.2, stones, heaps, flagCell)))))
noncomputable def bX8_thing_4 (size : Int32) (tape : Nat → Int32) (columns rows x3 x5 s1 sort v_at v_to v_value hasThings flags kind place : Int32) (stones heaps flagCell : Nat → Int32) : Option ((Nat × VX8_thing) ⊕ OX8_thing) := (fX7_ask_X8 v_at s1 2 kind place).bind (fun u18 => tk_s u18 (fun ru18 => if tk_in x5 64 then (some (.inl (8, (0, 0, 0, 0, 0, 0, 0, sort, v_at, v_to, v_value, hasThings, flags, ru18.1, ru18.2, stones, upd heaps x5.toNatClampNeg ((heaps x5.toNatClampNeg) + x3), flagCell)))) else none) (fun xu18 => some (.inr (.inr (sort, v_at, v_to, v_value, hasThings, flags, xu18.1, xu18.2, stones, heaps, flagCell)))))
noncomputable def bX8_thing_5 (size : Int32) (tape : Nat → Int32) (columns rows x5 s1 sort v_at v_to v_value hasThings flags kind place : Int32) (stones heaps flagCell : Nat → Int32) : Option ((Nat × VX8_thing) ⊕ OX8_thing) := (fX7_ask_X8 v_at s1 3 kind place).bind (fun u20 => tk_s u20 (fun ru20 => if tk_in x5 64 then (some (.inl (8, (0, 0, 0, 0, 0, 0, 0, sort, v_at, v_to, v_value, hasThings, flags, ru20.1, ru20.2, upd stones x5.toNatClampNeg 1, heaps, flagCell)))) else none) (fun xu20 => some (.inr (.inr (sort, v_at, v_to, v_value, hasThings, flags, xu20.1, xu20.2, stones, heaps, flagCell)))))
noncomputable def bX8_thing_6 (size : Int32) (tape : Nat → Int32) (columns rows x5 x6 sort v_at v_to v_value hasThings flags kind place : Int32) (stones heaps flagCell : Nat → Int32) : Option ((Nat × VX8_thing) ⊕ OX8_thing) := if flags ≤ x6 then (if tk_in flags 3 then (some (.inl (8, (0, 0, 0, 0, 0, 0, 0, sort, v_at, v_to, v_value, hasThings, flags + 1, kind, place, stones, heaps, upd flagCell flags.toNatClampNeg x5)))) else none) else (if tk_in x6 3 then (if (flagCell x6.toNatClampNeg) = x5 then (some (.inl (7, (0, 0, 0, 0, 0, x5, x6, sort, v_at, v_to, v_value, hasThings, flags, kind, place, stones, heaps, flagCell)))) else (some (.inl (7, (0, 0, 1, 0, 0, x5, x6, sort, v_at, v_to, v_value, hasThings, flags, kind, place, stones, heaps, flagCell))))) else none)
noncomputable def bX8_thing_7 (size : Int32) (tape : Nat → Int32) (columns rows x5 x6 s1 sort v_at v_to v_value hasThings flags kind place : Int32) (stones heaps flagCell : Nat → Int32) : Option ((Nat × VX8_thing) ⊕ OX8_thing) := (fX7_ask_X8 v_at s1 3 kind place).bind (fun u26 => tk_s u26 (fun ru26 => some (.inl (6, (0, 0, 0, 0, 0, x5, x6 + 1, sort, v_at, v_to, v_value, hasThings, flags, ru26.1, ru26.2, stones, heaps, flagCell)))) (fun xu26 => some (.inr (.inr (sort, v_at, v_to, v_value, hasThings, flags, xu26.1, xu26.2, stones, heaps, flagCell)))))
noncomputable def bX8_thing_8 (size : Int32) (tape : Nat → Int32) (columns rows sort v_at v_to v_value hasThings flags kind place : Int32) (stones heaps flagCell : Nat → Int32) : Option ((Nat × VX8_thing) ⊕ OX8_thing) := (fX7_goOn_X8 size tape sort v_at v_to v_value).bind (fun u27 => some (.inr (.inl (u27.1, u27.2.1, u27.2.2.1, u27.2.2.2, hasThings, flags, kind, place, stones, heaps, flagCell))))
noncomputable def bX8_thing_0 (size : Int32) (tape : Nat → Int32) (columns rows sort v_at v_to v_value hasThings flags kind place : Int32) (stones heaps flagCell : Nat → Int32) : Option ((Nat × VX8_thing) ⊕ OX8_thing) := (fX7_is_X8 size sort v_at v_to tape 39).bind (fun u1 => (fX7_is_X8 size sort v_at v_to tape 40).bind (fun u2 => if u1 = 0 then (if u2 = 0 then (if 3 ≤ flags then (some (.inl (2, (u1, u2, 0, 0, 0, 0, 0, sort, v_at, v_to, v_value, hasThings, flags, kind, place, stones, heaps, flagCell)))) else (some (.inl (1, (u1, u2, 0, 0, 0, 0, 0, sort, v_at, v_to, v_value, hasThings, flags, kind, place, stones, heaps, flagCell))))) else (some (.inl (1, (u1, u2, 0, 0, 0, 0, 0, sort, v_at, v_to, v_value, hasThings, flags, kind, place, stones, heaps, flagCell))))) else (some (.inl (1, (u1, u2, 0, 0, 0, 0, 0, sort, v_at, v_to, v_value, hasThings, flags, kind, place, stones, heaps, flagCell))))))
noncomputable def stX8_thing (size : Int32) (tape : Nat → Int32) (columns rows : Int32) (z : Nat × VX8_thing) : Option ((Nat × VX8_thing) ⊕ OX8_thing) := match z.1 with
  | 1 => bX8_thing_1 size tape columns rows z.2.1 z.2.2.1 z.2.2.2.2.2.2.2.2.1 z.2.2.2.2.2.2.2.2.2.1 z.2.2.2.2.2.2.2.2.2.2.1 z.2.2.2.2.2.2.2.2.2.2.2.1 z.2.2.2.2.2.2.2.2.2.2.2.2.1 z.2.2.2.2.2.2.2.2.2.2.2.2.2.1 z.2.2.2.2.2.2.2.2.2.2.2.2.2.2.1 z.2.2.2.2.2.2.2.2.2.2.2.2.2.2.2.1 z.2.2.2.2.2.2.2.2.2.2.2.2.2.2.2.2.1 z.2.2.2.2.2.2.2.2.2.2.2.2.2.2.2.2.2.1 z.2.2.2.2.2.2.2.2.2.2.2.2.2.2.2.2.2.2
  | 2 => bX8_thing_2 size tape columns rows z.2.1 z.2.2.1 z.2.2.2.1 z.2.2.2.2.2.2.2.2.1 z.2.2.2.2.2.2.2.2.2.1 z.2.2.2.2.2.2.2.2.2.2.1 z.2.2.2.2.2.2.2.2.2.2.2.1 z.2.2.2.2.2.2.2.2.2.2.2.2.1 z.2.2.2.2.2.2.2.2.2.2.2.2.2.1 z.2.2.2.2.2.2.2.2.2.2.2.2.2.2.1 z.2.2.2.2.2.2.2.2.2.2.2.2.2.2.2.1 z.2.2.2.2.2.2.2.2.2.2.2.2.2.2.2.2.1 z.2.2.2.2.2.2.2.2.2.2.2.2.2.2.2.2.2.1 z.2.2.2.2.2.2.2.2.2.2.2.2.2.2.2.2.2.2
  | 3 => bX8_thing_3 size tape columns rows z.2.1 z.2.2.1 z.2.2.2.2.1 z.2.2.2.2.2.2.2.2.1 z.2.2.2.2.2.2.2.2.2.1 z.2.2.2.2.2.2.2.2.2.2.1 z.2.2.2.2.2.2.2.2.2.2.2.1 z.2.2.2.2.2.2.2.2.2.2.2.2.1 z.2.2.2.2.2.2.2.2.2.2.2.2.2.1 z.2.2.2.2.2.2.2.2.2.2.2.2.2.2.1 z.2.2.2.2.2.2.2.2.2.2.2.2.2.2.2.1 z.2.2.2.2.2.2.2.2.2.2.2.2.2.2.2.2.1 z.2.2.2.2.2.2.2.2.2.2.2.2.2.2.2.2.2.1 z.2.2.2.2.2.2.2.2.2.2.2.2.2.2.2.2.2.2
  | 4 => bX8_thing_4 size tape columns rows z.2.2.2.2.2.1 z.2.2.2.2.2.2.1 z.2.2.2.1 z.2.2.2.2.2.2.2.2.1 z.2.2.2.2.2.2.2.2.2.1 z.2.2.2.2.2.2.2.2.2.2.1 z.2.2.2.2.2.2.2.2.2.2.2.1 z.2.2.2.2.2.2.2.2.2.2.2.2.1 z.2.2.2.2.2.2.2.2.2.2.2.2.2.1 z.2.2.2.2.2.2.2.2.2.2.2.2.2.2.1 z.2.2.2.2.2.2.2.2.2.2.2.2.2.2.2.1 z.2.2.2.2.2.2.2.2.2.2.2.2.2.2.2.2.1 z.2.2.2.2.2.2.2.2.2.2.2.2.2.2.2.2.2.1 z.2.2.2.2.2.2.2.2.2.2.2.2.2.2.2.2.2.2
  | 5 => bX8_thing_5 size tape columns rows z.2.2.2.2.2.2.1 z.2.2.2.1 z.2.2.2.2.2.2.2.2.1 z.2.2.2.2.2.2.2.2.2.1 z.2.2.2.2.2.2.2.2.2.2.1 z.2.2.2.2.2.2.2.2.2.2.2.1 z.2.2.2.2.2.2.2.2.2.2.2.2.1 z.2.2.2.2.2.2.2.2.2.2.2.2.2.1 z.2.2.2.2.2.2.2.2.2.2.2.2.2.2.1 z.2.2.2.2.2.2.2.2.2.2.2.2.2.2.2.1 z.2.2.2.2.2.2.2.2.2.2.2.2.2.2.2.2.1 z.2.2.2.2.2.2.2.2.2.2.2.2.2.2.2.2.2.1 z.2.2.2.2.2.2.2.2.2.2.2.2.2.2.2.2.2.2
  | 6 => bX8_thing_6 size tape columns rows z.2.2.2.2.2.2.1 z.2.2.2.2.2.2.2.1 z.2.2.2.2.2.2.2.2.1 z.2.2.2.2.2.2.2.2.2.1 z.2.2.2.2.2.2.2.2.2.2.1 z.2.2.2.2.2.2.2.2.2.2.2.1 z.2.2.2.2.2.2.2.2.2.2.2.2.1 z.2.2.2.2.2.2.2.2.2.2.2.2.2.1 z.2.2.2.2.2.2.2.2.2.2.2.2.2.2.1 z.2.2.2.2.2.2.2.2.2.2.2.2.2.2.2.1 z.2.2.2.2.2.2.2.2.2.2.2.2.2.2.2.2.1 z.2.2.2.2.2.2.2.2.2.2.2.2.2.2.2.2.2.1 z.2.2.2.2.2.2.2.2.2.2.2.2.2.2.2.2.2.2
  | 7 => bX8_thing_7 size tape columns rows z.2.2.2.2.2.2.1 z.2.2.2.2.2.2.2.1 z.2.2.2.1 z.2.2.2.2.2.2.2.2.1 z.2.2.2.2.2.2.2.2.2.1 z.2.2.2.2.2.2.2.2.2.2.1 z.2.2.2.2.2.2.2.2.2.2.2.1 z.2.2.2.2.2.2.2.2.2.2.2.2.1 z.2.2.2.2.2.2.2.2.2.2.2.2.2.1 z.2.2.2.2.2.2.2.2.2.2.2.2.2.2.1 z.2.2.2.2.2.2.2.2.2.2.2.2.2.2.2.1 z.2.2.2.2.2.2.2.2.2.2.2.2.2.2.2.2.1 z.2.2.2.2.2.2.2.2.2.2.2.2.2.2.2.2.2.1 z.2.2.2.2.2.2.2.2.2.2.2.2.2.2.2.2.2.2
  | 8 => bX8_thing_8 size tape columns rows z.2.2.2.2.2.2.2.2.1 z.2.2.2.2.2.2.2.2.2.1 z.2.2.2.2.2.2.2.2.2.2.1 z.2.2.2.2.2.2.2.2.2.2.2.1 z.2.2.2.2.2.2.2.2.2.2.2.2.1 z.2.2.2.2.2.2.2.2.2.2.2.2.2.1 z.2.2.2.2.2.2.2.2.2.2.2.2.2.2.1 z.2.2.2.2.2.2.2.2.2.2.2.2.2.2.2.1 z.2.2.2.2.2.2.2.2.2.2.2.2.2.2.2.2.1 z.2.2.2.2.2.2.2.2.2.2.2.2.2.2.2.2.2.1 z.2.2.2.2.2.2.2.2.2.2.2.2.2.2.2.2.2.2
  | _ => none
noncomputable def fX8_thing_1 (size : Int32) (tape : Nat → Int32) (columns rows x1 x2 sort v_at v_to v_value hasThings flags kind place : Int32) (stones heaps flagCell : Nat → Int32) : Option OX8_thing := tk_lp (stX8_thing size tape columns rows) (1, (x1, x2, 0, 0, 0, 0, 0, sort, v_at, v_to, v_value, hasThings, flags, kind, place, stones, heaps, flagCell))
noncomputable def fX8_thing_2 (size : Int32) (tape : Nat → Int32) (columns rows x1 x2 s1 sort v_at v_to v_value hasThings flags kind place : Int32) (stones heaps flagCell : Nat → Int32) : Option OX8_thing := tk_lp (stX8_thing size tape columns rows) (2, (x1, x2, s1, 0, 0, 0, 0, sort, v_at, v_to, v_value, hasThings, flags, kind, place, stones, heaps, flagCell))
noncomputable def fX8_thing_3 (size : Int32) (tape : Nat → Int32) (columns rows x1 x2 s0 sort v_at v_to v_value hasThings flags kind place : Int32) (stones heaps flagCell : Nat → Int32) : Option OX8_thing := tk_lp (stX8_thing size tape columns rows) (3, (x1, x2, 0, s0, 0, 0, 0, sort, v_at, v_to, v_value, hasThings, flags, kind, place, stones, heaps, flagCell))
noncomputable def fX8_thing_4 (size : Int32) (tape : Nat → Int32) (columns rows x3 x5 s1 sort v_at v_to v_value hasThings flags kind place : Int32) (stones heaps flagCell : Nat → Int32) : Option OX8_thing := tk_lp (stX8_thing size tape columns rows) (4, (0, 0, s1, 0, x3, x5, 0, sort, v_at, v_to, v_value, hasThings, flags, kind, place, stones, heaps, flagCell))
noncomputable def fX8_thing_5 (size : Int32) (tape : Nat → Int32) (columns rows x5 s1 sort v_at v_to v_value hasThings flags kind place : Int32) (stones heaps flagCell : Nat → Int32) : Option OX8_thing := tk_lp (stX8_thing size tape columns rows) (5, (0, 0, s1, 0, 0, x5, 0, sort, v_at, v_to, v_value, hasThings, flags, kind, place, stones, heaps, flagCell))
noncomputable def fX8_thing_6 (size : Int32) (tape : Nat → Int32) (columns rows x5 x6 sort v_at v_to v_value hasThings flags kind place : Int32) (stones heaps flagCell : Nat → Int32) : Option OX8_thing := tk_lp (stX8_thing size tape columns rows) (6, (0, 0, 0, 0, 0, x5, x6, sort, v_at, v_to, v_value, hasThings, flags, kind, place, stones, heaps, flagCell))
noncomputable def fX8_thing_7 (size : Int32) (tape : Nat → Int32) (columns rows x5 x6 s1 sort v_at v_to v_value hasThings flags kind place : Int32) (stones heaps flagCell : Nat → Int32) : Option OX8_thing := tk_lp (stX8_thing size tape columns rows) (7, (0, 0, s1, 0, 0, x5, x6, sort, v_at, v_to, v_value, hasThings, flags, kind, place, stones, heaps, flagCell))
noncomputable def fX8_thing_8 (size : Int32) (tape : Nat → Int32) (columns rows sort v_at v_to v_value hasThings flags kind place : Int32) (stones heaps flagCell : Nat → Int32) : Option OX8_thing := tk_lp (stX8_thing size tape columns rows) (8, (0, 0, 0, 0, 0, 0, 0, sort, v_at, v_to, v_value, hasThings, flags, kind, place, stones, heaps, flagCell))
noncomputable def fX8_thing (size : Int32) (tape : Nat → Int32) (columns rows sort v_at v_to v_value hasThings flags kind place : Int32) (stones heaps flagCell : Nat → Int32) : Option OX8_thing := tk_fin (stX8_thing size tape columns rows) (bX8_thing_0 size tape columns rows sort v_at v_to v_value hasThings flags kind place stones heaps flagCell)
theorem fX8_thing_1_eq (size : Int32) (tape : Nat → Int32) (columns rows x1 x2 sort v_at v_to v_value hasThings flags kind place : Int32) (stones heaps flagCell : Nat → Int32) : fX8_thing_1 size tape columns rows x1 x2 sort v_at v_to v_value hasThings flags kind place stones heaps flagCell = fX8_thing_2 size tape columns rows x1 x2 1 sort v_at v_to v_value hasThings flags kind place stones heaps flagCell := by
  unfold fX8_thing_1
  rw [tk_lp_eq]
  show tk_fin _ (bX8_thing_1 size tape columns rows x1 x2 sort v_at v_to v_value hasThings flags kind place stones heaps flagCell) = _
  unfold bX8_thing_1
  simp only [tk_fin_t, tk_fin_b, tk_fin_l, tk_fin_s, tk_fin_n, tk_fin_i, tk_fin_r, fX8_thing_2]
  try rfl
theorem fX8_thing_2_eq (size : Int32) (tape : Nat → Int32) (columns rows x1 x2 s1 sort v_at v_to v_value hasThings flags kind place : Int32) (stones heaps flagCell : Nat → Int32) : fX8_thing_2 size tape columns rows x1 x2 s1 sort v_at v_to v_value hasThings flags kind place stones heaps flagCell = (fX7_ask_X8 v_at s1 4 kind place).bind (fun u6 => tk_s u6 (fun ru6 => (fX7_goOn_X8 size tape sort v_at v_to v_value).bind (fun u7 => if x1 = 0 then (fX8_thing_3 size tape columns rows x1 x2 0 u7.1 u7.2.1 u7.2.2.1 u7.2.2.2 1 flags ru6.1 ru6.2 stones heaps flagCell) else ((fX7_number_X8 size tape 1 40 u7.1 u7.2.1 u7.2.2.1 u7.2.2.2 ru6.1 ru6.2).bind (fun u9 => tk_s u9 (fun ru9 => fX8_thing_3 size tape columns rows x1 x2 ru9.1 ru9.2.1 ru9.2.2.1 ru9.2.2.2.1 ru9.2.2.2.2.1 1 flags ru9.2.2.2.2.2.1 ru9.2.2.2.2.2.2 stones heaps flagCell) (fun xu9 => some (.inr (xu9.1, xu9.2.1, xu9.2.2.1, xu9.2.2.2.1, 1, flags, xu9.2.2.2.2.1, xu9.2.2.2.2.2, stones, heaps, flagCell))))))) (fun xu6 => some (.inr (sort, v_at, v_to, v_value, hasThings, flags, xu6.1, xu6.2, stones, heaps, flagCell)))) := by
  unfold fX8_thing_2
  rw [tk_lp_eq]
  show tk_fin _ (bX8_thing_2 size tape columns rows x1 x2 s1 sort v_at v_to v_value hasThings flags kind place stones heaps flagCell) = _
  unfold bX8_thing_2
  simp only [tk_fin_t, tk_fin_b, tk_fin_l, tk_fin_s, tk_fin_n, tk_fin_i, tk_fin_r, fX8_thing_3]
  try rfl
theorem fX8_thing_3_eq (size : Int32) (tape : Nat → Int32) (columns rows x1 x2 s0 sort v_at v_to v_value hasThings flags kind place : Int32) (stones heaps flagCell : Nat → Int32) : fX8_thing_3 size tape columns rows x1 x2 s0 sort v_at v_to v_value hasThings flags kind place stones heaps flagCell = (fX7_number_X8 size tape 0 (columns - 1) sort v_at v_to v_value kind place).bind (fun u10 => tk_s u10 (fun ru10 => (fX7_within_X8 ru10.2.1 ru10.2.2.1 ru10.2.2.2.2.1 0 (rows - 1) ru10.2.2.2.2.2.1 ru10.2.2.2.2.2.2).bind (fun u11 => tk_s u11 (fun ru11 => if x1 = 0 then (if x2 = 0 then (fX8_thing_6 size tape columns rows ((columns * ru11.1) + ru10.1) 0 ru10.2.1 ru10.2.2.1 ru10.2.2.2.1 ru10.2.2.2.2.1 hasThings flags ru11.2.1 ru11.2.2 stones heaps flagCell) else (if tk_in ((columns * ru11.1) + ru10.1) 64 then (if (stones ((columns * ru11.1) + ru10.1).toNatClampNeg) = 0 then (fX8_thing_5 size tape columns rows ((columns * ru11.1) + ru10.1) 1 ru10.2.1 ru10.2.2.1 ru10.2.2.2.1 ru10.2.2.2.2.1 hasThings flags ru11.2.1 ru11.2.2 stones heaps flagCell) else (fX8_thing_5 size tape columns rows ((columns * ru11.1) + ru10.1) 0 ru10.2.1 ru10.2.2.1 ru10.2.2.2.1 ru10.2.2.2.2.1 hasThings flags ru11.2.1 ru11.2.2 stones heaps flagCell)) else none)) else (if tk_in ((columns * ru11.1) + ru10.1) 64 then (if 59 < ((heaps ((columns * ru11.1) + ru10.1).toNatClampNeg) + s0) then (fX8_thing_4 size tape columns rows s0 ((columns * ru11.1) + ru10.1) 0 ru10.2.1 ru10.2.2.1 ru10.2.2.2.1 ru10.2.2.2.2.1 hasThings flags ru11.2.1 ru11.2.2 stones heaps flagCell) else (fX8_thing_4 size tape columns rows s0 ((columns * ru11.1) + ru10.1) 1 ru10.2.1 ru10.2.2.1 ru10.2.2.2.1 ru10.2.2.2.2.1 hasThings flags ru11.2.1 ru11.2.2 stones heaps flagCell)) else none)) (fun xu11 => some (.inr (ru10.2.1, ru10.2.2.1, ru10.2.2.2.1, ru10.2.2.2.2.1, hasThings, flags, xu11.1, xu11.2, stones, heaps, flagCell))))) (fun xu10 => some (.inr (xu10.1, xu10.2.1, xu10.2.2.1, xu10.2.2.2.1, hasThings, flags, xu10.2.2.2.2.1, xu10.2.2.2.2.2, stones, heaps, flagCell)))) := by
  unfold fX8_thing_3
  rw [tk_lp_eq]
  show tk_fin _ (bX8_thing_3 size tape columns rows x1 x2 s0 sort v_at v_to v_value hasThings flags kind place stones heaps flagCell) = _
  unfold bX8_thing_3
  simp only [tk_fin_t, tk_fin_b, tk_fin_l, tk_fin_s, tk_fin_n, tk_fin_i, tk_fin_r, fX8_thing_4, fX8_thing_5, fX8_thing_6]
  try rfl
theorem fX8_thing_4_eq (size : Int32) (tape : Nat → Int32) (columns rows x3 x5 s1 sort v_at v_to v_value hasThings flags kind place : Int32) (stones heaps flagCell : Nat → Int32) : fX8_thing_4 size tape columns rows x3 x5 s1 sort v_at v_to v_value hasThings flags kind place stones heaps flagCell = (fX7_ask_X8 v_at s1 2 kind place).bind (fun u18 => tk_s u18 (fun ru18 => if tk_in x5 64 then (fX8_thing_8 size tape columns rows sort v_at v_to v_value hasThings flags ru18.1 ru18.2 stones (upd heaps x5.toNatClampNeg ((heaps x5.toNatClampNeg) + x3)) flagCell) else none) (fun xu18 => some (.inr (sort, v_at, v_to, v_value, hasThings, flags, xu18.1, xu18.2, stones, heaps, flagCell)))) := by
  unfold fX8_thing_4
  rw [tk_lp_eq]
  show tk_fin _ (bX8_thing_4 size tape columns rows x3 x5 s1 sort v_at v_to v_value hasThings flags kind place stones heaps flagCell) = _
  unfold bX8_thing_4
  simp only [tk_fin_t, tk_fin_b, tk_fin_l, tk_fin_s, tk_fin_n, tk_fin_i, tk_fin_r, fX8_thing_8]
  try rfl
theorem fX8_thing_5_eq (size : Int32) (tape : Nat → Int32) (columns rows x5 s1 sort v_at v_to v_value hasThings flags kind place : Int32) (stones heaps flagCell : Nat → Int32) : fX8_thing_5 size tape columns rows x5 s1 sort v_at v_to v_value hasThings flags kind place stones heaps flagCell = (fX7_ask_X8 v_at s1 3 kind place).bind (fun u20 => tk_s u20 (fun ru20 => if tk_in x5 64 then (fX8_thing_8 size tape columns rows sort v_at v_to v_value hasThings flags ru20.1 ru20.2 (upd stones x5.toNatClampNeg 1) heaps flagCell) else none) (fun xu20 => some (.inr (sort, v_at, v_to, v_value, hasThings, flags, xu20.1, xu20.2, stones, heaps, flagCell)))) := by
  unfold fX8_thing_5
  rw [tk_lp_eq]
  show tk_fin _ (bX8_thing_5 size tape columns rows x5 s1 sort v_at v_to v_value hasThings flags kind place stones heaps flagCell) = _
  unfold bX8_thing_5
  simp only [tk_fin_t, tk_fin_b, tk_fin_l, tk_fin_s, tk_fin_n, tk_fin_i, tk_fin_r, fX8_thing_8]
  try rfl
theorem fX8_thing_6_eq (size : Int32) (tape : Nat → Int32) (columns rows x5 x6 sort v_at v_to v_value hasThings flags kind place : Int32) (stones heaps flagCell : Nat → Int32) : fX8_thing_6 size tape columns rows x5 x6 sort v_at v_to v_value hasThings flags kind place stones heaps flagCell = if flags ≤ x6 then (if tk_in flags 3 then (fX8_thing_8 size tape columns rows sort v_at v_to v_value hasThings (flags + 1) kind place stones heaps (upd flagCell flags.toNatClampNeg x5)) else none) else (if tk_in x6 3 then (if (flagCell x6.toNatClampNeg) = x5 then (fX8_thing_7 size tape columns rows x5 x6 0 sort v_at v_to v_value hasThings flags kind place stones heaps flagCell) else (fX8_thing_7 size tape columns rows x5 x6 1 sort v_at v_to v_value hasThings flags kind place stones heaps flagCell)) else none) := by
  unfold fX8_thing_6
  rw [tk_lp_eq]
  show tk_fin _ (bX8_thing_6 size tape columns rows x5 x6 sort v_at v_to v_value hasThings flags kind place stones heaps flagCell) = _
  unfold bX8_thing_6
  simp only [tk_fin_t, tk_fin_b, tk_fin_l, tk_fin_s, tk_fin_n, tk_fin_i, tk_fin_r, fX8_thing_7, fX8_thing_8]
  try rfl
theorem fX8_thing_7_eq (size : Int32) (tape : Nat → Int32) (columns rows x5 x6 s1 sort v_at v_to v_value hasThings flags kind place : Int32) (stones heaps flagCell : Nat → Int32) : fX8_thing_7 size tape columns rows x5 x6 s1 sort v_at v_to v_value hasThings flags kind place stones heaps flagCell = (fX7_ask_X8 v_at s1 3 kind place).bind (fun u26 => tk_s u26 (fun ru26 => fX8_thing_6 size tape columns rows x5 (x6 + 1) sort v_at v_to v_value hasThings flags ru26.1 ru26.2 stones heaps flagCell) (fun xu26 => some (.inr (sort, v_at, v_to, v_value, hasThings, flags, xu26.1, xu26.2, stones, heaps, flagCell)))) := by
  unfold fX8_thing_7
  rw [tk_lp_eq]
  show tk_fin _ (bX8_thing_7 size tape columns rows x5 x6 s1 sort v_at v_to v_value hasThings flags kind place stones heaps flagCell) = _
  unfold bX8_thing_7
  simp only [tk_fin_t, tk_fin_b, tk_fin_l, tk_fin_s, tk_fin_n, tk_fin_i, tk_fin_r, fX8_thing_6]
  try rfl
theorem fX8_thing_8_eq (size : Int32) (tape : Nat → Int32) (columns rows sort v_at v_to v_value hasThings flags kind place : Int32) (stones heaps flagCell : Nat → Int32) : fX8_thing_8 size tape columns rows sort v_at v_to v_value hasThings flags kind place stones heaps flagCell = (fX7_goOn_X8 size tape sort v_at v_to v_value).bind (fun u27 => some (.inl (u27.1, u27.2.1, u27.2.2.1, u27.2.2.2, hasThings, flags, kind, place, stones, heaps, flagCell))) := by
  unfold fX8_thing_8
  rw [tk_lp_eq]
  show tk_fin _ (bX8_thing_8 size tape columns rows sort v_at v_to v_value hasThings flags kind place stones heaps flagCell) = _
  unfold bX8_thing_8
  simp only [tk_fin_t, tk_fin_b, tk_fin_l, tk_fin_s, tk_fin_n, tk_fin_i, tk_fin_r]
  try rfl
theorem fX8_thing_eq (size : Int32) (tape : Nat → Int32) (columns rows sort v_at v_to v_value hasThings flags kind place : Int32) (stones heaps flagCell : Nat → Int32) : fX8_thing size tape columns rows sort v_at v_to v_value hasThings flags kind place stones heaps flagCell = (fX7_is_X8 size sort v_at v_to tape 39).bind (fun u1 => (fX7_is_X8 size sort v_at v_to tape 40).bind (fun u2 => if u1 = 0 then (if u2 = 0 then (if 3 ≤ flags then (fX8_thing_2 size tape columns rows u1 u2 0 sort v_at v_to v_value hasThings flags kind place stones heaps flagCell) else (fX8_thing_1 size tape columns rows u1 u2 sort v_at v_to v_value hasThings flags kind place stones heaps flagCell)) else (fX8_thing_1 size tape columns rows u1 u2 sort v_at v_to v_value hasThings flags kind place stones heaps flagCell)) else (fX8_thing_1 size tape columns rows u1 u2 sort v_at v_to v_value hasThings flags kind place stones heaps flagCell))) := by
  unfold fX8_thing bX8_thing_0
  simp only [tk_fin_t, tk_fin_b, tk_fin_l, tk_fin_s, tk_fin_n, tk_fin_i, tk_fin_r, fX8_thing_1, fX8_thing_2]
  try rfl
abbrev VX8_clause : Type := Int32 × Int32 × Int32 × Int32 × Int32 × Int32 × Int32 × Int32 × Int32 × Int32 × Int32 × Int32 × Int32 × Int32 × Int32 × Int32 × Int32 × Int32 × (Nat → Int32) × (Nat → Int32) × (Nat → Int32) × (Nat → Int32)
abbrev OX8_clause : Type := (Int32 × Int32 × Int32 × Int32 × Int32 × Int32 × Int32 × Int32 × Int32 × Int32 × Int32 × Int32 × Int32 × Int32 × (Nat → Int32) × (Nat → Int32) × (Nat → Int32) × (Nat → Int32)) ⊕ (Int32 × Int32 × Int32 × Int32 × Int32 × Int32 × Int32 × Int32 × Int32 × Int32 × Int32 × Int32 × Int32 × Int32 × (Nat → Int32) × (Nat → Int32) × (Nat → Int32) × (Nat → Int32))
noncomputable def bX8_clause_1 (size : Int32) (tape : Nat → Int32) (s1 sort v_at v_to v_value told hasThings kind place columns rows best top loss flags : Int32) (stones heaps flagCell numbers : Nat → Int32) : Option ((Nat × VX8_clause) ⊕ OX8_clause) := (fX7_ask_X8 v_at s1 3 kind place).bind (fun u16 => tk_s u16 (fun ru16 => if hasThings = 0 then (some (.inl (2, (1, 0, 0, 0, sort, v_at, v_to, v_value, told, hasThings, ru16.1, ru16.2, columns, rows, best, top, loss, flags, stones, heaps, flagCell, numbers)))) else (some (.inl (2, (0, 0, 0, 0, sort, v_at, v_to, v_value, told, hasThings, ru16.1, ru16.2, columns, rows, best, top, loss, flags, stones, heaps, flagCell, numbers))))) (fun xu16 => some (.inr (.inr (sort, v_at, v_to, v_value, told, hasThings, xu16.1, xu16.2, columns, rows, best, top, loss, flags, stones, heaps, flagCell, numbers)))))
noncomputable def bX8_clause_2 (size : Int32) (tape : Nat → Int32) (s1 sort v_at v_to v_value told hasThings kind place columns rows best top loss flags : Int32) (stones heaps flagCell numbers : Nat → Int32) : Option ((Nat × VX8_clause) ⊕ OX8_clause) := (fX7_ask_X8 v_at s1 5 kind place).bind (fun u18 => tk_s u18 (fun ru18 => (fX7_begins_X8 size tape 38 20 sort v_at v_to v_value told ru18.1 ru18.2).bind (fun u19 => tk_s u19 (fun ru19 => (fX7_number_X8 size tape 1 8 ru19.2.1 ru19.2.2.1 ru19.2.2.2.1 ru19.2.2.2.2.1 ru19.2.2.2.2.2.2.1 ru19.2.2.2.2.2.2.2).bind (fun u20 => tk_s u20 (fun ru20 => (fX7_number_X8 size tape 1 8 ru20.2.1 ru20.2.2.1 ru20.2.2.2.1 ru20.2.2.2.2.1 ru20.2.2.2.2.2.1 ru20.2.2.2.2.2.2).bind (fun u21 => tk_s u21 (fun ru21 => some (.inr (.inl (ru21.2.1, ru21.2.2.1, ru21.2.2.2.1, ru21.2.2.2.2.1, ru19.2.2.2.2.2.1, hasThings, ru21.2.2.2.2.2.1, ru21.2.2.2.2.2.2, ru20.1, ru21.1, best, top, loss, flags, stones, heaps, flagCell, numbers)))) (fun xu21 => some (.inr (.inr (xu21.1, xu21.2.1, xu21.2.2.1, xu21.2.2.2.1, ru19.2.2.2.2.2.1, hasThings, xu21.2.2.2.2.1, xu21.2.2.2.2.2, ru20.1, rows, best, top, loss, flags, stones, heaps, flagCell, numbers)))))) (fun xu20 => some (.inr (.inr (xu20.1, xu20.2.1, xu20.2.2.1, xu20.2.2.2.1, ru19.2.2.2.2.2.1, hasThings, xu20.2.2.2.2.1, xu20.2.2.2.2.2, columns, rows, best, top, loss, flags, stones, heaps, flagCell, numbers)))))) (fun xu19 => some (.inr (.inr (xu19.1, xu19.2.1, xu19.2.2.1, xu19.2.2.2.1, xu19.2.2.2.2.1, hasThings, xu19.2.2.2.2.2.1, xu19.2.2.2.2.2.2, columns, rows, best, top, loss, flags, stones, heaps, flagCell, numbers)))))) (fun xu18 => some (.inr (.inr (sort, v_at, v_to, v_value, told, hasThings, xu18.1, xu18.2, columns, rows, best, top, loss, flags, stones, heaps, flagCell, numbers)))))
noncomputable def bX8_clause_3 (size : Int32) (tape : Nat → Int32) (sort v_at v_to v_value told hasThings kind place columns rows best top loss flags : Int32) (stones heaps flagCell numbers : Nat → Int32) : Option ((Nat × VX8_clause) ⊕ OX8_clause) := (fX8_thing size tape columns rows sort v_at v_to v_value hasThings flags kind place stones heaps flagCell).bind (fun u22 => tk_s u22 (fun ru22 => some (.inr (.inl (ru22.1, ru22.2.1, ru22.2.2.1, ru22.2.2.2.1, told, ru22.2.2.2.2.1, ru22.2.2.2.2.2.2.1, ru22.2.2.2.2.2.2.2.1, columns, rows, best, top, loss, ru22.2.2.2.2.2.1, ru22.2.2.2.2.2.2.2.2.1, ru22.2.2.2.2.2.2.2.2.2.1, ru22.2.2.2.2.2.2.2.2.2.2, numbers)))) (fun xu22 => some (.inr (.inr (xu22.1, xu22.2.1, xu22.2.2.1, xu22.2.2.2.1, told, xu22.2.2.2.2.1, xu22.2.2.2.2.2.2.1, xu22.2.2.2.2.2.2.2.1, columns, rows, best, top, loss, xu22.2.2.2.2.2.1, xu22.2.2.2.2.2.2.2.2.1, xu22.2.2.2.2.2.2.2.2.2.1, xu22.2.2.2.2.2.2.2.2.2.2, numbers)))))
noncomputable def bX8_clause_4 (size : Int32) (tape : Nat → Int32) (x1 x2 sort v_at v_to v_value told hasThings kind place columns rows best top loss flags : Int32) (stones heaps flagCell numbers : Nat → Int32) : Option ((Nat × VX8_clause) ⊕ OX8_clause) := if 6 ≤ x2 then (if x1 = (-1) then (some (.inl (6, (0, x1, 0, 0, sort, v_at, v_to, v_value, told, hasThings, kind, place, columns, rows, best, top, loss, flags, stones, heaps, flagCell, numbers)))) else (some (.inl (6, (1, x1, 0, 0, sort, v_at, v_to, v_value, told, hasThings, kind, place, columns, rows, best, top, loss, flags, stones, heaps, flagCell, numbers))))) else (if tk_in x2 6 then ((fX7_is_X8 size sort v_at v_to tape (tk_tw.getD x2.toNatClampNeg 0)).bind (fun u26 => if u26 = 0 then (some (.inl (5, (0, 0, x2, x1, sort, v_at, v_to, v_value, told, hasThings, kind, place, columns, rows, best, top, loss, flags, stones, heaps, flagCell, numbers)))) else (some (.inl (5, (0, 0, x2, x2, sort, v_at, v_to, v_value, told, hasThings, kind, place, columns, rows, best, top, loss, flags, stones, heaps, flagCell, numbers)))))) else none)
noncomputable def bX8_clause_5 (size : Int32) (tape : Nat → Int32) (x2 s0 sort v_at v_to v_value told hasThings kind place columns rows best top loss flags : Int32) (stones heaps flagCell numbers : Nat → Int32) : Option ((Nat × VX8_clause) ⊕ OX8_clause) := some (.inl (4, (0, s0, x2 + 1, 0, sort, v_at, v_to, v_value, told, hasThings, kind, place, columns, rows, best, top, loss, flags, stones, heaps, flagCell, numbers)))
noncomputable def bX8_clause_6 (size : Int32) (tape : Nat → Int32) (x1 s1 sort v_at v_to v_value told hasThings kind place columns rows best top loss flags : Int32) (stones heaps flagCell numbers : Nat → Int32) : Option ((Nat × VX8_clause) ⊕ OX8_clause) := (fX7_ask_X8 v_at s1 1 kind place).bind (fun u28 => tk_s u28 (fun ru28 => if tk_in x1 6 then ((fX7_begins_X8 size tape (tk_tw.getD x1.toNatClampNeg 0) x1 sort v_at v_to v_value told ru28.1 ru28.2).bind (fun u30 => tk_s u30 (fun ru30 => (fX7_number_X8 size tape (tk_lows.getD x1.toNatClampNeg 0) (tk_highs.getD x1.toNatClampNeg 0) ru30.2.1 ru30.2.2.1 ru30.2.2.2.1 ru30.2.2.2.2.1 ru30.2.2.2.2.2.2.1 ru30.2.2.2.2.2.2.2).bind (fun u31 => tk_s u31 (fun ru31 => some (.inr (.inl (ru31.2.1, ru31.2.2.1, ru31.2.2.2.1, ru31.2.2.2.2.1, ru30.2.2.2.2.2.1, hasThings, ru31.2.2.2.2.2.1, ru31.2.2.2.2.2.2, columns, rows, best, top, loss, flags, stones, heaps, flagCell, upd numbers x1.toNatClampNeg ru31.1)))) (fun xu31 => some (.inr (.inr (xu31.1, xu31.2.1, xu31.2.2.1, xu31.2.2.2.1, ru30.2.2.2.2.2.1, hasThings, xu31.2.2.2.2.1, xu31.2.2.2.2.2, columns, rows, best, top, loss, flags, stones, heaps, flagCell, numbers)))))) (fun xu30 => some (.inr (.inr (xu30.1, xu30.2.1, xu30.2.2.1, xu30.2.2.2.1, xu30.2.2.2.2.1, hasThings, xu30.2.2.2.2.2.1, xu30.2.2.2.2.2.2, columns, rows, best, top, loss, flags, stones, heaps, flagCell, numbers)))))) else none) (fun xu28 => some (.inr (.inr (sort, v_at, v_to, v_value, told, hasThings, xu28.1, xu28.2, columns, rows, best, top, loss, flags, stones, heaps, flagCell, numbers)))))
noncomputable def bX8_clause_0 (size : Int32) (tape : Nat → Int32) (sort v_at v_to v_value told hasThings kind place columns rows best top loss flags : Int32) (stones heaps flagCell numbers : Nat → Int32) : Option ((Nat × VX8_clause) ⊕ OX8_clause) := (fX7_is_X8 size sort v_at v_to tape 38).bind (fun u1 => if u1 = 0 then ((fX7_is_X8 size sort v_at v_to tape 39).bind (fun u3 => if u3 = 0 then ((fX7_is_X8 size sort v_at v_to tape 40).bind (fun u5 => if u5 = 0 then ((fX7_is_X8 size sort v_at v_to tape 41).bind (fun u7 => if u7 = 0 then ((fX7_begins_X8 size tape 42 21 sort v_at v_to v_value told kind place).bind (fun u9 => tk_s u9 (fun ru9 => if ru9.1 = 0 then (some (.inl (4, (0, (-1), 0, 0, ru9.2.1, ru9.2.2.1, ru9.2.2.2.1, ru9.2.2.2.2.1, ru9.2.2.2.2.2.1, hasThings, ru9.2.2.2.2.2.2.1, ru9.2.2.2.2.2.2.2, columns, rows, best, top, loss, flags, stones, heaps, flagCell, numbers)))) else ((fX7_number_X8 size tape 1 15 ru9.2.1 ru9.2.2.1 ru9.2.2.2.1 ru9.2.2.2.2.1 ru9.2.2.2.2.2.2.1 ru9.2.2.2.2.2.2.2).bind (fun u11 => tk_s u11 (fun ru11 => (fX7_number_X8 size tape 0 20 ru11.2.1 ru11.2.2.1 ru11.2.2.2.1 ru11.2.2.2.2.1 ru11.2.2.2.2.2.1 ru11.2.2.2.2.2.2).bind (fun u12 => tk_s u12 (fun ru12 => (fX7_number_X8 size tape 0 9 ru12.2.1 ru12.2.2.1 ru12.2.2.2.1 ru12.2.2.2.2.1 ru12.2.2.2.2.2.1 ru12.2.2.2.2.2.2).bind (fun u13 => tk_s u13 (fun ru13 => some (.inr (.inl (ru13.2.1, ru13.2.2.1, ru13.2.2.2.1, ru13.2.2.2.2.1, ru9.2.2.2.2.2.1, hasThings, ru13.2.2.2.2.2.1, ru13.2.2.2.2.2.2, columns, rows, ru11.1, ru12.1, ru13.1, flags, stones, heaps, flagCell, numbers)))) (fun xu13 => some (.inr (.inr (xu13.1, xu13.2.1, xu13.2.2.1, xu13.2.2.2.1, ru9.2.2.2.2.2.1, hasThings, xu13.2.2.2.2.1, xu13.2.2.2.2.2, columns, rows, ru11.1, ru12.1, loss, flags, stones, heaps, flagCell, numbers)))))) (fun xu12 => some (.inr (.inr (xu12.1, xu12.2.1, xu12.2.2.1, xu12.2.2.2.1, ru9.2.2.2.2.2.1, hasThings, xu12.2.2.2.2.1, xu12.2.2.2.2.2, columns, rows, ru11.1, top, loss, flags, stones, heaps, flagCell, numbers)))))) (fun xu11 => some (.inr (.inr (xu11.1, xu11.2.1, xu11.2.2.1, xu11.2.2.2.1, ru9.2.2.2.2.2.1, hasThings, xu11.2.2.2.2.1, xu11.2.2.2.2.2, columns, rows, best, top, loss, flags, stones, heaps, flagCell, numbers))))))) (fun xu9 => some (.inr (.inr (xu9.1, xu9.2.1, xu9.2.2.1, xu9.2.2.2.1, xu9.2.2.2.2.1, hasThings, xu9.2.2.2.2.2.1, xu9.2.2.2.2.2.2, columns, rows, best, top, loss, flags, stones, heaps, flagCell, numbers)))))) else (some (.inl (3, (0, 0, 0, 0, sort, v_at, v_to, v_value, told, hasThings, kind, place, columns, rows, best, top, loss, flags, stones, heaps, flagCell, numbers)))))) else (some (.inl (3, (0, 0, 0, 0, sort, v_at, v_to, v_value, told, hasThings, kind, place, columns, rows, best, top, loss, flags, stones, heaps, flagCell, numbers)))))) else (some (.inl (3, (0, 0, 0, 0, sort, v_at, v_to, v_value, told, hasThings, kind, place, columns, rows, best, top, loss, flags, stones, heaps, flagCell, numbers)))))) else ((fX8_isTold told 20).bind (fun u14 => if u14 = 0 then (some (.inl (1, (1, 0, 0, 0, sort, v_at, v_to, v_value, told, hasThings, kind, place, columns, rows, best, top, loss, flags, stones, heaps, flagCell, numbers)))) else (some (.inl (1, (0, 0, 0, 0, sort, v_at, v_to, v_value, told, hasThings, kind, place, columns, rows, best, top, loss, flags, stones, heaps, flagCell, numbers)))))))
noncomputable def stX8_clause (size : Int32) (tape : Nat → Int32) (z : Nat × VX8_clause) : Option ((Nat × VX8_clause) ⊕ OX8_clause) := match z.1 with
  | 1 => bX8_clause_1 size tape z.2.1 z.2.2.2.2.2.1 z.2.2.2.2.2.2.1 z.2.2.2.2.2.2.2.1 z.2.2.2.2.2.2.2.2.1 z.2.2.2.2.2.2.2.2.2.1 z.2.2.2.2.2.2.2.2.2.2.1 z.2.2.2.2.2.2.2.2.2.2.2.1 z.2.2.2.2.2.2.2.2.2.2.2.2.1 z.2.2.2.2.2.2.2.2.2.2.2.2.2.1 z.2.2.2.2.2.2.2.2.2.2.2.2.2.2.1 z.2.2.2.2.2.2.2.2.2.2.2.2.2.2.2.1 z.2.2.2.2.2.2.2.2.2.2.2.2.2.2.2.2.1 z.2.2.2.2.2.2.2.2.2.2.2.2.2.2.2.2.2.1 z.2.2.2.2.2.2.2.2.2.2.2.2.2.2.2.2.2.2.1 z.2.2.2.2.2.2.2.2.2.2.2.2.2.2.2.2.2.2.2.1 z.2.2.2.2.2.2.2.2.2.2.2.2.2.2.2.2.2.2.2.2.1 z.2.2.2.2.2.2.2.2.2.2.2.2.2.2.2.2.2.2.2.2.2.1 z.2.2.2.2.2.2.2.2.2.2.2.2.2.2.2.2.2.2.2.2.2.2
  | 2 => bX8_clause_2 size tape z.2.1 z.2.2.2.2.2.1 z.2.2.2.2.2.2.1 z.2.2.2.2.2.2.2.1 z.2.2.2.2.2.2.2.2.1 z.2.2.2.2.2.2.2.2.2.1 z.2.2.2.2.2.2.2.2.2.2.1 z.2.2.2.2.2.2.2.2.2.2.2.1 z.2.2.2.2.2.2.2.2.2.2.2.2.1 z.2.2.2.2.2.2.2.2.2.2.2.2.2.1 z.2.2.2.2.2.2.2.2.2.2.2.2.2.2.1 z.2.2.2.2.2.2.2.2.2.2.2.2.2.2.2.1 z.2.2.2.2.2.2.2.2.2.2.2.2.2.2.2.2.1 z.2.2.2.2.2.2.2.2.2.2.2.2.2.2.2.2.2.1 z.2.2.2.2.2.2.2.2.2.2.2.2.2.2.2.2.2.2.1 z.2.2.2.2.2.2.2.2.2.2.2.2.2.2.2.2.2.2.2.1 z.2.2.2.2.2.2.2.2.2.2.2.2.2.2.2.2.2.2.2.2.1 z.2.2.2.2.2.2.2.2.2.2.2.2.2.2.2.2.2.2.2.2.2.1 z.2.2.2.2.2.2.2.2.2.2.2.2.2.2.2.2.2.2.2.2.2.2
  | 3 => bX8_clause_3 size tape z.2.2.2.2.2.1 z.2.2.2.2.2.2.1 z.2.2.2.2.2.2.2.1 z.2.2.2.2.2.2.2.2.1 z.2.2.2.2.2.2.2.2.2.1 z.2.2.2.2.2.2.2.2.2.2.1 z.2.2.2.2.2.2.2.2.2.2.2.1 z.2.2.2.2.2.2.2.2.2.2.2.2.1 z.2.2.2.2.2.2.2.2.2.2.2.2.2.1 z.2.2.2.2.2.2.2.2.2.2.2.2.2.2.1 z.2.2.2.2.2.2.2.2.2.2.2.2.2.2.2.1 z.2.2.2.2.2.2.2.2.2.2.2.2.2.2.2.2.1 z.2.2.2.2.2.2.2.2.2.2.2.2.2.2.2.2.2.1 z.2.2.2.2.2.2.2.2.2.2.2.2.2.2.2.2.2.2.1 z.2.2.2.2.2.2.2.2.2.2.2.2.2.2.2.2.2.2.2.1 z.2.2.2.2.2.2.2.2.2.2.2.2.2.2.2.2.2.2.2.2.1 z.2.2.2.2.2.2.2.2.2.2.2.2.2.2.2.2.2.2.2.2.2.1 z.2.2.2.2.2.2.2.2.2.2.2.2.2.2.2.2.2.2.2.2.2.2
  | 4 => bX8_clause_4 size tape z.2.2.1 z.2.2.2.1 z.2.2.2.2.2.1 z.2.2.2.2.2.2.1 z.2.2.2.2.2.2.2.1 z.2.2.2.2.2.2.2.2.1 z.2.2.2.2.2.2.2.2.2.1 z.2.2.2.2.2.2.2.2.2.2.1 z.2.2.2.2.2.2.2.2.2.2.2.1 z.2.2.2.2.2.2.2.2.2.2.2.2.1 z.2.2.2.2.2.2.2.2.2.2.2.2.2.1 z.2.2.2.2.2.2.2.2.2.2.2.2.2.2.1 z.2.2.2.2.2.2.2.2.2.2.2.2.2.2.2.1 z.2.2.2.2.2.2.2.2.2.2.2.2.2.2.2.2.1 z.2.2.2.2.2.2.2.2.2.2.2.2.2.2.2.2.2.1 z.2.2.2.2.2.2.2.2.2.2.2.2.2.2.2.2.2.2.1 z.2.2.2.2.2.2.2.2.2.2.2.2.2.2.2.2.2.2.2.1 z.2.2.2.2.2.2.2.2.2.2.2.2.2.2.2.2.2.2.2.2.1 z.2.2.2.2.2.2.2.2.2.2.2.2.2.2.2.2.2.2.2.2.2.1 z.2.2.2.2.2.2.2.2.2.2.2.2.2.2.2.2.2.2.2.2.2.2
  | 5 => bX8_clause_5 size tape z.2.2.2.1 z.2.2.2.2.1 z.2.2.2.2.2.1 z.2.2.2.2.2.2.1 z.2.2.2.2.2.2.2.1 z.2.2.2.2.2.2.2.2.1 z.2.2.2.2.2.2.2.2.2.1 z.2.2.2.2.2.2.2.2.2.2.1 z.2.2.2.2.2.2.2.2.2.2.2.1 z.2.2.2.2.2.2.2.2.2.2.2.2.1 z.2.2.2.2.2.2.2.2.2.2.2.2.2.1 z.2.2.2.2.2.2.2.2.2.2.2.2.2.2.1 z.2.2.2.2.2.2.2.2.2.2.2.2.2.2.2.1 z.2.2.2.2.2.2.2.2.2.2.2.2.2.2.2.2.1 z.2.2.2.2.2.2.2.2.2.2.2.2.2.2.2.2.2.1 z.2.2.2.2.2.2.2.2.2.2.2.2.2.2.2.2.2.2.1 z.2.2.2.2.2.2.2.2.2.2.2.2.2.2.2.2.2.2.2.1 z.2.2.2.2.2.2.2.2.2.2.2.2.2.2.2.2.2.2.2.2.1 z.2.2.2.2.2.2.2.2.2.2.2.2.2.2.2.2.2.2.2.2.2.1 z.2.2.2.2.2.2.2.2.2.2.2.2.2.2.2.2.2.2.2.2.2.2
  | 6 => bX8_clause_6 size tape z.2.2.1 z.2.1 z.2.2.2.2.2.1 z.2.2.2.2.2.2.1 z.2.2.2.2.2.2.2.1 z.2.2.2.2.2.2.2.2.1 z.2.2.2.2.2.2.2.2.2.1 z.2.2.2.2.2.2.2.2.2.2.1 z.2.2.2.2.2.2.2.2.2.2.2.1 z.2.2.2.2.2.2.2.2.2.2.2.2.1 z.2.2.2.2.2.2.2.2.2.2.2.2.2.1 z.2.2.2.2.2.2.2.2.2.2.2.2.2.2.1 z.2.2.2.2.2.2.2.2.2.2.2.2.2.2.2.1 z.2.2.2.2.2.2.2.2.2.2.2.2.2.2.2.2.1 z.2.2.2.2.2.2.2.2.2.2.2.2.2.2.2.2.2.1 z.2.2.2.2.2.2.2.2.2.2.2.2.2.2.2.2.2.2.1 z.2.2.2.2.2.2.2.2.2.2.2.2.2.2.2.2.2.2.2.1 z.2.2.2.2.2.2.2.2.2.2.2.2.2.2.2.2.2.2.2.2.1 z.2.2.2.2.2.2.2.2.2.2.2.2.2.2.2.2.2.2.2.2.2.1 z.2.2.2.2.2.2.2.2.2.2.2.2.2.2.2.2.2.2.2.2.2.2
  | _ => none
noncomputable def fX8_clause_1 (size : Int32) (tape : Nat → Int32) (s1 sort v_at v_to v_value told hasThings kind place columns rows best top loss flags : Int32) (stones heaps flagCell numbers : Nat → Int32) : Option OX8_clause := tk_lp (stX8_clause size tape) (1, (s1, 0, 0, 0, sort, v_at, v_to, v_value, told, hasThings, kind, place, columns, rows, best, top, loss, flags, stones, heaps, flagCell, numbers))
noncomputable def fX8_clause_2 (size : Int32) (tape : Nat → Int32) (s1 sort v_at v_to v_value told hasThings kind place columns rows best top loss flags : Int32) (stones heaps flagCell numbers : Nat → Int32) : Option OX8_clause := tk_lp (stX8_clause size tape) (2, (s1, 0, 0, 0, sort, v_at, v_to, v_value, told, hasThings, kind, place, columns, rows, best, top, loss, flags, stones, heaps, flagCell, numbers))
noncomputable def fX8_clause_3 (size : Int32) (tape : Nat → Int32) (sort v_at v_to v_value told hasThings kind place columns rows best top loss flags : Int32) (stones heaps flagCell numbers : Nat → Int32) : Option OX8_clause := tk_lp (stX8_clause size tape) (3, (0, 0, 0, 0, sort, v_at, v_to, v_value, told, hasThings, kind, place, columns, rows, best, top, loss, flags, stones, heaps, flagCell, numbers))
noncomputable def fX8_clause_4 (size : Int32) (tape : Nat → Int32) (x1 x2 sort v_at v_to v_value told hasThings kind place columns rows best top loss flags : Int32) (stones heaps flagCell numbers : Nat → Int32) : Option OX8_clause := tk_lp (stX8_clause size tape) (4, (0, x1, x2, 0, sort, v_at, v_to, v_value, told, hasThings, kind, place, columns, rows, best, top, loss, flags, stones, heaps, flagCell, numbers))
noncomputable def fX8_clause_5 (size : Int32) (tape : Nat → Int32) (x2 s0 sort v_at v_to v_value told hasThings kind place columns rows best top loss flags : Int32) (stones heaps flagCell numbers : Nat → Int32) : Option OX8_clause := tk_lp (stX8_clause size tape) (5, (0, 0, x2, s0, sort, v_at, v_to, v_value, told, hasThings, kind, place, columns, rows, best, top, loss, flags, stones, heaps, flagCell, numbers))
noncomputable def fX8_clause_6 (size : Int32) (tape : Nat → Int32) (x1 s1 sort v_at v_to v_value told hasThings kind place columns rows best top loss flags : Int32) (stones heaps flagCell numbers : Nat → Int32) : Option OX8_clause := tk_lp (stX8_clause size tape) (6, (s1, x1, 0, 0, sort, v_at, v_to, v_value, told, hasThings, kind, place, columns, rows, best, top, loss, flags, stones, heaps, flagCell, numbers))
noncomputable def fX8_clause (size : Int32) (tape : Nat → Int32) (sort v_at v_to v_value told hasThings kind place columns rows best top loss flags : Int32) (stones heaps flagCell numbers : Nat → Int32) : Option OX8_clause := tk_fin (stX8_clause size tape) (bX8_clause_0 size tape sort v_at v_to v_value told hasThings kind place columns rows best top loss flags stones heaps flagCell numbers)
theorem fX8_clause_1_eq (size : Int32) (tape : Nat → Int32) (s1 sort v_at v_to v_value told hasThings kind place columns rows best top loss flags : Int32) (stones heaps flagCell numbers : Nat → Int32) : fX8_clause_1 size tape s1 sort v_at v_to v_value told hasThings kind place columns rows best top loss flags stones heaps flagCell numbers = (fX7_ask_X8 v_at s1 3 kind place).bind (fun u16 => tk_s u16 (fun ru16 => if hasThings = 0 then (fX8_clause_2 size tape 1 sort v_at v_to v_value told hasThings ru16.1 ru16.2 columns rows best top loss flags stones heaps flagCell numbers) else (fX8_clause_2 size tape 0 sort v_at v_to v_value told hasThings ru16.1 ru16.2 columns rows best top loss flags stones heaps flagCell numbers)) (fun xu16 => some (.inr (sort, v_at, v_to, v_value, told, hasThings, xu16.1, xu16.2, columns, rows, best, top, loss, flags, stones, heaps, flagCell, numbers)))) := by
  unfold fX8_clause_1
  rw [tk_lp_eq]
  show tk_fin _ (bX8_clause_1 size tape s1 sort v_at v_to v_value told hasThings kind place columns rows best top loss flags stones heaps flagCell numbers) = _
  unfold bX8_clause_1
  simp only [tk_fin_t, tk_fin_b, tk_fin_l, tk_fin_s, tk_fin_n, tk_fin_i, tk_fin_r, fX8_clause_2]
  try rfl
theorem fX8_clause_2_eq (size : Int32) (tape : Nat → Int32) (s1 sort v_at v_to v_value told hasThings kind place columns rows best top loss flags : Int32) (stones heaps flagCell numbers : Nat → Int32) : fX8_clause_2 size tape s1 sort v_at v_to v_value told hasThings kind place columns rows best top loss flags stones heaps flagCell numbers = (fX7_ask_X8 v_at s1 5 kind place).bind (fun u18 => tk_s u18 (fun ru18 => (fX7_begins_X8 size tape 38 20 sort v_at v_to v_value told ru18.1 ru18.2).bind (fun u19 => tk_s u19 (fun ru19 => (fX7_number_X8 size tape 1 8 ru19.2.1 ru19.2.2.1 ru19.2.2.2.1 ru19.2.2.2.2.1 ru19.2.2.2.2.2.2.1 ru19.2.2.2.2.2.2.2).bind (fun u20 => tk_s u20 (fun ru20 => (fX7_number_X8 size tape 1 8 ru20.2.1 ru20.2.2.1 ru20.2.2.2.1 ru20.2.2.2.2.1 ru20.2.2.2.2.2.1 ru20.2.2.2.2.2.2).bind (fun u21 => tk_s u21 (fun ru21 => some (.inl (ru21.2.1, ru21.2.2.1, ru21.2.2.2.1, ru21.2.2.2.2.1, ru19.2.2.2.2.2.1, hasThings, ru21.2.2.2.2.2.1, ru21.2.2.2.2.2.2, ru20.1, ru21.1, best, top, loss, flags, stones, heaps, flagCell, numbers))) (fun xu21 => some (.inr (xu21.1, xu21.2.1, xu21.2.2.1, xu21.2.2.2.1, ru19.2.2.2.2.2.1, hasThings, xu21.2.2.2.2.1, xu21.2.2.2.2.2, ru20.1, rows, best, top, loss, flags, stones, heaps, flagCell, numbers))))) (fun xu20 => some (.inr (xu20.1, xu20.2.1, xu20.2.2.1, xu20.2.2.2.1, ru19.2.2.2.2.2.1, hasThings, xu20.2.2.2.2.1, xu20.2.2.2.2.2, columns, rows, best, top, loss, flags, stones, heaps, flagCell, numbers))))) (fun xu19 => some (.inr (xu19.1, xu19.2.1, xu19.2.2.1, xu19.2.2.2.1, xu19.2.2.2.2.1, hasThings, xu19.2.2.2.2.2.1, xu19.2.2.2.2.2.2, columns, rows, best, top, loss, flags, stones, heaps, flagCell, numbers))))) (fun xu18 => some (.inr (sort, v_at, v_to, v_value, told, hasThings, xu18.1, xu18.2, columns, rows, best, top, loss, flags, stones, heaps, flagCell, numbers)))) := by
  unfold fX8_clause_2
  rw [tk_lp_eq]
  show tk_fin _ (bX8_clause_2 size tape s1 sort v_at v_to v_value told hasThings kind place columns rows best top loss flags stones heaps flagCell numbers) = _
  unfold bX8_clause_2
  simp only [tk_fin_t, tk_fin_b, tk_fin_l, tk_fin_s, tk_fin_n, tk_fin_i, tk_fin_r]
  try rfl
theorem fX8_clause_3_eq (size : Int32) (tape : Nat → Int32) (sort v_at v_to v_value told hasThings kind place columns rows best top loss flags : Int32) (stones heaps flagCell numbers : Nat → Int32) : fX8_clause_3 size tape sort v_at v_to v_value told hasThings kind place columns rows best top loss flags stones heaps flagCell numbers = (fX8_thing size tape columns rows sort v_at v_to v_value hasThings flags kind place stones heaps flagCell).bind (fun u22 => tk_s u22 (fun ru22 => some (.inl (ru22.1, ru22.2.1, ru22.2.2.1, ru22.2.2.2.1, told, ru22.2.2.2.2.1, ru22.2.2.2.2.2.2.1, ru22.2.2.2.2.2.2.2.1, columns, rows, best, top, loss, ru22.2.2.2.2.2.1, ru22.2.2.2.2.2.2.2.2.1, ru22.2.2.2.2.2.2.2.2.2.1, ru22.2.2.2.2.2.2.2.2.2.2, numbers))) (fun xu22 => some (.inr (xu22.1, xu22.2.1, xu22.2.2.1, xu22.2.2.2.1, told, xu22.2.2.2.2.1, xu22.2.2.2.2.2.2.1, xu22.2.2.2.2.2.2.2.1, columns, rows, best, top, loss, xu22.2.2.2.2.2.1, xu22.2.2.2.2.2.2.2.2.1, xu22.2.2.2.2.2.2.2.2.2.1, xu22.2.2.2.2.2.2.2.2.2.2, numbers)))) := by
  unfold fX8_clause_3
  rw [tk_lp_eq]
  show tk_fin _ (bX8_clause_3 size tape sort v_at v_to v_value told hasThings kind place columns rows best top loss flags stones heaps flagCell numbers) = _
  unfold bX8_clause_3
  simp only [tk_fin_t, tk_fin_b, tk_fin_l, tk_fin_s, tk_fin_n, tk_fin_i, tk_fin_r]
  try rfl
theorem fX8_clause_4_eq (size : Int32) (tape : Nat → Int32) (x1 x2 sort v_at v_to v_value told hasThings kind place columns rows best top loss flags : Int32) (stones heaps flagCell numbers : Nat → Int32) : fX8_clause_4 size tape x1 x2 sort v_at v_to v_value told hasThings kind place columns rows best top loss flags stones heaps flagCell numbers = if 6 ≤ x2 then (if x1 = (-1) then (fX8_clause_6 size tape x1 0 sort v_at v_to v_value told hasThings kind place columns rows best top loss flags stones heaps flagCell numbers) else (fX8_clause_6 size tape x1 1 sort v_at v_to v_value told hasThings kind place columns rows best top loss flags stones heaps flagCell numbers)) else (if tk_in x2 6 then ((fX7_is_X8 size sort v_at v_to tape (tk_tw.getD x2.toNatClampNeg 0)).bind (fun u26 => if u26 = 0 then (fX8_clause_5 size tape x2 x1 sort v_at v_to v_value told hasThings kind place columns rows best top loss flags stones heaps flagCell numbers) else (fX8_clause_5 size tape x2 x2 sort v_at v_to v_value told hasThings kind place columns rows best top loss flags stones heaps flagCell numbers))) else none) := by
  unfold fX8_clause_4
  rw [tk_lp_eq]
  show tk_fin _ (bX8_clause_4 size tape x1 x2 sort v_at v_to v_value told hasThings kind place columns rows best top loss flags stones heaps flagCell numbers) = _
  unfold bX8_clause_4
  simp only [tk_fin_t, tk_fin_b, tk_fin_l, tk_fin_s, tk_fin_n, tk_fin_i, tk_fin_r, fX8_clause_5, fX8_clause_6]
  try rfl
theorem fX8_clause_5_eq (size : Int32) (tape : Nat → Int32) (x2 s0 sort v_at v_to v_value told hasThings kind place columns rows best top loss flags : Int32) (stones heaps flagCell numbers : Nat → Int32) : fX8_clause_5 size tape x2 s0 sort v_at v_to v_value told hasThings kind place columns rows best top loss flags stones heaps flagCell numbers = fX8_clause_4 size tape s0 (x2 + 1) sort v_at v_to v_value told hasThings kind place columns rows best top loss flags stones heaps flagCell numbers := by
  unfold fX8_clause_5
  rw [tk_lp_eq]
  show tk_fin _ (bX8_clause_5 size tape x2 s0 sort v_at v_to v_value told hasThings kind place columns rows best top loss flags stones heaps flagCell numbers) = _
  unfold bX8_clause_5
  simp only [tk_fin_t, tk_fin_b, tk_fin_l, tk_fin_s, tk_fin_n, tk_fin_i, tk_fin_r, fX8_clause_4]
  try rfl
theorem fX8_clause_6_eq (size : Int32) (tape : Nat → Int32) (x1 s1 sort v_at v_to v_value told hasThings kind place columns rows best top loss flags : Int32) (stones heaps flagCell numbers : Nat → Int32) : fX8_clause_6 size tape x1 s1 sort v_at v_to v_value told hasThings kind place columns rows best top loss flags stones heaps flagCell numbers = (fX7_ask_X8 v_at s1 1 kind place).bind (fun u28 => tk_s u28 (fun ru28 => if tk_in x1 6 then ((fX7_begins_X8 size tape (tk_tw.getD x1.toNatClampNeg 0) x1 sort v_at v_to v_value told ru28.1 ru28.2).bind (fun u30 => tk_s u30 (fun ru30 => (fX7_number_X8 size tape (tk_lows.getD x1.toNatClampNeg 0) (tk_highs.getD x1.toNatClampNeg 0) ru30.2.1 ru30.2.2.1 ru30.2.2.2.1 ru30.2.2.2.2.1 ru30.2.2.2.2.2.2.1 ru30.2.2.2.2.2.2.2).bind (fun u31 => tk_s u31 (fun ru31 => some (.inl (ru31.2.1, ru31.2.2.1, ru31.2.2.2.1, ru31.2.2.2.2.1, ru30.2.2.2.2.2.1, hasThings, ru31.2.2.2.2.2.1, ru31.2.2.2.2.2.2, columns, rows, best, top, loss, flags, stones, heaps, flagCell, upd numbers x1.toNatClampNeg ru31.1))) (fun xu31 => some (.inr (xu31.1, xu31.2.1, xu31.2.2.1, xu31.2.2.2.1, ru30.2.2.2.2.2.1, hasThings, xu31.2.2.2.2.1, xu31.2.2.2.2.2, columns, rows, best, top, loss, flags, stones, heaps, flagCell, numbers))))) (fun xu30 => some (.inr (xu30.1, xu30.2.1, xu30.2.2.1, xu30.2.2.2.1, xu30.2.2.2.2.1, hasThings, xu30.2.2.2.2.2.1, xu30.2.2.2.2.2.2, columns, rows, best, top, loss, flags, stones, heaps, flagCell, numbers))))) else none) (fun xu28 => some (.inr (sort, v_at, v_to, v_value, told, hasThings, xu28.1, xu28.2, columns, rows, best, top, loss, flags, stones, heaps, flagCell, numbers)))) := by
  unfold fX8_clause_6
  rw [tk_lp_eq]
  show tk_fin _ (bX8_clause_6 size tape x1 s1 sort v_at v_to v_value told hasThings kind place columns rows best top loss flags stones heaps flagCell numbers) = _
  unfold bX8_clause_6
  simp only [tk_fin_t, tk_fin_b, tk_fin_l, tk_fin_s, tk_fin_n, tk_fin_i, tk_fin_r]
  try rfl
theorem fX8_clause_eq (size : Int32) (tape : Nat → Int32) (sort v_at v_to v_value told hasThings kind place columns rows best top loss flags : Int32) (stones heaps flagCell numbers : Nat → Int32) : fX8_clause size tape sort v_at v_to v_value told hasThings kind place columns rows best top loss flags stones heaps flagCell numbers = (fX7_is_X8 size sort v_at v_to tape 38).bind (fun u1 => if u1 = 0 then ((fX7_is_X8 size sort v_at v_to tape 39).bind (fun u3 => if u3 = 0 then ((fX7_is_X8 size sort v_at v_to tape 40).bind (fun u5 => if u5 = 0 then ((fX7_is_X8 size sort v_at v_to tape 41).bind (fun u7 => if u7 = 0 then ((fX7_begins_X8 size tape 42 21 sort v_at v_to v_value told kind place).bind (fun u9 => tk_s u9 (fun ru9 => if ru9.1 = 0 then (fX8_clause_4 size tape (-1) 0 ru9.2.1 ru9.2.2.1 ru9.2.2.2.1 ru9.2.2.2.2.1 ru9.2.2.2.2.2.1 hasThings ru9.2.2.2.2.2.2.1 ru9.2.2.2.2.2.2.2 columns rows best top loss flags stones heaps flagCell numbers) else ((fX7_number_X8 size tape 1 15 ru9.2.1 ru9.2.2.1 ru9.2.2.2.1 ru9.2.2.2.2.1 ru9.2.2.2.2.2.2.1 ru9.2.2.2.2.2.2.2).bind (fun u11 => tk_s u11 (fun ru11 => (fX7_number_X8 size tape 0 20 ru11.2.1 ru11.2.2.1 ru11.2.2.2.1 ru11.2.2.2.2.1 ru11.2.2.2.2.2.1 ru11.2.2.2.2.2.2).bind (fun u12 => tk_s u12 (fun ru12 => (fX7_number_X8 size tape 0 9 ru12.2.1 ru12.2.2.1 ru12.2.2.2.1 ru12.2.2.2.2.1 ru12.2.2.2.2.2.1 ru12.2.2.2.2.2.2).bind (fun u13 => tk_s u13 (fun ru13 => some (.inl (ru13.2.1, ru13.2.2.1, ru13.2.2.2.1, ru13.2.2.2.2.1, ru9.2.2.2.2.2.1, hasThings, ru13.2.2.2.2.2.1, ru13.2.2.2.2.2.2, columns, rows, ru11.1, ru12.1, ru13.1, flags, stones, heaps, flagCell, numbers))) (fun xu13 => some (.inr (xu13.1, xu13.2.1, xu13.2.2.1, xu13.2.2.2.1, ru9.2.2.2.2.2.1, hasThings, xu13.2.2.2.2.1, xu13.2.2.2.2.2, columns, rows, ru11.1, ru12.1, loss, flags, stones, heaps, flagCell, numbers))))) (fun xu12 => some (.inr (xu12.1, xu12.2.1, xu12.2.2.1, xu12.2.2.2.1, ru9.2.2.2.2.2.1, hasThings, xu12.2.2.2.2.1, xu12.2.2.2.2.2, columns, rows, ru11.1, top, loss, flags, stones, heaps, flagCell, numbers))))) (fun xu11 => some (.inr (xu11.1, xu11.2.1, xu11.2.2.1, xu11.2.2.2.1, ru9.2.2.2.2.2.1, hasThings, xu11.2.2.2.2.1, xu11.2.2.2.2.2, columns, rows, best, top, loss, flags, stones, heaps, flagCell, numbers)))))) (fun xu9 => some (.inr (xu9.1, xu9.2.1, xu9.2.2.1, xu9.2.2.2.1, xu9.2.2.2.2.1, hasThings, xu9.2.2.2.2.2.1, xu9.2.2.2.2.2.2, columns, rows, best, top, loss, flags, stones, heaps, flagCell, numbers))))) else (fX8_clause_3 size tape sort v_at v_to v_value told hasThings kind place columns rows best top loss flags stones heaps flagCell numbers))) else (fX8_clause_3 size tape sort v_at v_to v_value told hasThings kind place columns rows best top loss flags stones heaps flagCell numbers))) else (fX8_clause_3 size tape sort v_at v_to v_value told hasThings kind place columns rows best top loss flags stones heaps flagCell numbers))) else ((fX8_isTold told 20).bind (fun u14 => if u14 = 0 then (fX8_clause_1 size tape 1 sort v_at v_to v_value told hasThings kind place columns rows best top loss flags stones heaps flagCell numbers) else (fX8_clause_1 size tape 0 sort v_at v_to v_value told hasThings kind place columns rows best top loss flags stones heaps flagCell numbers)))) := by
  unfold fX8_clause bX8_clause_0
  simp only [tk_fin_t, tk_fin_b, tk_fin_l, tk_fin_s, tk_fin_n, tk_fin_i, tk_fin_r, fX8_clause_1, fX8_clause_3, fX8_clause_4]
  try rfl
abbrev VX7_all_X8 : Type := Int32 × Int32 × Int32 × Int32 × Int32 × Int32 × Int32 × Int32 × Int32 × Int32 × Int32 × Int32 × Int32 × Int32 × Int32 × Int32 × (Nat → Int32) × (Nat → Int32) × (Nat → Int32) × (Nat → Int32)
abbrev OX7_all_X8 : Type := (Int32 × Int32 × Int32 × Int32 × Int32 × Int32 × Int32 × Int32 × Int32 × Int32 × Int32 × Int32 × Int32 × Int32 × Int32 × (Nat → Int32) × (Nat → Int32) × (Nat → Int32) × (Nat → Int32)) ⊕ (Int32 × Int32 × Int32 × Int32 × Int32 × Int32 × Int32 × Int32 × Int32 × Int32 × Int32 × Int32 × Int32 × Int32 × (Nat → Int32) × (Nat → Int32) × (Nat → Int32) × (Nat → Int32))
noncomputable def bX7_all_X8_1 (size : Int32) (tape : Nat → Int32) (x1 sort v_at v_to v_value told hasThings kind place columns rows best top loss flags : Int32) (stones heaps flagCell numbers : Nat → Int32) : Option ((Nat × VX7_all_X8) ⊕ OX7_all_X8) := if sort = 0 then (some (.inr (.inl (x1, sort, v_at, v_to, v_value, told, hasThings, kind, place, columns, rows, best, top, loss, flags, stones, heaps, flagCell, numbers)))) else ((fX8_clause size tape sort v_at v_to v_value told hasThings kind place columns rows best top loss flags stones heaps flagCell numbers).bind (fun u2 => tk_s u2 (fun ru2 => if ru2.1 = 3 then (some (.inl (2, (x1, 1, ru2.1, ru2.2.1, ru2.2.2.1, ru2.2.2.2.1, ru2.2.2.2.2.1, ru2.2.2.2.2.2.1, ru2.2.2.2.2.2.2.1, ru2.2.2.2.2.2.2.2.1, ru2.2.2.2.2.2.2.2.2.1, ru2.2.2.2.2.2.2.2.2.2.1, ru2.2.2.2.2.2.2.2.2.2.2.1, ru2.2.2.2.2.2.2.2.2.2.2.2.1, ru2.2.2.2.2.2.2.2.2.2.2.2.2.1, ru2.2.2.2.2.2.2.2.2.2.2.2.2.2.1, ru2.2.2.2.2.2.2.2.2.2.2.2.2.2.2.1, ru2.2.2.2.2.2.2.2.2.2.2.2.2.2.2.2.1, ru2.2.2.2.2.2.2.2.2.2.2.2.2.2.2.2.2.1, ru2.2.2.2.2.2.2.2.2.2.2.2.2.2.2.2.2.2)))) else (some (.inl (2, (x1, 0, ru2.1, ru2.2.1, ru2.2.2.1, ru2.2.2.2.1, ru2.2.2.2.2.1, ru2.2.2.2.2.2.1, ru2.2.2.2.2.2.2.1, ru2.2.2.2.2.2.2.2.1, ru2.2.2.2.2.2.2.2.2.1, ru2.2.2.2.2.2.2.2.2.2.1, ru2.2.2.2.2.2.2.2.2.2.2.1, ru2.2.2.2.2.2.2.2.2.2.2.2.1, ru2.2.2.2.2.2.2.2.2.2.2.2.2.1, ru2.2.2.2.2.2.2.2.2.2.2.2.2.2.1, ru2.2.2.2.2.2.2.2.2.2.2.2.2.2.2.1, ru2.2.2.2.2.2.2.2.2.2.2.2.2.2.2.2.1, ru2.2.2.2.2.2.2.2.2.2.2.2.2.2.2.2.2.1, ru2.2.2.2.2.2.2.2.2.2.2.2.2.2.2.2.2.2))))) (fun xu2 => some (.inr (.inr (xu2.1, xu2.2.1, xu2.2.2.1, xu2.2.2.2.1, xu2.2.2.2.2.1, xu2.2.2.2.2.2.1, xu2.2.2.2.2.2.2.1, xu2.2.2.2.2.2.2.2.1, xu2.2.2.2.2.2.2.2.2.1, xu2.2.2.2.2.2.2.2.2.2.1, xu2.2.2.2.2.2.2.2.2.2.2.1, xu2.2.2.2.2.2.2.2.2.2.2.2.1, xu2.2.2.2.2.2.2.2.2.2.2.2.2.1, xu2.2.2.2.2.2.2.2.2.2.2.2.2.2.1, xu2.2.2.2.2.2.2.2.2.2.2.2.2.2.2.1, xu2.2.2.2.2.2.2.2.2.2.2.2.2.2.2.2.1, xu2.2.2.2.2.2.2.2.2.2.2.2.2.2.2.2.2.1, xu2.2.2.2.2.2.2.2.2.2.2.2.2.2.2.2.2.2))))))
noncomputable def bX7_all_X8_2 (size : Int32) (tape : Nat → Int32) (x1 s1 sort v_at v_to v_value told hasThings kind place columns rows best top loss flags : Int32) (stones heaps flagCell numbers : Nat → Int32) : Option ((Nat × VX7_all_X8) ⊕ OX7_all_X8) := (fX7_ask_X8 v_at s1 1 kind place).bind (fun u4 => tk_s u4 (fun ru4 => (fX7_goOn_X8 size tape sort v_at v_to v_value).bind (fun u5 => some (.inl (1, (x1 + 1, 0, u5.1, u5.2.1, u5.2.2.1, u5.2.2.2, told, hasThings, ru4.1, ru4.2, columns, rows, best, top, loss, flags, stones, heaps, flagCell, numbers))))) (fun xu4 => some (.inr (.inr (sort, v_at, v_to, v_value, told, hasThings, xu4.1, xu4.2, columns, rows, best, top, loss, flags, stones, heaps, flagCell, numbers)))))
noncomputable def bX7_all_X8_0 (size : Int32) (tape : Nat → Int32) (sort v_at v_to v_value told hasThings kind place columns rows best top loss flags : Int32) (stones heaps flagCell numbers : Nat → Int32) : Option ((Nat × VX7_all_X8) ⊕ OX7_all_X8) := some (.inl (1, (0, 0, sort, v_at, v_to, v_value, told, hasThings, kind, place, columns, rows, best, top, loss, flags, stones, heaps, flagCell, numbers)))
noncomputable def stX7_all_X8 (size : Int32) (tape : Nat → Int32) (z : Nat × VX7_all_X8) : Option ((Nat × VX7_all_X8) ⊕ OX7_all_X8) := match z.1 with
  | 1 => bX7_all_X8_1 size tape z.2.1 z.2.2.2.1 z.2.2.2.2.1 z.2.2.2.2.2.1 z.2.2.2.2.2.2.1 z.2.2.2.2.2.2.2.1 z.2.2.2.2.2.2.2.2.1 z.2.2.2.2.2.2.2.2.2.1 z.2.2.2.2.2.2.2.2.2.2.1 z.2.2.2.2.2.2.2.2.2.2.2.1 z.2.2.2.2.2.2.2.2.2.2.2.2.1 z.2.2.2.2.2.2.2.2.2.2.2.2.2.1 z.2.2.2.2.2.2.2.2.2.2.2.2.2.2.1 z.2.2.2.2.2.2.2.2.2.2.2.2.2.2.2.1 z.2.2.2.2.2.2.2.2.2.2.2.2.2.2.2.2.1 z.2.2.2.2.2.2.2.2.2.2.2.2.2.2.2.2.2.1 z.2.2.2.2.2.2.2.2.2.2.2.2.2.2.2.2.2.2.1 z.2.2.2.2.2.2.2.2.2.2.2.2.2.2.2.2.2.2.2.1 z.2.2.2.2.2.2.2.2.2.2.2.2.2.2.2.2.2.2.2.2
  | 2 => bX7_all_X8_2 size tape z.2.1 z.2.2.1 z.2.2.2.1 z.2.2.2.2.1 z.2.2.2.2.2.1 z.2.2.2.2.2.2.1 z.2.2.2.2.2.2.2.1 z.2.2.2.2.2.2.2.2.1 z.2.2.2.2.2.2.2.2.2.1 z.2.2.2.2.2.2.2.2.2.2.1 z.2.2.2.2.2.2.2.2.2.2.2.1 z.2.2.2.2.2.2.2.2.2.2.2.2.1 z.2.2.2.2.2.2.2.2.2.2.2.2.2.1 z.2.2.2.2.2.2.2.2.2.2.2.2.2.2.1 z.2.2.2.2.2.2.2.2.2.2.2.2.2.2.2.1 z.2.2.2.2.2.2.2.2.2.2.2.2.2.2.2.2.1 z.2.2.2.2.2.2.2.2.2.2.2.2.2.2.2.2.2.1 z.2.2.2.2.2.2.2.2.2.2.2.2.2.2.2.2.2.2.1 z.2.2.2.2.2.2.2.2.2.2.2.2.2.2.2.2.2.2.2.1 z.2.2.2.2.2.2.2.2.2.2.2.2.2.2.2.2.2.2.2.2
  | _ => none
noncomputable def fX7_all_X8_1 (size : Int32) (tape : Nat → Int32) (x1 sort v_at v_to v_value told hasThings kind place columns rows best top loss flags : Int32) (stones heaps flagCell numbers : Nat → Int32) : Option OX7_all_X8 := tk_lp (stX7_all_X8 size tape) (1, (x1, 0, sort, v_at, v_to, v_value, told, hasThings, kind, place, columns, rows, best, top, loss, flags, stones, heaps, flagCell, numbers))
noncomputable def fX7_all_X8_2 (size : Int32) (tape : Nat → Int32) (x1 s1 sort v_at v_to v_value told hasThings kind place columns rows best top loss flags : Int32) (stones heaps flagCell numbers : Nat → Int32) : Option OX7_all_X8 := tk_lp (stX7_all_X8 size tape) (2, (x1, s1, sort, v_at, v_to, v_value, told, hasThings, kind, place, columns, rows, best, top, loss, flags, stones, heaps, flagCell, numbers))
noncomputable def fX7_all_X8 (size : Int32) (tape : Nat → Int32) (sort v_at v_to v_value told hasThings kind place columns rows best top loss flags : Int32) (stones heaps flagCell numbers : Nat → Int32) : Option OX7_all_X8 := tk_fin (stX7_all_X8 size tape) (bX7_all_X8_0 size tape sort v_at v_to v_value told hasThings kind place columns rows best top loss flags stones heaps flagCell numbers)
theorem fX7_all_X8_1_eq (size : Int32) (tape : Nat → Int32) (x1 sort v_at v_to v_value told hasThings kind place columns rows best top loss flags : Int32) (stones heaps flagCell numbers : Nat → Int32) : fX7_all_X8_1 size tape x1 sort v_at v_to v_value told hasThings kind place columns rows best top loss flags stones heaps flagCell numbers = if sort = 0 then (some (.inl (x1, sort, v_at, v_to, v_value, told, hasThings, kind, place, columns, rows, best, top, loss, flags, stones, heaps, flagCell, numbers))) else ((fX8_clause size tape sort v_at v_to v_value told hasThings kind place columns rows best top loss flags stones heaps flagCell numbers).bind (fun u2 => tk_s u2 (fun ru2 => if ru2.1 = 3 then (fX7_all_X8_2 size tape x1 1 ru2.1 ru2.2.1 ru2.2.2.1 ru2.2.2.2.1 ru2.2.2.2.2.1 ru2.2.2.2.2.2.1 ru2.2.2.2.2.2.2.1 ru2.2.2.2.2.2.2.2.1 ru2.2.2.2.2.2.2.2.2.1 ru2.2.2.2.2.2.2.2.2.2.1 ru2.2.2.2.2.2.2.2.2.2.2.1 ru2.2.2.2.2.2.2.2.2.2.2.2.1 ru2.2.2.2.2.2.2.2.2.2.2.2.2.1 ru2.2.2.2.2.2.2.2.2.2.2.2.2.2.1 ru2.2.2.2.2.2.2.2.2.2.2.2.2.2.2.1 ru2.2.2.2.2.2.2.2.2.2.2.2.2.2.2.2.1 ru2.2.2.2.2.2.2.2.2.2.2.2.2.2.2.2.2.1 ru2.2.2.2.2.2.2.2.2.2.2.2.2.2.2.2.2.2) else (fX7_all_X8_2 size tape x1 0 ru2.1 ru2.2.1 ru2.2.2.1 ru2.2.2.2.1 ru2.2.2.2.2.1 ru2.2.2.2.2.2.1 ru2.2.2.2.2.2.2.1 ru2.2.2.2.2.2.2.2.1 ru2.2.2.2.2.2.2.2.2.1 ru2.2.2.2.2.2.2.2.2.2.1 ru2.2.2.2.2.2.2.2.2.2.2.1 ru2.2.2.2.2.2.2.2.2.2.2.2.1 ru2.2.2.2.2.2.2.2.2.2.2.2.2.1 ru2.2.2.2.2.2.2.2.2.2.2.2.2.2.1 ru2.2.2.2.2.2.2.2.2.2.2.2.2.2.2.1 ru2.2.2.2.2.2.2.2.2.2.2.2.2.2.2.2.1 ru2.2.2.2.2.2.2.2.2.2.2.2.2.2.2.2.2.1 ru2.2.2.2.2.2.2.2.2.2.2.2.2.2.2.2.2.2)) (fun xu2 => some (.inr (xu2.1, xu2.2.1, xu2.2.2.1, xu2.2.2.2.1, xu2.2.2.2.2.1, xu2.2.2.2.2.2.1, xu2.2.2.2.2.2.2.1, xu2.2.2.2.2.2.2.2.1, xu2.2.2.2.2.2.2.2.2.1, xu2.2.2.2.2.2.2.2.2.2.1, xu2.2.2.2.2.2.2.2.2.2.2.1, xu2.2.2.2.2.2.2.2.2.2.2.2.1, xu2.2.2.2.2.2.2.2.2.2.2.2.2.1, xu2.2.2.2.2.2.2.2.2.2.2.2.2.2.1, xu2.2.2.2.2.2.2.2.2.2.2.2.2.2.2.1, xu2.2.2.2.2.2.2.2.2.2.2.2.2.2.2.2.1, xu2.2.2.2.2.2.2.2.2.2.2.2.2.2.2.2.2.1, xu2.2.2.2.2.2.2.2.2.2.2.2.2.2.2.2.2.2))))) := by
  unfold fX7_all_X8_1
  rw [tk_lp_eq]
  show tk_fin _ (bX7_all_X8_1 size tape x1 sort v_at v_to v_value told hasThings kind place columns rows best top loss flags stones heaps flagCell numbers) = _
  unfold bX7_all_X8_1
  simp only [tk_fin_t, tk_fin_b, tk_fin_l, tk_fin_s, tk_fin_n, tk_fin_i, tk_fin_r, fX7_all_X8_2]
  try rfl
theorem fX7_all_X8_2_eq (size : Int32) (tape : Nat → Int32) (x1 s1 sort v_at v_to v_value told hasThings kind place columns rows best top loss flags : Int32) (stones heaps flagCell numbers : Nat → Int32) : fX7_all_X8_2 size tape x1 s1 sort v_at v_to v_value told hasThings kind place columns rows best top loss flags stones heaps flagCell numbers = (fX7_ask_X8 v_at s1 1 kind place).bind (fun u4 => tk_s u4 (fun ru4 => (fX7_goOn_X8 size tape sort v_at v_to v_value).bind (fun u5 => fX7_all_X8_1 size tape (x1 + 1) u5.1 u5.2.1 u5.2.2.1 u5.2.2.2 told hasThings ru4.1 ru4.2 columns rows best top loss flags stones heaps flagCell numbers)) (fun xu4 => some (.inr (sort, v_at, v_to, v_value, told, hasThings, xu4.1, xu4.2, columns, rows, best, top, loss, flags, stones, heaps, flagCell, numbers)))) := by
  unfold fX7_all_X8_2
  rw [tk_lp_eq]
  show tk_fin _ (bX7_all_X8_2 size tape x1 s1 sort v_at v_to v_value told hasThings kind place columns rows best top loss flags stones heaps flagCell numbers) = _
  unfold bX7_all_X8_2
  simp only [tk_fin_t, tk_fin_b, tk_fin_l, tk_fin_s, tk_fin_n, tk_fin_i, tk_fin_r, fX7_all_X8_1]
  try rfl
theorem fX7_all_X8_eq (size : Int32) (tape : Nat → Int32) (sort v_at v_to v_value told hasThings kind place columns rows best top loss flags : Int32) (stones heaps flagCell numbers : Nat → Int32) : fX7_all_X8 size tape sort v_at v_to v_value told hasThings kind place columns rows best top loss flags stones heaps flagCell numbers = fX7_all_X8_1 size tape 0 sort v_at v_to v_value told hasThings kind place columns rows best top loss flags stones heaps flagCell numbers := by
  unfold fX7_all_X8 bX7_all_X8_0
  simp only [tk_fin_t, tk_fin_b, tk_fin_l, tk_fin_s, tk_fin_n, tk_fin_i, tk_fin_r, fX7_all_X8_1]
  try rfl
noncomputable def fX8_read (size : Int32) (tape : Nat → Int32) (sort v_at v_to v_value told hasThings kind place columns rows best top loss flags clauses : Int32) (stones heaps flagCell numbers : Nat → Int32) : Option ((Int32 × Int32 × Int32 × Int32 × Int32 × Int32 × Int32 × Int32 × Int32 × Int32 × Int32 × Int32 × Int32 × Int32 × Int32 × (Nat → Int32) × (Nat → Int32) × (Nat → Int32) × (Nat → Int32)) ⊕ (Int32 × Int32 × Int32 × Int32 × Int32 × Int32 × Int32 × Int32 × Int32 × Int32 × Int32 × Int32 × Int32 × Int32 × Int32 × (Nat → Int32) × (Nat → Int32) × (Nat → Int32) × (Nat → Int32))) := (fX7_all_X8 size tape sort v_at v_to v_value told hasThings kind place columns rows best top loss flags stones heaps flagCell numbers).bind (fun u1 => tk_s u1 (fun ru1 => some (.inl (ru1.2.1, ru1.2.2.1, ru1.2.2.2.1, ru1.2.2.2.2.1, ru1.2.2.2.2.2.1, ru1.2.2.2.2.2.2.1, ru1.2.2.2.2.2.2.2.1, ru1.2.2.2.2.2.2.2.2.1, ru1.2.2.2.2.2.2.2.2.2.1, ru1.2.2.2.2.2.2.2.2.2.2.1, ru1.2.2.2.2.2.2.2.2.2.2.2.1, ru1.2.2.2.2.2.2.2.2.2.2.2.2.1, ru1.2.2.2.2.2.2.2.2.2.2.2.2.2.1, ru1.2.2.2.2.2.2.2.2.2.2.2.2.2.2.1, ru1.1, ru1.2.2.2.2.2.2.2.2.2.2.2.2.2.2.2.1, ru1.2.2.2.2.2.2.2.2.2.2.2.2.2.2.2.2.1, ru1.2.2.2.2.2.2.2.2.2.2.2.2.2.2.2.2.2.1, ru1.2.2.2.2.2.2.2.2.2.2.2.2.2.2.2.2.2.2))) (fun xu1 => some (.inr (xu1.1, xu1.2.1, xu1.2.2.1, xu1.2.2.2.1, xu1.2.2.2.2.1, xu1.2.2.2.2.2.1, xu1.2.2.2.2.2.2.1, xu1.2.2.2.2.2.2.2.1, xu1.2.2.2.2.2.2.2.2.1, xu1.2.2.2.2.2.2.2.2.2.1, xu1.2.2.2.2.2.2.2.2.2.2.1, xu1.2.2.2.2.2.2.2.2.2.2.2.1, xu1.2.2.2.2.2.2.2.2.2.2.2.2.1, xu1.2.2.2.2.2.2.2.2.2.2.2.2.2.1, clauses, xu1.2.2.2.2.2.2.2.2.2.2.2.2.2.2.1, xu1.2.2.2.2.2.2.2.2.2.2.2.2.2.2.2.1, xu1.2.2.2.2.2.2.2.2.2.2.2.2.2.2.2.2.1, xu1.2.2.2.2.2.2.2.2.2.2.2.2.2.2.2.2.2))))
noncomputable def fX7_init_X8 (tape : Nat → Int32) (p1 : Int32) : Option ((Int32 × Int32 × Int32 × Int32)) := (fX7_goOn_X8 p1 tape 0 0 0 0).bind (fun u1 => some u1)
noncomputable def fX8_init (tape : Nat → Int32) (p1 : Int32) : Option ((Int32 × Int32 × Int32 × Int32) × (Nat → Int32)) := (fX7_init_X8 tape p1).bind (fun u1 => (fX2_init).bind (fun u2 => some (u1, u2)))
set_option maxHeartbeats 4000000 in
theorem mX1_by (l : Launch) (D : va_G) (ar : Nat → ClassId) (ad : Nat → Nat → Nat) (xs : va_W) (sz : Nat) (h0 : Nat) (i0 : Nat → Int32) (v0 : Nat → Value) (p0 p1 kind place : Int32) (o : Int32 × Int32) (hF : fX1_by p0 p1 kind place = some o) : Met l yX1_by (ws_ yX1_by cX1_by 3 (some (.object "TideKeep$Wrong"))) ({ frames := 0, cells := 0, slots := 0, locals := 0 }) (va_Pc [.ref h0, .int p0, .int p1] (tk_Pre D ar ad [(h0, .inr (1, oX1 (tu (tu i0 6 kind) 7 place) v0))] [] xs sz)) (va_Qr (fun _ : Unit => True) (fun _ ra t => ra = h0 ∧ tk_Post D (va_A [(h0, .inr (1, oX1 (tu (tu i0 6 kind) 7 place) v0))] sz) [(h0, .inr (1, oX1 (tu (tu i0 6 o.1) 7 o.2) v0))] t) (va_A [(h0, .inr (1, oX1 (tu (tu i0 6 kind) 7 place) v0))] sz)) 0 0 (va_A [(h0, .inr (1, oX1 (tu (tu i0 6 kind) 7 place) v0))] sz) := by
  refine Met.ofW (cc := cX1_by) (maxL := 3) (ret := (some (.object "TideKeep$Wrong"))) (by decide) rfl ?_
  intro p e s m args below meth c s₁ B hml hv
  obtain ⟨rfl, hsz, hP, hD0, hR, hX, hE⟩ := hv
  have hx := B.exec
  have hb := B.bytes
  have hr := B.returns
  have hts := atoms_spec (ws := (ws_ yX1_by cX1_by 3 (some (.object "TideKeep$Wrong")))) B.pre
  have hts : ∀ w ∈ lw_all, w.before _ s = true := fun w h => hts w (List.mem_cons_of_mem _ h)
  have hown : s.vm.findClass RX1 = some m.cls := findClass_of_methodNamed B.named
  have hlocks := B.notSynchronized
  subst hsz
  have hD := hD0.self (sz := s.heap.size)
  generalize hAe : va_A [(h0, .inr (1, oX1 (tu (tu i0 6 kind) 7 place) v0))] s.heap.size = A at hD hR hX hE ⊢
  have hA : ∀ q : Nat, s.heap.size ≤ q → A q := fun q h => by rw [← hAe]; exact Or.inr h
  have hS : va_S A s.heap s.heap [] := va_S.rf
  have hK := hE.1
  have hl := lv_entry ([.ref h0, .int p0, .int p1]) (n := 3) (Nat.le_of_ble_eq_true rfl)
  rw [lg_entry_eq]
  generalize (lg_sl ([.ref h0, .int p0, .int p1]) ++ List.replicate (3 - (lg_sl ([.ref h0, .int p0, .int p1])).length) Slot.unset).toArray = ls at hl ⊢
  have hl : lv_has ls 3 [(0, .ref h0), (1, .int p0), (2, .int p1)] := hl
  have hP : va_P D tkCl [(h0, .inr (1, oX1 (tu (tu i0 6 kind) 7 place) v0))] s.heap := hP
  unfold fX1_by at hF
  refine lv_aload_n hx hb dX1_by_0 rfl (lv_at hl 0 rfl) ?_
  refine lv_iload_n hx hb dX1_by_1 rfl (lv_at hl 1 rfl) ?_
  refine va_put (D := D) (ci := 1) (v := .int p0) (ty := .int) (C := RX1) (T := TX1) (N := 8) hx hb hts in_X1 tyX1 tyX1_ok nmX1 hown hK hP hD hS 0 rfl rfl 6 (by decide) (hts _ q172) (fun _ h9 => h9) rfl (by decide +kernel) rfl rfl (Nat.le_of_ble_eq_true rfl) dX1_by_2 (fun H locs hP hD hS => ?_)
  have hP : va_P D tkCl [(h0, .inr (1, oX1 (tu (tu i0 6 p0) 7 place) v0))] H := hP
  have hD : va_D A [(h0, .inr (1, oX1 (tu (tu i0 6 p0) 7 place) v0))] := hD
  refine lv_aload_n hx hb dX1_by_5 rfl (lv_at hl 0 rfl) ?_
  refine lv_iload_n hx hb dX1_by_6 rfl (lv_at hl 2 rfl) ?_
  refine va_put (D := D) (ci := 1) (v := .int p1) (ty := .int) (C := RX1) (T := TX1) (N := 8) hx hb hts in_X1 tyX1 tyX1_ok nmX1 hown hK hP hD hS 0 rfl rfl 7 (by decide) (hts _ q174) (fun _ h9 => h9) rfl (by decide +kernel) rfl rfl (Nat.le_of_ble_eq_true rfl) dX1_by_7 (fun H locs hP hD hS => ?_)
  have hP : va_P D tkCl [(h0, .inr (1, oX1 (tu (tu i0 6 p0) 7 p1) v0))] H := hP
  have hD : va_D A [(h0, .inr (1, oX1 (tu (tu i0 6 p0) 7 p1) v0))] := hD
  refine lv_aload_n hx hb dX1_by_10 rfl (lv_at hl 0 rfl) ?_
  have eo := tk_pr hF
  subst eo
  exact W.aret (v := .ref h0) hx hb hr (Or.inl ⟨_, rfl⟩) (Or.inr ⟨_, rfl⟩) (fun t ht hW => ⟨⟨(), _, rfl, trivial, rfl, tk_pst ht hP hD⟩, hS.F ht⟩) hS.2.2 dX1_by_11
set_option maxHeartbeats 4000000 in
theorem mX7_see_X8 (l : Launch) (D : va_G) (ar : Nat → ClassId) (ad : Nat → Nat → Nat) (xs : va_W) (sz : Nat) (h0 : Nat) (i0 : Nat → Int32) (v0 : Nat → Value) (r0 r1 : Nat → Nat) (i1 : Nat → Int32) (size : Int32) (tape : Nat → Int32) (p0 : Int32) (o : Int32) (hF : fX7_see_X8 size tape p0 = some o) : Met l yX7_see (ws_ yX7_see cX7_see 2 (some .int)) ({ frames := 0, cells := 0, slots := 0, locals := 0 }) (va_Pc [.ref h0, .int p0] (tk_Pre D ar ad [] [(h0, .inr (6, oX8 (tu i0 0 size) (tuv (tuv v0 6 (.ref (r0 10))) 10 (.ref (r0 10))))), ((r0 10), .inr (0, oX0 r1 i1)), ((r1 1), .inl (ar 1, 900, .inl tape))] xs sz)) (va_Qi (fun (zr : Int32) (_ : Unit) => zr = o) (fun _ t => tk_Post D (va_A [] sz) [] t) (va_A [] sz)) 0 0 (va_A [] sz) := by
  refine Met.ofW (cc := cX7_see) (maxL := 2) (ret := (some .int)) (by decide) rfl ?_
  intro p e s m args below meth c s₁ B hml hv
  obtain ⟨rfl, hsz, hP, hD0, hR, hX, hE⟩ := hv
  have hx := B.exec
  have hb := B.bytes
  have hr := B.returns
  have hts := atoms_spec (ws := (ws_ yX7_see cX7_see 2 (some .int))) B.pre
  have hts : ∀ w ∈ lw_all, w.before _ s = true := fun w h => hts w (List.mem_cons_of_mem _ h)
  have hown : s.vm.findClass RX7 = some m.cls := findClass_of_methodNamed B.named
  have hlocks := B.notSynchronized
  subst hsz
  have hD := hD0.self (sz := s.heap.size)
  generalize hAe : va_A [] s.heap.size = A at hD hR hX hE ⊢
  have hA : ∀ q : Nat, s.heap.size ≤ q → A q := fun q h => by rw [← hAe]; exact Or.inr h
  have hS : va_S A s.heap s.heap [] := va_S.rf
  have hK := hE.1
  have hl := lv_entry ([.ref h0, .int p0]) (n := 2) (Nat.le_of_ble_eq_true rfl)
  rw [lg_entry_eq]
  generalize (lg_sl ([.ref h0, .int p0]) ++ List.replicate (2 - (lg_sl ([.ref h0, .int p0])).length) Slot.unset).toArray = ls at hl ⊢
  have hl : lv_has ls 2 [(0, .ref h0), (1, .int p0)] := hl
  have hP : va_P D tkCl [] s.heap := hP
  unfold fX7_see_X8 at hF
  refine lv_iload_n hx hb dX7_see_0 rfl (lv_at hl 1 rfl) ?_
  refine lv_aload_n hx hb dX7_see_1 rfl (lv_at hl 0 rfl) ?_
  refine va_get (D := D) (ci := 6) (v := .int size) (C := RX8) (T := TX8) (N := 11) hx hb hts in_X8 hown hK (hR.at hS) 0 rfl rfl 0 (by decide) (hts _ q602) (fun _ h9 => h9) rfl dX7_see_2 ?_
  refine lv_icmp_ge (tgt := 24) hx hb dX7_see_5 (by decide) (fun c1 => ?_) (fun c1 => ?_)
  · have hF := tk_pt hF c1
    refine lv_iconst (v := 0) hx hb dX7_see_24 (by decide) ?_
    have eo := tk_pr hF
    subst eo
    exact W.iret (v := 0) hx hb hr (fun t ht hW => ⟨⟨_, (), rfl, rfl, tk_pst ht hP hD⟩, hS.F ht⟩) hS.2.2 dX7_see_25
  · have hF := tk_pf hF c1
    refine lv_aload_n hx hb dX7_see_8 rfl (lv_at hl 0 rfl) ?_
    refine va_get (D := D) (ci := 6) (v := .ref (r0 10)) (C := RX8) (T := TX8) (N := 11) hx hb hts in_X8 hown hK (hR.at hS) 0 rfl rfl 6 (by decide) (hts _ q609) (fun _ h9 => h9) rfl dX7_see_9 ?_
    refine va_getN (D := D) (ci := 0) (v := .ref (r1 1)) (C := RX0) (T := TX0) (N := 25) hx hb hts in_X0 hown hK (hR.at hS) 1 rfl rfl 1 (by decide) (hE.2.1.use q451 rfl rfl) (fun _ h9 => h9) rfl dX7_see_12 ?_
    refine lv_iload_n hx hb dX7_see_15 rfl (lv_at hl 1 rfl) ?_
    obtain ⟨gd2, hF⟩ := tk_pg hF
    refine va_bald hx hb hK (hR.at hS) 2 1 rfl rfl gd2 dX7_see_16 ?_
    refine lv_sipush (v := 255) hx hb dX7_see_17 (by decide) ?_
    refine lv_iand hx hb dX7_see_20 ?_
    refine lv_goto (tgt := 25) hx hb dX7_see_21 (by decide) ?_
    have eo := tk_pr hF
    subst eo
    exact W.iret (v := (tape p0.toNatClampNeg) &&& 255) hx hb hr (fun t ht hW => ⟨⟨_, (), rfl, rfl, tk_pst ht hP hD⟩, hS.F ht⟩) hS.2.2 dX7_see_25
set_option maxHeartbeats 4000000 in
theorem mX7_isSmall_X8 (l : Launch) (D : va_G) (ar : Nat → ClassId) (ad : Nat → Nat → Nat) (xs : va_W) (sz : Nat) (h0 : Nat) (p0 : Int32) (o : Int32) (hF : fX7_isSmall_X8 p0 = some o) : Met l yX7_isSmall (ws_ yX7_isSmall cX7_isSmall 2 (some .boolean)) ({ frames := 0, cells := 0, slots := 0, locals := 0 }) (va_Pc [.ref h0, .int p0] (tk_Pre D ar ad [] [] xs sz)) (va_Qi (fun (zr : Int32) (_ : Unit) => zr = o) (fun _ t => tk_Post D (va_A [] sz) [] t) (va_A [] sz)) 0 0 (va_A [] sz) := by
  refine Met.ofW (cc := cX7_isSmall) (maxL := 2) (ret := (some .boolean)) (by decide) rfl ?_
  intro p e s m args below meth c s₁ B hml hv
  obtain ⟨rfl, hsz, hP, hD0, hR, hX, hE⟩ := hv
  have hx := B.exec
  have hb := B.bytes
  have hr := B.returns
  have hts := atoms_spec (ws := (ws_ yX7_isSmall cX7_isSmall 2 (some .boolean))) B.pre
  have hts : ∀ w ∈ lw_all, w.before _ s = true := fun w h => hts w (List.mem_cons_of_mem _ h)
  have hown : s.vm.findClass RX7 = some m.cls := findClass_of_methodNamed B.named
  have hlocks := B.notSynchronized
  subst hsz
  have hD := hD0.self (sz := s.heap.size)
  generalize hAe : va_A [] s.heap.size = A at hD hR hX hE ⊢
  have hA : ∀ q : Nat, s.heap.size ≤ q → A q := fun q h => by rw [← hAe]; exact Or.inr h
  have hS : va_S A s.heap s.heap [] := va_S.rf
  have hK := hE.1
  have hl := lv_entry ([.ref h0, .int p0]) (n := 2) (Nat.le_of_ble_eq_true rfl)
  rw [lg_entry_eq]
  generalize (lg_sl ([.ref h0, .int p0]) ++ List.replicate (2 - (lg_sl ([.ref h0, .int p0])).length) Slot.unset).toArray = ls at hl ⊢
  have hl : lv_has ls 2 [(0, .ref h0), (1, .int p0)] := hl
  have hP : va_P D tkCl [] s.heap := hP
  unfold fX7_isSmall_X8 at hF
  refine lv_iload_n hx hb dX7_isSmall_0 rfl (lv_at hl 1 rfl) ?_
  refine lv_bipush (v := 97) hx hb dX7_isSmall_1 (by decide) ?_
  refine lv_icmp_lt (tgt := 16) hx hb dX7_isSmall_3 (by decide) (fun c1 => ?_) (fun c1 => ?_)
  · have hF := tk_pt hF c1
    refine lv_iconst (v := 0) hx hb dX7_isSmall_16 (by decide) ?_
    have eo := tk_pr hF
    subst eo
    exact W.zret (v := 0) hx hb hr (by decide) (fun t ht hW => ⟨⟨_, (), rfl, rfl, tk_pst ht hP hD⟩, hS.F ht⟩) hS.2.2 dX7_isSmall_17
  · have hF := tk_pf hF c1
    refine lv_iload_n hx hb dX7_isSmall_6 rfl (lv_at hl 1 rfl) ?_
    refine lv_bipush (v := 122) hx hb dX7_isSmall_7 (by decide) ?_
    refine lv_icmp_gt (tgt := 16) hx hb dX7_isSmall_9 (by decide) (fun c2 => ?_) (fun c2 => ?_)
    · have hF := tk_pt hF c2
      refine lv_iconst (v := 0) hx hb dX7_isSmall_16 (by decide) ?_
      have eo := tk_pr hF
      subst eo
      exact W.zret (v := 0) hx hb hr (by decide) (fun t ht hW => ⟨⟨_, (), rfl, rfl, tk_pst ht hP hD⟩, hS.F ht⟩) hS.2.2 dX7_isSmall_17
    · have hF := tk_pf hF c2
      refine lv_iconst (v := 1) hx hb dX7_isSmall_12 (by decide) ?_
      refine lv_goto (tgt := 17) hx hb dX7_isSmall_13 (by decide) ?_
      have eo := tk_pr hF
      subst eo
      exact W.zret (v := 1) hx hb hr (by decide) (fun t ht hW => ⟨⟨_, (), rfl, rfl, tk_pst ht hP hD⟩, hS.F ht⟩) hS.2.2 dX7_isSmall_17
set_option maxHeartbeats 4000000 in
theorem mX7_isDigit_X8 (l : Launch) (D : va_G) (ar : Nat → ClassId) (ad : Nat → Nat → Nat) (xs : va_W) (sz : Nat) (h0 : Nat) (p0 : Int32) (o : Int32) (hF : fX7_isDigit_X8 p0 = some o) : Met l yX7_isDigit (ws_ yX7_isDigit cX7_isDigit 2 (some .boolean)) ({ frames := 0, cells := 0, slots := 0, locals := 0 }) (va_Pc [.ref h0, .int p0] (tk_Pre D ar ad [] [] xs sz)) (va_Qi (fun (zr : Int32) (_ : Unit) => zr = o) (fun _ t => tk_Post D (va_A [] sz) [] t) (va_A [] sz)) 0 0 (va_A [] sz) := by
  refine Met.ofW (cc := cX7_isDigit) (maxL := 2) (ret := (some .boolean)) (by decide) rfl ?_
  intro p e s m args below meth c s₁ B hml hv
  obtain ⟨rfl, hsz, hP, hD0, hR, hX, hE⟩ := hv
  have hx := B.exec
  have hb := B.bytes
  have hr := B.returns
  have hts := atoms_spec (ws := (ws_ yX7_isDigit cX7_isDigit 2 (some .boolean))) B.pre
  have hts : ∀ w ∈ lw_all, w.before _ s = true := fun w h => hts w (List.mem_cons_of_mem _ h)
  have hown : s.vm.findClass RX7 = some m.cls := findClass_of_methodNamed B.named
  have hlocks := B.notSynchronized
  subst hsz
  have hD := hD0.self (sz := s.heap.size)
  generalize hAe : va_A [] s.heap.size = A at hD hR hX hE ⊢
  have hA : ∀ q : Nat, s.heap.size ≤ q → A q := fun q h => by rw [← hAe]; exact Or.inr h
  have hS : va_S A s.heap s.heap [] := va_S.rf
  have hK := hE.1
  have hl := lv_entry ([.ref h0, .int p0]) (n := 2) (Nat.le_of_ble_eq_true rfl)
  rw [lg_entry_eq]
  generalize (lg_sl ([.ref h0, .int p0]) ++ List.replicate (2 - (lg_sl ([.ref h0, .int p0])).length) Slot.unset).toArray = ls at hl ⊢
  have hl : lv_has ls 2 [(0, .ref h0), (1, .int p0)] := hl
  have hP : va_P D tkCl [] s.heap := hP
  unfold fX7_isDigit_X8 at hF
  refine lv_iload_n hx hb dX7_isDigit_0 rfl (lv_at hl 1 rfl) ?_
  refine lv_bipush (v := 48) hx hb dX7_isDigit_1 (by decide) ?_
  refine lv_icmp_lt (tgt := 16) hx hb dX7_isDigit_3 (by decide) (fun c1 => ?_) (fun c1 => ?_)
  · have hF := tk_pt hF c1
    refine lv_iconst (v := 0) hx hb dX7_isDigit_16 (by decide) ?_
    have eo := tk_pr hF
    subst eo
    exact W.zret (v := 0) hx hb hr (by decide) (fun t ht hW => ⟨⟨_, (), rfl, rfl, tk_pst ht hP hD⟩, hS.F ht⟩) hS.2.2 dX7_isDigit_17
  · have hF := tk_pf hF c1
    refine lv_iload_n hx hb dX7_isDigit_6 rfl (lv_at hl 1 rfl) ?_
    refine lv_bipush (v := 57) hx hb dX7_isDigit_7 (by decide) ?_
    refine lv_icmp_gt (tgt := 16) hx hb dX7_isDigit_9 (by decide) (fun c2 => ?_) (fun c2 => ?_)
    · have hF := tk_pt hF c2
      refine lv_iconst (v := 0) hx hb dX7_isDigit_16 (by decide) ?_
      have eo := tk_pr hF
      subst eo
      exact W.zret (v := 0) hx hb hr (by decide) (fun t ht hW => ⟨⟨_, (), rfl, rfl, tk_pst ht hP hD⟩, hS.F ht⟩) hS.2.2 dX7_isDigit_17
    · have hF := tk_pf hF c2
      refine lv_iconst (v := 1) hx hb dX7_isDigit_12 (by decide) ?_
      refine lv_goto (tgt := 17) hx hb dX7_isDigit_13 (by decide) ?_
      have eo := tk_pr hF
      subst eo
      exact W.zret (v := 1) hx hb hr (by decide) (fun t ht hW => ⟨⟨_, (), rfl, rfl, tk_pst ht hP hD⟩, hS.F ht⟩) hS.2.2 dX7_isDigit_17
set_option maxHeartbeats 4000000 in
theorem mX7_goOn_X8 (l : Launch) (D : va_G) (ar : Nat → ClassId) (ad : Nat → Nat → Nat) (xs : va_W) (sz : Nat) (h0 : Nat) (i0 : Nat → Int32) (v0 : Nat → Value) (r0 r1 : Nat → Nat) (i1 : Nat → Int32) (size : Int32) (tape : Nat → Int32) (sort v_at v_to v_value : Int32) (o : Int32 × Int32 × Int32 × Int32) (hF : fX7_goOn_X8 size tape sort v_at v_to v_value = some o) : Met l yX7_goOn (ws_ yX7_goOn cX7_goOn 3 none) ({ frames := 1, cells := 0, slots := 0, locals := 21 }) (va_Pc [.ref h0] (tk_Pre D ar ad [(h0, .inr (6, oX8 (tu (tu (tu (tu (tu i0 0 size) 1 sort) 2 v_at) 3 v_to) 4 v_value) (tuv (tuv v0 6 (.ref (r0 10))) 10 (.ref (r0 10)))))] [((r0 10), .inr (0, oX0 r1 i1)), ((r1 1), .inl (ar 1, 900, .inl tape))] xs sz)) (va_Qv (fun _ : Unit => True) (fun _ t => tk_Post D (va_A [(h0, .inr (6, oX8 (tu (tu (tu (tu (tu i0 0 size) 1 sort) 2 v_at) 3 v_to) 4 v_value) (tuv (tuv v0 6 (.ref (r0 10))) 10 (.ref (r0 10)))))] sz) [(h0, .inr (6, oX8 (tu (tu (tu (tu (tu i0 0 size) 1 o.1) 2 o.2.1) 3 o.2.2.1) 4 o.2.2.2) (tuv (tuv v0 6 (.ref (r0 10))) 10 (.ref (r0 10)))))] t) (va_A [(h0, .inr (6, oX8 (tu (tu (tu (tu (tu i0 0 size) 1 sort) 2 v_at) 3 v_to) 4 v_value) (tuv (tuv v0 6 (.ref (r0 10))) 10 (.ref (r0 10)))))] sz)) 0 0 (va_A [(h0, .inr (6, oX8 (tu (tu (tu (tu (tu i0 0 size) 1 sort) 2 v_at) 3 v_to) 4 v_value) (tuv (tuv v0 6 (.ref (r0 10))) 10 (.ref (r0 10)))))] sz) := by
  refine Met.ofW (cc := cX7_goOn) (maxL := 3) (ret := none) (by decide) rfl ?_
  intro p e s m args below meth c s₁ B hml hv
  obtain ⟨rfl, hsz, hP, hD0, hR, hX, hE⟩ := hv
  have hx := B.exec
  have hb := B.bytes
  have hr := B.returns
  have hts := atoms_spec (ws := (ws_ yX7_goOn cX7_goOn 3 none)) B.pre
  have hts : ∀ w ∈ lw_all, w.before _ s = true := fun w h => hts w (List.mem_cons_of_mem _ h)
  have hown : s.vm.findClass RX7 = some m.cls := findClass_of_methodNamed B.named
  have hlocks := B.notSynchronized
  subst hsz
  have hD := hD0.self (sz := s.heap.size)
  generalize hAe : va_A [(h0, .inr (6, oX8 (tu (tu (tu (tu (tu i0 0 size) 1 sort) 2 v_at) 3 v_to) 4 v_value) (tuv (tuv v0 6 (.ref (r0 10))) 10 (.ref (r0 10)))))] s.heap.size = A at hD hR hX hE ⊢
  have hA : ∀ q : Nat, s.heap.size ≤ q → A q := fun q h => by rw [← hAe]; exact Or.inr h
  have hS : va_S A s.heap s.heap [] := va_S.rf
  have hK := hE.1
  have hl := lv_entry ([.ref h0]) (n := 3) (Nat.le_of_ble_eq_true rfl)
  rw [lg_entry_eq]
  generalize (lg_sl ([.ref h0]) ++ List.replicate (3 - (lg_sl ([.ref h0])).length) Slot.unset).toArray = ls at hl ⊢
  have hl : lv_has ls 3 [(0, .ref h0)] := hl
  have hP : va_P D tkCl [(h0, .inr (6, oX8 (tu (tu (tu (tu (tu i0 0 size) 1 sort) 2 v_at) 3 v_to) 4 v_value) (tuv (tuv v0 6 (.ref (r0 10))) 10 (.ref (r0 10)))))] s.heap := hP
  obtain ⟨n0, hF⟩ : ∃ n, tk_k (stX7_goOn_X8 size tape) n (bX7_goOn_X8_0 size tape sort v_at v_to v_value) = some o := tk_fin_it hF
  have key : ∀ n : Nat, (∀ (x1 sort v_at v_to v_value : Int32) (H : Heap) (locs : List Loc) (ls : Array Slot), tk_it (stX7_goOn_X8 size tape) n (1, (x1, 0, sort, v_at, v_to, v_value)) = some o → va_P D tkCl [(h0, .inr (6, oX8 (tu (tu (tu (tu (tu i0 0 size) 1 sort) 2 v_at) 3 v_to) 4 v_value) (tuv (tuv v0 6 (.ref (r0 10))) 10 (.ref (r0 10)))))] H → va_D A [(h0, .inr (6, oX8 (tu (tu (tu (tu (tu i0 0 size) 1 sort) 2 v_at) 3 v_to) 4 v_value) (tuv (tuv v0 6 (.ref (r0 10))) 10 (.ref (r0 10)))))] → va_S A s.heap H locs → lv_has ls 3 [(0, .ref h0), (1, .int x1)] → W p l e (headSpec (ws_ yX7_goOn cX7_goOn 3 none) ({ frames := 1, cells := 0, slots := 0, locals := 21 })).room s m ([.ref h0] : List Value).toArray below meth c H locs 0 0 (MQ below (va_Qv (fun _ : Unit => True) (fun _ t => tk_Post D A [(h0, .inr (6, oX8 (tu (tu (tu (tu (tu i0 0 size) 1 o.1) 2 o.2.1) 3 o.2.2.1) 4 o.2.2.2) (tuv (tuv v0 6 (.ref (r0 10))) 10 (.ref (r0 10)))))] t) A) ([.ref h0] : List Value).toArray s 0 0 A) (F0 m 5 ls [])) ∧ (∀ (x1 sort v_at v_to v_value : Int32) (H : Heap) (locs : List Loc) (ls : Array Slot), tk_it (stX7_goOn_X8 size tape) n (2, (x1, 0, sort, v_at, v_to, v_value)) = some o → va_P D tkCl [(h0, .inr (6, oX8 (tu (tu (tu (tu (tu i0 0 size) 1 sort) 2 v_at) 3 v_to) 4 v_value) (tuv (tuv v0 6 (.ref (r0 10))) 10 (.ref (r0 10)))))] H → va_D A [(h0, .inr (6, oX8 (tu (tu (tu (tu (tu i0 0 size) 1 sort) 2 v_at) 3 v_to) 4 v_value) (tuv (tuv v0 6 (.ref (r0 10))) 10 (.ref (r0 10)))))] → va_S A s.heap H locs → lv_has ls 3 [(0, .ref h0), (1, .int x1)] → W p l e (headSpec (ws_ yX7_goOn cX7_goOn 3 none) ({ frames := 1, cells := 0, slots := 0, locals := 21 })).room s m ([.ref h0] : List Value).toArray below meth c H locs 0 0 (MQ below (va_Qv (fun _ : Unit => True) (fun _ t => tk_Post D A [(h0, .inr (6, oX8 (tu (tu (tu (tu (tu i0 0 size) 1 o.1) 2 o.2.1) 3 o.2.2.1) 4 o.2.2.2) (tuv (tuv v0 6 (.ref (r0 10))) 10 (.ref (r0 10)))))] t) A) ([.ref h0] : List Value).toArray s 0 0 A) (F0 m 78 ls [])) ∧ (∀ (s1 sort v_at v_to v_value : Int32) (H : Heap) (locs : List Loc) (ls : Array Slot), tk_it (stX7_goOn_X8 size tape) n (3, (0, s1, sort, v_at, v_to, v_value)) = some o → va_P D tkCl [(h0, .inr (6, oX8 (tu (tu (tu (tu (tu i0 0 size) 1 sort) 2 v_at) 3 v_to) 4 v_value) (tuv (tuv v0 6 (.ref (r0 10))) 10 (.ref (r0 10)))))] H → va_D A [(h0, .inr (6, oX8 (tu (tu (tu (tu (tu i0 0 size) 1 sort) 2 v_at) 3 v_to) 4 v_value) (tuv (tuv v0 6 (.ref (r0 10))) 10 (.ref (r0 10)))))] → va_S A s.heap H locs → lv_has ls 3 [] → W p l e (headSpec (ws_ yX7_goOn cX7_goOn 3 none) ({ frames := 1, cells := 0, slots := 0, locals := 21 })).room s m ([.ref h0] : List Value).toArray below meth c H locs 0 0 (MQ below (va_Qv (fun _ : Unit => True) (fun _ t => tk_Post D A [(h0, .inr (6, oX8 (tu (tu (tu (tu (tu i0 0 size) 1 o.1) 2 o.2.1) 3 o.2.2.1) 4 o.2.2.2) (tuv (tuv v0 6 (.ref (r0 10))) 10 (.ref (r0 10)))))] t) A) ([.ref h0] : List Value).toArray s 0 0 A) (F0 m 123 ls [.int s1, .ref h0])) ∧ (∀ (x1 sort v_at v_to v_value : Int32) (H : Heap) (locs : List Loc) (ls : Array Slot), tk_it (stX7_goOn_X8 size tape) n (4, (x1, 0, sort, v_at, v_to, v_value)) = some o → va_P D tkCl [(h0, .inr (6, oX8 (tu (tu (tu (tu (tu i0 0 size) 1 sort) 2 v_at) 3 v_to) 4 v_value) (tuv (tuv v0 6 (.ref (r0 10))) 10 (.ref (r0 10)))))] H → va_D A [(h0, .inr (6, oX8 (tu (tu (tu (tu (tu i0 0 size) 1 sort) 2 v_at) 3 v_to) 4 v_value) (tuv (tuv v0 6 (.ref (r0 10))) 10 (.ref (r0 10)))))] → va_S A s.heap H locs → lv_has ls 3 [(0, .ref h0), (1, .int x1)] → W p l e (headSpec (ws_ yX7_goOn cX7_goOn 3 none) ({ frames := 1, cells := 0, slots := 0, locals := 21 })).room s m ([.ref h0] : List Value).toArray below meth c H locs 0 0 (MQ below (va_Qv (fun _ : Unit => True) (fun _ t => tk_Post D A [(h0, .inr (6, oX8 (tu (tu (tu (tu (tu i0 0 size) 1 o.1) 2 o.2.1) 3 o.2.2.1) 4 o.2.2.2) (tuv (tuv v0 6 (.ref (r0 10))) 10 (.ref (r0 10)))))] t) A) ([.ref h0] : List Value).toArray s 0 0 A) (F0 m 147 ls [])) ∧ (∀ (x1 s1 sort v_at v_to v_value : Int32) (H : Heap) (locs : List Loc) (ls : Array Slot), tk_it (stX7_goOn_X8 size tape) n (5, (x1, s1, sort, v_at, v_to, v_value)) = some o → va_P D tkCl [(h0, .inr (6, oX8 (tu (tu (tu (tu (tu i0 0 size) 1 sort) 2 v_at) 3 v_to) 4 v_value) (tuv (tuv v0 6 (.ref (r0 10))) 10 (.ref (r0 10)))))] H → va_D A [(h0, .inr (6, oX8 (tu (tu (tu (tu (tu i0 0 size) 1 sort) 2 v_at) 3 v_to) 4 v_value) (tuv (tuv v0 6 (.ref (r0 10))) 10 (.ref (r0 10)))))] → va_S A s.heap H locs → lv_has ls 3 [(0, .ref h0), (1, .int x1)] → W p l e (headSpec (ws_ yX7_goOn cX7_goOn 3 none) ({ frames := 1, cells := 0, slots := 0, locals := 21 })).room s m ([.ref h0] : List Value).toArray below meth c H locs 0 0 (MQ below (va_Qv (fun _ : Unit => True) (fun _ t => tk_Post D A [(h0, .inr (6, oX8 (tu (tu (tu (tu (tu i0 0 size) 1 o.1) 2 o.2.1) 3 o.2.2.1) 4 o.2.2.2) (tuv (tuv v0 6 (.ref (r0 10))) 10 (.ref (r0 10)))))] t) A) ([.ref h0] : List Value).toArray s 0 0 A) (F0 m 199 ls [.int s1, .ref h0])) ∧ (∀ (s1 sort v_at v_to v_value : Int32) (H : Heap) (locs : List Loc) (ls : Array Slot), tk_it (stX7_goOn_X8 size tape) n (6, (0, s1, sort, v_at, v_to, v_value)) = some o → va_P D tkCl [(h0, .inr (6, oX8 (tu (tu (tu (tu (tu i0 0 size) 1 sort) 2 v_at) 3 v_to) 4 v_value) (tuv (tuv v0 6 (.ref (r0 10))) 10 (.ref (r0 10)))))] H → va_D A [(h0, .inr (6, oX8 (tu (tu (tu (tu (tu i0 0 size) 1 sort) 2 v_at) 3 v_to) 4 v_value) (tuv (tuv v0 6 (.ref (r0 10))) 10 (.ref (r0 10)))))] → va_S A s.heap H locs → lv_has ls 3 [] → W p l e (headSpec (ws_ yX7_goOn cX7_goOn 3 none) ({ frames := 1, cells := 0, slots := 0, locals := 21 })).room s m ([.ref h0] : List Value).toArray below meth c H locs 0 0 (MQ below (va_Qv (fun _ : Unit => True) (fun _ t => tk_Post D A [(h0, .inr (6, oX8 (tu (tu (tu (tu (tu i0 0 size) 1 o.1) 2 o.2.1) 3 o.2.2.1) 4 o.2.2.2) (tuv (tuv v0 6 (.ref (r0 10))) 10 (.ref (r0 10)))))] t) A) ([.ref h0] : List Value).toArray s 0 0 A) (F0 m 231 ls [.int s1, .ref h0])) ∧ (∀ (s1 sort v_at v_to v_value : Int32) (H : Heap) (locs : List Loc) (ls : Array Slot), tk_it (stX7_goOn_X8 size tape) n (7, (0, s1, sort, v_at, v_to, v_value)) = some o → va_P D tkCl [(h0, .inr (6, oX8 (tu (tu (tu (tu (tu i0 0 size) 1 sort) 2 v_at) 3 v_to) 4 v_value) (tuv (tuv v0 6 (.ref (r0 10))) 10 (.ref (r0 10)))))] H → va_D A [(h0, .inr (6, oX8 (tu (tu (tu (tu (tu i0 0 size) 1 sort) 2 v_at) 3 v_to) 4 v_value) (tuv (tuv v0 6 (.ref (r0 10))) 10 (.ref (r0 10)))))] → va_S A s.heap H locs → lv_has ls 3 [] → W p l e (headSpec (ws_ yX7_goOn cX7_goOn 3 none) ({ frames := 1, cells := 0, slots := 0, locals := 21 })).room s m ([.ref h0] : List Value).toArray below meth c H locs 0 0 (MQ below (va_Qv (fun _ : Unit => True) (fun _ t => tk_Post D A [(h0, .inr (6, oX8 (tu (tu (tu (tu (tu i0 0 size) 1 o.1) 2 o.2.1) 3 o.2.2.1) 4 o.2.2.2) (tuv (tuv v0 6 (.ref (r0 10))) 10 (.ref (r0 10)))))] t) A) ([.ref h0] : List Value).toArray s 0 0 A) (F0 m 249 ls [.int s1, .ref h0])) := by
    intro n
    induction n with
    | zero => exact ⟨(by intros; rename_i hF _ _ _ _; cases hF), (by intros; rename_i hF _ _ _ _; cases hF), (by intros; rename_i hF _ _ _ _; cases hF), (by intros; rename_i hF _ _ _ _; cases hF), (by intros; rename_i hF _ _ _ _; cases hF), (by intros; rename_i hF _ _ _ _; cases hF), (by intros; rename_i hF _ _ _ _; cases hF)⟩
    | succ n ih =>
      obtain ⟨ih5, ih78, ih123, ih147, ih199, ih231, ih249⟩ := ih
      refine ⟨?_, ?_, ?_, ?_, ?_, ?_, ?_⟩
      · intro x1 sort v_at v_to v_value H locs ls hF hP hD hS hl
        have hF : tk_k (stX7_goOn_X8 size tape) n (bX7_goOn_X8_1 size tape x1 sort v_at v_to v_value) = some o := hF
        unfold bX7_goOn_X8_1 at hF
        refine lv_aload_n hx hb dX7_goOn_5 rfl (lv_at hl 0 rfl) ?_
        refine lv_iload_n hx hb dX7_goOn_6 rfl (lv_at hl 1 rfl) ?_
        obtain ⟨u1, hGu1, hF⟩ := tk_kb hF
        refine va_calli (va_runU (As := [.int x1]) (rest := []) ⟨hx, hb, hml, hown, hts⟩ (mX7_see_X8 (l := l) (D := D) (ar := ar) (ad := ad) (xs := xs) (sz := H.size) (h0 := h0) (r0 := r0) (i0 := (tu (tu (tu (tu (tu i0 0 size) 1 sort) 2 v_at) 3 v_to) 4 v_value)) (v0 := (tuv (tuv v0 6 (.ref (r0 10))) 10 (.ref (r0 10)))) (r1 := r1) (i1 := i1) (size := size) (tape := tape) (p0 := x1) (hF := hGu1)) (tk_cwP (C := "TideKeep$BeachReader") (owner := "TideKeep$Reader") (x := ⟨"TideKeep$Reader", "see", "(I)I"⟩) 1 hts (lw_meth q574) rfl rfl rfl (by decide +kernel) ⟨(Nat.le_of_ble_eq_true rfl), (Nat.le_of_ble_eq_true rfl)⟩ (hts _ q571) (hts _ q1993) (va_Decl.of (x := ⟨"TideKeep$Reader", "see", "(I)I"⟩) (hts _ q573) (hts _ q574)) (tk_selP (hts _ q567) rfl (by decide) (hE.2.1.use q572 rfl rfl) (hts _ q573)) (hts _ q573) (hts _ q102)) ⟨tk_blind, va_recv hK hP (ci := 6) (q0 := 0) rfl rfl, fun U hU hW => ⟨rfl, tk_mk hP hD hS hA hE hR hX [] [0, 1, 2] rfl rfl rfl rfl U hU hW⟩⟩ rfl rfl hl.1 rfl (lv_room (Nat.le_of_ble_eq_true rfl)) dX7_goOn_7 ⟨(Nat.le_of_ble_eq_true rfl), (Nat.le_of_ble_eq_true rfl)⟩) hS (fun q _ h => (va_free hD hS hA [] rfl) q h) (va_free hD hS hA [] rfl) (fun zr zu zt H1 zl zht zvm zw zB zz zk zS => ?_)
        obtain ⟨hP, hD⟩ := tk_join hP hD zk [] rfl rfl (va_free hD hS hA [] rfl) (zht ▸ zB.1) zB.2 (Nat.le_of_ble_eq_true rfl)
        have hS := zS
        have zw := Eq.symm zw
        subst zw
        generalize H1 = H at hP hS ⊢
        have hP : va_P D tkCl [(h0, .inr (6, oX8 (tu (tu (tu (tu (tu i0 0 size) 1 sort) 2 v_at) 3 v_to) 4 v_value) (tuv (tuv v0 6 (.ref (r0 10))) 10 (.ref (r0 10)))))] H := hP
        have hD : va_D A [(h0, .inr (6, oX8 (tu (tu (tu (tu (tu i0 0 size) 1 sort) 2 v_at) 3 v_to) 4 v_value) (tuv (tuv v0 6 (.ref (r0 10))) 10 (.ref (r0 10)))))] := hD
        refine lv_bipush (v := 32) hx hb dX7_goOn_10 (by decide) ?_
        refine lv_icmp_eq (tgt := 25) hx hb dX7_goOn_12 (by decide) (fun c2 => ?_) (fun c2 => ?_)
        · have hF := tk_kt hF c2
          refine lv_iinc (v := x1 + 1) (lv' := [(1, .int (x1 + 1)), (0, .ref h0)]) hx hb dX7_goOn_25 hl (k := 1) rfl (congrArg (fun z => x1 + z) (show Int32.ofInt 1 = 1 by decide)) (Nat.le_of_ble_eq_true rfl) rfl (fun ls hl => ?_)
          refine lv_goto (tgt := 5) hx hb dX7_goOn_28 (by decide) ?_
          exact ih5 (x1 + 1) sort v_at v_to v_value _ _ _ hF hP hD hS (lv_sub hl [1, 0] rfl)
        · have hF := tk_kf hF c2
          refine lv_aload_n hx hb dX7_goOn_15 rfl (lv_at hl 0 rfl) ?_
          refine lv_iload_n hx hb dX7_goOn_16 rfl (lv_at hl 1 rfl) ?_
          obtain ⟨u3, hGu3, hF⟩ := tk_kb hF
          refine va_calli (va_runU (As := [.int x1]) (rest := []) ⟨hx, hb, hml, hown, hts⟩ (mX7_see_X8 (l := l) (D := D) (ar := ar) (ad := ad) (xs := xs) (sz := H.size) (h0 := h0) (r0 := r0) (i0 := (tu (tu (tu (tu (tu i0 0 size) 1 sort) 2 v_at) 3 v_to) 4 v_value)) (v0 := (tuv (tuv v0 6 (.ref (r0 10))) 10 (.ref (r0 10)))) (r1 := r1) (i1 := i1) (size := size) (tape := tape) (p0 := x1) (hF := hGu3)) (tk_cwP (C := "TideKeep$BeachReader") (owner := "TideKeep$Reader") (x := ⟨"TideKeep$Reader", "see", "(I)I"⟩) 1 hts (lw_meth q574) rfl rfl rfl (by decide +kernel) ⟨(Nat.le_of_ble_eq_true rfl), (Nat.le_of_ble_eq_true rfl)⟩ (hts _ q571) (hts _ q1993) (va_Decl.of (x := ⟨"TideKeep$Reader", "see", "(I)I"⟩) (hts _ q573) (hts _ q574)) (tk_selP (hts _ q567) rfl (by decide) (hE.2.1.use q572 rfl rfl) (hts _ q573)) (hts _ q573) (hts _ q102)) ⟨tk_blind, va_recv hK hP (ci := 6) (q0 := 0) rfl rfl, fun U hU hW => ⟨rfl, tk_mk hP hD hS hA hE hR hX [] [0, 1, 2] rfl rfl rfl rfl U hU hW⟩⟩ rfl rfl hl.1 rfl (lv_room (Nat.le_of_ble_eq_true rfl)) dX7_goOn_17 ⟨(Nat.le_of_ble_eq_true rfl), (Nat.le_of_ble_eq_true rfl)⟩) hS (fun q _ h => (va_free hD hS hA [] rfl) q h) (va_free hD hS hA [] rfl) (fun zr zu zt H1 zl zht zvm zw zB zz zk zS => ?_)
          obtain ⟨hP, hD⟩ := tk_join hP hD zk [] rfl rfl (va_free hD hS hA [] rfl) (zht ▸ zB.1) zB.2 (Nat.le_of_ble_eq_true rfl)
          have hS := zS
          have zw := Eq.symm zw
          subst zw
          generalize H1 = H at hP hS ⊢
          have hP : va_P D tkCl [(h0, .inr (6, oX8 (tu (tu (tu (tu (tu i0 0 size) 1 sort) 2 v_at) 3 v_to) 4 v_value) (tuv (tuv v0 6 (.ref (r0 10))) 10 (.ref (r0 10)))))] H := hP
          have hD : va_D A [(h0, .inr (6, oX8 (tu (tu (tu (tu (tu i0 0 size) 1 sort) 2 v_at) 3 v_to) 4 v_value) (tuv (tuv v0 6 (.ref (r0 10))) 10 (.ref (r0 10)))))] := hD
          refine lv_bipush (v := 10) hx hb dX7_goOn_20 (by decide) ?_
          refine lv_icmp_ne (tgt := 31) hx hb dX7_goOn_22 (by decide) (fun c4 => ?_) (fun c4 => ?_)
          · have hF := tk_kf hF c4
            refine lv_aload_n hx hb dX7_goOn_31 rfl (lv_at hl 0 rfl) ?_
            refine lv_iload_n hx hb dX7_goOn_32 rfl (lv_at hl 1 rfl) ?_
            refine tk_put (D := D) (ci := 6) (v := .int x1) (ty := .int) (C := RX8) (T := TX8) (N := 11) hx hb hts in_X8 tyX8 tyX8_ok nmdX8 hown hK hP hD hS 0 rfl rfl 2 (by decide) (hts _ q604) (fun _ h9 => h9) rfl (by decide +kernel) rfl rfl (Nat.le_of_ble_eq_true rfl) dX7_goOn_33 (fun H locs hP hD hS => ?_)
            have hP : va_P D tkCl [(h0, .inr (6, oX8 (tu (tu (tu (tu (tu i0 0 size) 1 sort) 2 x1) 3 v_to) 4 v_value) (tuv (tuv v0 6 (.ref (r0 10))) 10 (.ref (r0 10)))))] H := hP
            have hD : va_D A [(h0, .inr (6, oX8 (tu (tu (tu (tu (tu i0 0 size) 1 sort) 2 x1) 3 v_to) 4 v_value) (tuv (tuv v0 6 (.ref (r0 10))) 10 (.ref (r0 10)))))] := hD
            refine lv_aload_n hx hb dX7_goOn_36 rfl (lv_at hl 0 rfl) ?_
            refine lv_iload_n hx hb dX7_goOn_37 rfl (lv_at hl 1 rfl) ?_
            refine lv_iconst (v := 1) hx hb dX7_goOn_38 (by decide) ?_
            refine lv_iadd hx hb dX7_goOn_39 ?_
            refine tk_put (D := D) (ci := 6) (v := .int (x1 + 1)) (ty := .int) (C := RX8) (T := TX8) (N := 11) hx hb hts in_X8 tyX8 tyX8_ok nmdX8 hown hK hP hD hS 0 rfl rfl 3 (by decide) (hts _ q605) (fun _ h9 => h9) rfl (by decide +kernel) rfl rfl (Nat.le_of_ble_eq_true rfl) dX7_goOn_40 (fun H locs hP hD hS => ?_)
            have hP : va_P D tkCl [(h0, .inr (6, oX8 (tu (tu (tu (tu (tu i0 0 size) 1 sort) 2 x1) 3 (x1 + 1)) 4 v_value) (tuv (tuv v0 6 (.ref (r0 10))) 10 (.ref (r0 10)))))] H := hP
            have hD : va_D A [(h0, .inr (6, oX8 (tu (tu (tu (tu (tu i0 0 size) 1 sort) 2 x1) 3 (x1 + 1)) 4 v_value) (tuv (tuv v0 6 (.ref (r0 10))) 10 (.ref (r0 10)))))] := hD
            refine lv_aload_n hx hb dX7_goOn_43 rfl (lv_at hl 0 rfl) ?_
            refine lv_iload_n hx hb dX7_goOn_44 rfl (lv_at hl 1 rfl) ?_
            obtain ⟨u5, hGu5, hF⟩ := tk_kb hF
            refine va_calli (va_runU (As := [.int x1]) (rest := []) ⟨hx, hb, hml, hown, hts⟩ (mX7_see_X8 (l := l) (D := D) (ar := ar) (ad := ad) (xs := xs) (sz := H.size) (h0 := h0) (r0 := r0) (i0 := (tu (tu (tu (tu (tu i0 0 size) 1 sort) 2 x1) 3 (x1 + 1)) 4 v_value)) (v0 := (tuv (tuv v0 6 (.ref (r0 10))) 10 (.ref (r0 10)))) (r1 := r1) (i1 := i1) (size := size) (tape := tape) (p0 := x1) (hF := hGu5)) (tk_cwP (C := "TideKeep$BeachReader") (owner := "TideKeep$Reader") (x := ⟨"TideKeep$Reader", "see", "(I)I"⟩) 1 hts (lw_meth q574) rfl rfl rfl (by decide +kernel) ⟨(Nat.le_of_ble_eq_true rfl), (Nat.le_of_ble_eq_true rfl)⟩ (hts _ q571) (hts _ q1993) (va_Decl.of (x := ⟨"TideKeep$Reader", "see", "(I)I"⟩) (hts _ q573) (hts _ q574)) (tk_selP (hts _ q567) rfl (by decide) (hE.2.1.use q572 rfl rfl) (hts _ q573)) (hts _ q573) (hts _ q102)) ⟨tk_blind, va_recv hK hP (ci := 6) (q0 := 0) rfl rfl, fun U hU hW => ⟨rfl, tk_mk hP hD hS hA hE hR hX [] [0, 1, 2] rfl rfl rfl rfl U hU hW⟩⟩ rfl rfl hl.1 rfl (lv_room (Nat.le_of_ble_eq_true rfl)) dX7_goOn_45 ⟨(Nat.le_of_ble_eq_true rfl), (Nat.le_of_ble_eq_true rfl)⟩) hS (fun q _ h => (va_free hD hS hA [] rfl) q h) (va_free hD hS hA [] rfl) (fun zr zu zt H1 zl zht zvm zw zB zz zk zS => ?_)
            obtain ⟨hP, hD⟩ := tk_join hP hD zk [] rfl rfl (va_free hD hS hA [] rfl) (zht ▸ zB.1) zB.2 (Nat.le_of_ble_eq_true rfl)
            have hS := zS
            have zw := Eq.symm zw
            subst zw
            generalize H1 = H at hP hS ⊢
            have hP : va_P D tkCl [(h0, .inr (6, oX8 (tu (tu (tu (tu (tu i0 0 size) 1 sort) 2 x1) 3 (x1 + 1)) 4 v_value) (tuv (tuv v0 6 (.ref (r0 10))) 10 (.ref (r0 10)))))] H := hP
            have hD : va_D A [(h0, .inr (6, oX8 (tu (tu (tu (tu (tu i0 0 size) 1 sort) 2 x1) 3 (x1 + 1)) 4 v_value) (tuv (tuv v0 6 (.ref (r0 10))) 10 (.ref (r0 10)))))] := hD
            refine lv_istore_n (lv' := [(2, .int u5), (0, .ref h0), (1, .int x1)]) hx hb dX7_goOn_48 rfl hl (Nat.le_of_ble_eq_true rfl) rfl (fun ls hl => ?_)
            refine lv_iload_n hx hb dX7_goOn_49 rfl (lv_at hl 2 rfl) ?_
            refine lv_aload_n hx hb dX7_goOn_50 rfl (lv_at hl 1 rfl) ?_
            refine va_get (D := D) (ci := 6) (v := .int size) (C := RX8) (T := TX8) (N := 11) hx hb hts in_X8 hown hK hP 0 rfl rfl 0 (by decide) (hts _ q602) (fun _ h9 => h9) rfl dX7_goOn_51 ?_
            refine lv_icmp_lt (tgt := 70) hx hb dX7_goOn_54 (by decide) (fun c6 => ?_) (fun c6 => ?_)
            · have hF := tk_kt hF c6
              refine lv_aload_n hx hb dX7_goOn_70 rfl (lv_at hl 1 rfl) ?_
              refine lv_iload_n hx hb dX7_goOn_71 rfl (lv_at hl 0 rfl) ?_
              obtain ⟨u7, hGu7, hF⟩ := tk_kb hF
              refine va_calli (va_runU (As := [.int u5]) (rest := []) ⟨hx, hb, hml, hown, hts⟩ (mX7_isSmall_X8 (l := l) (D := D) (ar := ar) (ad := ad) (xs := xs) (sz := H.size) (h0 := h0) (p0 := u5) (hF := hGu7)) (tk_cwP (C := "TideKeep$BeachReader") (owner := "TideKeep$Reader") (x := ⟨"TideKeep$Reader", "isSmall", "(I)Z"⟩) 1 hts (lw_meth q578) rfl rfl rfl (by decide +kernel) ⟨(Nat.le_of_ble_eq_true rfl), (Nat.le_of_ble_eq_true rfl)⟩ (hts _ q575) (hts _ q1994) (va_Decl.of (x := ⟨"TideKeep$Reader", "isSmall", "(I)Z"⟩) (hts _ q577) (hts _ q578)) (tk_selP (hts _ q567) rfl (by decide) (hE.2.1.use q576 rfl rfl) (hts _ q577)) (hts _ q577) (hts _ q102)) ⟨tk_blind, va_recv hK hP (ci := 6) (q0 := 0) rfl rfl, fun U hU hW => ⟨rfl, tk_mk hP hD hS hA hE hR hX [] [] rfl rfl rfl rfl U hU hW⟩⟩ rfl rfl hl.1 rfl (lv_room (Nat.le_of_ble_eq_true rfl)) dX7_goOn_72 ⟨(Nat.le_of_ble_eq_true rfl), (Nat.le_of_ble_eq_true rfl)⟩) hS (fun q _ h => (va_free hD hS hA [] rfl) q h) (va_free hD hS hA [] rfl) (fun zr zu zt H1 zl zht zvm zw zB zz zk zS => ?_)
              obtain ⟨hP, hD⟩ := tk_join hP hD zk [] rfl rfl (va_free hD hS hA [] rfl) (zht ▸ zB.1) zB.2 (Nat.le_of_ble_eq_true rfl)
              have hS := zS
              have zw := Eq.symm zw
              subst zw
              generalize H1 = H at hP hS ⊢
              have hP : va_P D tkCl [(h0, .inr (6, oX8 (tu (tu (tu (tu (tu i0 0 size) 1 sort) 2 x1) 3 (x1 + 1)) 4 v_value) (tuv (tuv v0 6 (.ref (r0 10))) 10 (.ref (r0 10)))))] H := hP
              have hD : va_D A [(h0, .inr (6, oX8 (tu (tu (tu (tu (tu i0 0 size) 1 sort) 2 x1) 3 (x1 + 1)) 4 v_value) (tuv (tuv v0 6 (.ref (r0 10))) 10 (.ref (r0 10)))))] := hD
              refine lv_if_eq (tgt := 129) hx hb dX7_goOn_75 (by decide) (fun c8 => ?_) (fun c8 => ?_)
              · have hF := tk_kt hF c8
                refine lv_aload_n hx hb dX7_goOn_129 rfl (lv_at hl 1 rfl) ?_
                refine lv_iload_n hx hb dX7_goOn_130 rfl (lv_at hl 0 rfl) ?_
                obtain ⟨u9, hGu9, hF⟩ := tk_kb hF
                refine va_calli (va_runU (As := [.int u5]) (rest := []) ⟨hx, hb, hml, hown, hts⟩ (mX7_isDigit_X8 (l := l) (D := D) (ar := ar) (ad := ad) (xs := xs) (sz := H.size) (h0 := h0) (p0 := u5) (hF := hGu9)) (tk_cwP (C := "TideKeep$BeachReader") (owner := "TideKeep$Reader") (x := ⟨"TideKeep$Reader", "isDigit", "(I)Z"⟩) 1 hts (lw_meth q582) rfl rfl rfl (by decide +kernel) ⟨(Nat.le_of_ble_eq_true rfl), (Nat.le_of_ble_eq_true rfl)⟩ (hts _ q579) (hts _ q1995) (va_Decl.of (x := ⟨"TideKeep$Reader", "isDigit", "(I)Z"⟩) (hts _ q581) (hts _ q582)) (tk_selP (hts _ q567) rfl (by decide) (hE.2.1.use q580 rfl rfl) (hts _ q581)) (hts _ q581) (hts _ q102)) ⟨tk_blind, va_recv hK hP (ci := 6) (q0 := 0) rfl rfl, fun U hU hW => ⟨rfl, tk_mk hP hD hS hA hE hR hX [] [] rfl rfl rfl rfl U hU hW⟩⟩ rfl rfl hl.1 rfl (lv_room (Nat.le_of_ble_eq_true rfl)) dX7_goOn_131 ⟨(Nat.le_of_ble_eq_true rfl), (Nat.le_of_ble_eq_true rfl)⟩) hS (fun q _ h => (va_free hD hS hA [] rfl) q h) (va_free hD hS hA [] rfl) (fun zr zu zt H1 zl zht zvm zw zB zz zk zS => ?_)
                obtain ⟨hP, hD⟩ := tk_join hP hD zk [] rfl rfl (va_free hD hS hA [] rfl) (zht ▸ zB.1) zB.2 (Nat.le_of_ble_eq_true rfl)
                have hS := zS
                have zw := Eq.symm zw
                subst zw
                generalize H1 = H at hP hS ⊢
                have hP : va_P D tkCl [(h0, .inr (6, oX8 (tu (tu (tu (tu (tu i0 0 size) 1 sort) 2 x1) 3 (x1 + 1)) 4 v_value) (tuv (tuv v0 6 (.ref (r0 10))) 10 (.ref (r0 10)))))] H := hP
                have hD : va_D A [(h0, .inr (6, oX8 (tu (tu (tu (tu (tu i0 0 size) 1 sort) 2 x1) 3 (x1 + 1)) 4 v_value) (tuv (tuv v0 6 (.ref (r0 10))) 10 (.ref (r0 10)))))] := hD
                refine lv_if_eq (tgt := 237) hx hb dX7_goOn_134 (by decide) (fun c10 => ?_) (fun c10 => ?_)
                · have hF := tk_kt hF c10
                  refine lv_aload_n hx hb dX7_goOn_237 rfl (lv_at hl 1 rfl) ?_
                  refine lv_iload_n hx hb dX7_goOn_238 rfl (lv_at hl 0 rfl) ?_
                  refine lv_bipush (v := 59) hx hb dX7_goOn_239 (by decide) ?_
                  refine lv_icmp_ne (tgt := 248) hx hb dX7_goOn_241 (by decide) (fun c11 => ?_) (fun c11 => ?_)
                  · have hF := tk_kf hF c11
                    refine lv_iconst (v := 4) hx hb dX7_goOn_248 (by decide) ?_
                    exact ih249 4 sort x1 (x1 + 1) v_value _ _ _ hF hP hD hS (lv_sub hl [] rfl)
                  · have hF := tk_kt hF c11
                    refine lv_iconst (v := 3) hx hb dX7_goOn_244 (by decide) ?_
                    refine lv_goto (tgt := 249) hx hb dX7_goOn_245 (by decide) ?_
                    exact ih249 3 sort x1 (x1 + 1) v_value _ _ _ hF hP hD hS (lv_sub hl [] rfl)
                · have hF := tk_kf hF c10
                  refine lv_aload_n hx hb dX7_goOn_137 rfl (lv_at hl 1 rfl) ?_
                  refine lv_iconst (v := 0) hx hb dX7_goOn_138 (by decide) ?_
                  refine tk_put (D := D) (ci := 6) (v := .int 0) (ty := .int) (C := RX8) (T := TX8) (N := 11) hx hb hts in_X8 tyX8 tyX8_ok nmdX8 hown hK hP hD hS 0 rfl rfl 4 (by decide) (hts _ q606) (fun _ h9 => h9) rfl (by decide +kernel) rfl rfl (Nat.le_of_ble_eq_true rfl) dX7_goOn_139 (fun H locs hP hD hS => ?_)
                  have hP : va_P D tkCl [(h0, .inr (6, oX8 (tu (tu (tu (tu (tu i0 0 size) 1 sort) 2 x1) 3 (x1 + 1)) 4 0) (tuv (tuv v0 6 (.ref (r0 10))) 10 (.ref (r0 10)))))] H := hP
                  have hD : va_D A [(h0, .inr (6, oX8 (tu (tu (tu (tu (tu i0 0 size) 1 sort) 2 x1) 3 (x1 + 1)) 4 0) (tuv (tuv v0 6 (.ref (r0 10))) 10 (.ref (r0 10)))))] := hD
                  refine lv_aload_n hx hb dX7_goOn_142 rfl (lv_at hl 1 rfl) ?_
                  refine lv_iload_n hx hb dX7_goOn_143 rfl (lv_at hl 2 rfl) ?_
                  refine tk_put (D := D) (ci := 6) (v := .int x1) (ty := .int) (C := RX8) (T := TX8) (N := 11) hx hb hts in_X8 tyX8 tyX8_ok nmdX8 hown hK hP hD hS 0 rfl rfl 3 (by decide) (hts _ q605) (fun _ h9 => h9) rfl (by decide +kernel) rfl rfl (Nat.le_of_ble_eq_true rfl) dX7_goOn_144 (fun H locs hP hD hS => ?_)
                  have hP : va_P D tkCl [(h0, .inr (6, oX8 (tu (tu (tu (tu (tu i0 0 size) 1 sort) 2 x1) 3 x1) 4 0) (tuv (tuv v0 6 (.ref (r0 10))) 10 (.ref (r0 10)))))] H := hP
                  have hD : va_D A [(h0, .inr (6, oX8 (tu (tu (tu (tu (tu i0 0 size) 1 sort) 2 x1) 3 x1) 4 0) (tuv (tuv v0 6 (.ref (r0 10))) 10 (.ref (r0 10)))))] := hD
                  exact ih147 x1 sort x1 x1 0 _ _ _ hF hP hD hS (lv_sub hl [1, 2] rfl)
              · have hF := tk_kf hF c8
                exact ih78 x1 sort x1 (x1 + 1) v_value _ _ _ hF hP hD hS (lv_sub hl [1, 2] rfl)
            · have hF := tk_kf hF c6
              refine lv_aload_n hx hb dX7_goOn_57 rfl (lv_at hl 1 rfl) ?_
              refine lv_iconst (v := 0) hx hb dX7_goOn_58 (by decide) ?_
              refine tk_put (D := D) (ci := 6) (v := .int 0) (ty := .int) (C := RX8) (T := TX8) (N := 11) hx hb hts in_X8 tyX8 tyX8_ok nmdX8 hown hK hP hD hS 0 rfl rfl 1 (by decide) (hts _ q603) (fun _ h9 => h9) rfl (by decide +kernel) rfl rfl (Nat.le_of_ble_eq_true rfl) dX7_goOn_59 (fun H locs hP hD hS => ?_)
              have hP : va_P D tkCl [(h0, .inr (6, oX8 (tu (tu (tu (tu (tu i0 0 size) 1 0) 2 x1) 3 (x1 + 1)) 4 v_value) (tuv (tuv v0 6 (.ref (r0 10))) 10 (.ref (r0 10)))))] H := hP
              have hD : va_D A [(h0, .inr (6, oX8 (tu (tu (tu (tu (tu i0 0 size) 1 0) 2 x1) 3 (x1 + 1)) 4 v_value) (tuv (tuv v0 6 (.ref (r0 10))) 10 (.ref (r0 10)))))] := hD
              refine lv_aload_n hx hb dX7_goOn_62 rfl (lv_at hl 1 rfl) ?_
              refine lv_iload_n hx hb dX7_goOn_63 rfl (lv_at hl 2 rfl) ?_
              refine tk_put (D := D) (ci := 6) (v := .int x1) (ty := .int) (C := RX8) (T := TX8) (N := 11) hx hb hts in_X8 tyX8 tyX8_ok nmdX8 hown hK hP hD hS 0 rfl rfl 3 (by decide) (hts _ q605) (fun _ h9 => h9) rfl (by decide +kernel) rfl rfl (Nat.le_of_ble_eq_true rfl) dX7_goOn_64 (fun H locs hP hD hS => ?_)
              have hP : va_P D tkCl [(h0, .inr (6, oX8 (tu (tu (tu (tu (tu i0 0 size) 1 0) 2 x1) 3 x1) 4 v_value) (tuv (tuv v0 6 (.ref (r0 10))) 10 (.ref (r0 10)))))] H := hP
              have hD : va_D A [(h0, .inr (6, oX8 (tu (tu (tu (tu (tu i0 0 size) 1 0) 2 x1) 3 x1) 4 v_value) (tuv (tuv v0 6 (.ref (r0 10))) 10 (.ref (r0 10)))))] := hD
              refine lv_goto (tgt := 252) hx hb dX7_goOn_67 (by decide) ?_
              have eo := tk_kr hF
              subst eo
              exact W.vret hx hb hr (fun t ht hW => ⟨⟨(), rfl, trivial, tk_pst ht hP hD⟩, hS.F ht⟩) hS.2.2 dX7_goOn_252
          · have hF := tk_kt hF c4
            refine lv_iinc (v := x1 + 1) (lv' := [(1, .int (x1 + 1)), (0, .ref h0)]) hx hb dX7_goOn_25 hl (k := 1) rfl (congrArg (fun z => x1 + z) (show Int32.ofInt 1 = 1 by decide)) (Nat.le_of_ble_eq_true rfl) rfl (fun ls hl => ?_)
            refine lv_goto (tgt := 5) hx hb dX7_goOn_28 (by decide) ?_
            exact ih5 (x1 + 1) sort v_at v_to v_value _ _ _ hF hP hD hS (lv_sub hl [1, 0] rfl)
      · intro x1 sort v_at v_to v_value H locs ls hF hP hD hS hl
        have hF : tk_k (stX7_goOn_X8 size tape) n (bX7_goOn_X8_2 size tape x1 sort v_at v_to v_value) = some o := hF
        unfold bX7_goOn_X8_2 at hF
        refine lv_aload_n hx hb dX7_goOn_78 rfl (lv_at hl 0 rfl) ?_
        refine lv_aload_n hx hb dX7_goOn_79 rfl (lv_at hl 0 rfl) ?_
        refine lv_aload_n hx hb dX7_goOn_80 rfl (lv_at hl 0 rfl) ?_
        refine va_get (D := D) (ci := 6) (v := .int v_to) (C := RX8) (T := TX8) (N := 11) hx hb hts in_X8 hown hK hP 0 rfl rfl 3 (by decide) (hts _ q605) (fun _ h9 => h9) rfl dX7_goOn_81 ?_
        obtain ⟨u12, hGu12, hF⟩ := tk_kb hF
        refine va_calli (va_runU (As := [.int v_to]) (rest := [.ref h0]) ⟨hx, hb, hml, hown, hts⟩ (mX7_see_X8 (l := l) (D := D) (ar := ar) (ad := ad) (xs := xs) (sz := H.size) (h0 := h0) (r0 := r0) (i0 := (tu (tu (tu (tu (tu i0 0 size) 1 sort) 2 v_at) 3 v_to) 4 v_value)) (v0 := (tuv (tuv v0 6 (.ref (r0 10))) 10 (.ref (r0 10)))) (r1 := r1) (i1 := i1) (size := size) (tape := tape) (p0 := v_to) (hF := hGu12)) (tk_cwP (C := "TideKeep$BeachReader") (owner := "TideKeep$Reader") (x := ⟨"TideKeep$Reader", "see", "(I)I"⟩) 1 hts (lw_meth q574) rfl rfl rfl (by decide +kernel) ⟨(Nat.le_of_ble_eq_true rfl), (Nat.le_of_ble_eq_true rfl)⟩ (hts _ q571) (hts _ q1993) (va_Decl.of (x := ⟨"TideKeep$Reader", "see", "(I)I"⟩) (hts _ q573) (hts _ q574)) (tk_selP (hts _ q567) rfl (by decide) (hE.2.1.use q572 rfl rfl) (hts _ q573)) (hts _ q573) (hts _ q102)) ⟨tk_blind, va_recv hK hP (ci := 6) (q0 := 0) rfl rfl, fun U hU hW => ⟨rfl, tk_mk hP hD hS hA hE hR hX [] [0, 1, 2] rfl rfl rfl rfl U hU hW⟩⟩ rfl rfl hl.1 rfl (lv_room (Nat.le_of_ble_eq_true rfl)) dX7_goOn_84 ⟨(Nat.le_of_ble_eq_true rfl), (Nat.le_of_ble_eq_true rfl)⟩) hS (fun q _ h => (va_free hD hS hA [] rfl) q h) (va_free hD hS hA [] rfl) (fun zr zu zt H1 zl zht zvm zw zB zz zk zS => ?_)
        obtain ⟨hP, hD⟩ := tk_join hP hD zk [] rfl rfl (va_free hD hS hA [] rfl) (zht ▸ zB.1) zB.2 (Nat.le_of_ble_eq_true rfl)
        have hS := zS
        have zw := Eq.symm zw
        subst zw
        generalize H1 = H at hP hS ⊢
        have hP : va_P D tkCl [(h0, .inr (6, oX8 (tu (tu (tu (tu (tu i0 0 size) 1 sort) 2 v_at) 3 v_to) 4 v_value) (tuv (tuv v0 6 (.ref (r0 10))) 10 (.ref (r0 10)))))] H := hP
        have hD : va_D A [(h0, .inr (6, oX8 (tu (tu (tu (tu (tu i0 0 size) 1 sort) 2 v_at) 3 v_to) 4 v_value) (tuv (tuv v0 6 (.ref (r0 10))) 10 (.ref (r0 10)))))] := hD
        obtain ⟨u13, hGu13, hF⟩ := tk_kb hF
        refine va_calli (va_runU (As := [.int u12]) (rest := []) ⟨hx, hb, hml, hown, hts⟩ (mX7_isSmall_X8 (l := l) (D := D) (ar := ar) (ad := ad) (xs := xs) (sz := H.size) (h0 := h0) (p0 := u12) (hF := hGu13)) (tk_cwP (C := "TideKeep$BeachReader") (owner := "TideKeep$Reader") (x := ⟨"TideKeep$Reader", "isSmall", "(I)Z"⟩) 1 hts (lw_meth q578) rfl rfl rfl (by decide +kernel) ⟨(Nat.le_of_ble_eq_true rfl), (Nat.le_of_ble_eq_true rfl)⟩ (hts _ q575) (hts _ q1994) (va_Decl.of (x := ⟨"TideKeep$Reader", "isSmall", "(I)Z"⟩) (hts _ q577) (hts _ q578)) (tk_selP (hts _ q567) rfl (by decide) (hE.2.1.use q576 rfl rfl) (hts _ q577)) (hts _ q577) (hts _ q102)) ⟨tk_blind, va_recv hK hP (ci := 6) (q0 := 0) rfl rfl, fun U hU hW => ⟨rfl, tk_mk hP hD hS hA hE hR hX [] [] rfl rfl rfl rfl U hU hW⟩⟩ rfl rfl hl.1 rfl (lv_room (Nat.le_of_ble_eq_true rfl)) dX7_goOn_87 ⟨(Nat.le_of_ble_eq_true rfl), (Nat.le_of_ble_eq_true rfl)⟩) hS (fun q _ h => (va_free hD hS hA [] rfl) q h) (va_free hD hS hA [] rfl) (fun zr zu zt H1 zl zht zvm zw zB zz zk zS => ?_)
        obtain ⟨hP, hD⟩ := tk_join hP hD zk [] rfl rfl (va_free hD hS hA [] rfl) (zht ▸ zB.1) zB.2 (Nat.le_of_ble_eq_true rfl)
        have hS := zS
        have zw := Eq.symm zw
        subst zw
        generalize H1 = H at hP hS ⊢
        have hP : va_P D tkCl [(h0, .inr (6, oX8 (tu (tu (tu (tu (tu i0 0 size) 1 sort) 2 v_at) 3 v_to) 4 v_value) (tuv (tuv v0 6 (.ref (r0 10))) 10 (.ref (r0 10)))))] H := hP
        have hD : va_D A [(h0, .inr (6, oX8 (tu (tu (tu (tu (tu i0 0 size) 1 sort) 2 v_at) 3 v_to) 4 v_value) (tuv (tuv v0 6 (.ref (r0 10))) 10 (.ref (r0 10)))))] := hD
        refine lv_if_eq (tgt := 106) hx hb dX7_goOn_90 (by decide) (fun c14 => ?_) (fun c14 => ?_)
        · have hF := tk_kt hF c14
          refine lv_aload_n hx hb dX7_goOn_106 rfl (lv_at hl 0 rfl) ?_
          refine lv_aload_n hx hb dX7_goOn_107 rfl (lv_at hl 0 rfl) ?_
          refine va_get (D := D) (ci := 6) (v := .int v_to) (C := RX8) (T := TX8) (N := 11) hx hb hts in_X8 hown hK hP 0 rfl rfl 3 (by decide) (hts _ q605) (fun _ h9 => h9) rfl dX7_goOn_108 ?_
          refine lv_iload_n hx hb dX7_goOn_111 rfl (lv_at hl 1 rfl) ?_
          refine lv_isub hx hb dX7_goOn_112 ?_
          refine lv_bipush (v := 8) hx hb dX7_goOn_113 (by decide) ?_
          refine lv_icmp_le (tgt := 122) hx hb dX7_goOn_115 (by decide) (fun c15 => ?_) (fun c15 => ?_)
          · have hF := tk_kt hF c15
            refine lv_iconst (v := 1) hx hb dX7_goOn_122 (by decide) ?_
            exact ih123 1 sort v_at v_to v_value _ _ _ hF hP hD hS (lv_sub hl [] rfl)
          · have hF := tk_kf hF c15
            refine lv_iconst (v := 4) hx hb dX7_goOn_118 (by decide) ?_
            refine lv_goto (tgt := 123) hx hb dX7_goOn_119 (by decide) ?_
            exact ih123 4 sort v_at v_to v_value _ _ _ hF hP hD hS (lv_sub hl [] rfl)
        · have hF := tk_kf hF c14
          refine lv_aload_n hx hb dX7_goOn_93 rfl (lv_at hl 0 rfl) ?_
          refine lv_dup hx hb dX7_goOn_94 rfl ?_
          refine va_get (D := D) (ci := 6) (v := .int v_to) (C := RX8) (T := TX8) (N := 11) hx hb hts in_X8 hown hK hP 0 rfl rfl 3 (by decide) (hts _ q605) (fun _ h9 => h9) rfl dX7_goOn_95 ?_
          refine lv_iconst (v := 1) hx hb dX7_goOn_98 (by decide) ?_
          refine lv_iadd hx hb dX7_goOn_99 ?_
          refine tk_put (D := D) (ci := 6) (v := .int (v_to + 1)) (ty := .int) (C := RX8) (T := TX8) (N := 11) hx hb hts in_X8 tyX8 tyX8_ok nmdX8 hown hK hP hD hS 0 rfl rfl 3 (by decide) (hts _ q605) (fun _ h9 => h9) rfl (by decide +kernel) rfl rfl (Nat.le_of_ble_eq_true rfl) dX7_goOn_100 (fun H locs hP hD hS => ?_)
          have hP : va_P D tkCl [(h0, .inr (6, oX8 (tu (tu (tu (tu (tu i0 0 size) 1 sort) 2 v_at) 3 (v_to + 1)) 4 v_value) (tuv (tuv v0 6 (.ref (r0 10))) 10 (.ref (r0 10)))))] H := hP
          have hD : va_D A [(h0, .inr (6, oX8 (tu (tu (tu (tu (tu i0 0 size) 1 sort) 2 v_at) 3 (v_to + 1)) 4 v_value) (tuv (tuv v0 6 (.ref (r0 10))) 10 (.ref (r0 10)))))] := hD
          refine lv_goto (tgt := 78) hx hb dX7_goOn_103 (by decide) ?_
          exact ih78 x1 sort v_at (v_to + 1) v_value _ _ _ hF hP hD hS (lv_sub hl [0, 1] rfl)
      · intro s1 sort v_at v_to v_value H locs ls hF hP hD hS hl
        have hF : tk_k (stX7_goOn_X8 size tape) n (bX7_goOn_X8_3 size tape s1 sort v_at v_to v_value) = some o := hF
        unfold bX7_goOn_X8_3 at hF
        refine tk_put (D := D) (ci := 6) (v := .int s1) (ty := .int) (C := RX8) (T := TX8) (N := 11) hx hb hts in_X8 tyX8 tyX8_ok nmdX8 hown hK hP hD hS 0 rfl rfl 1 (by decide) (hts _ q603) (fun _ h9 => h9) rfl (by decide +kernel) rfl rfl (Nat.le_of_ble_eq_true rfl) dX7_goOn_123 (fun H locs hP hD hS => ?_)
        have hP : va_P D tkCl [(h0, .inr (6, oX8 (tu (tu (tu (tu (tu i0 0 size) 1 s1) 2 v_at) 3 v_to) 4 v_value) (tuv (tuv v0 6 (.ref (r0 10))) 10 (.ref (r0 10)))))] H := hP
        have hD : va_D A [(h0, .inr (6, oX8 (tu (tu (tu (tu (tu i0 0 size) 1 s1) 2 v_at) 3 v_to) 4 v_value) (tuv (tuv v0 6 (.ref (r0 10))) 10 (.ref (r0 10)))))] := hD
        refine lv_goto (tgt := 252) hx hb dX7_goOn_126 (by decide) ?_
        have eo := tk_kr hF
        subst eo
        exact W.vret hx hb hr (fun t ht hW => ⟨⟨(), rfl, trivial, tk_pst ht hP hD⟩, hS.F ht⟩) hS.2.2 dX7_goOn_252
      · intro x1 sort v_at v_to v_value H locs ls hF hP hD hS hl
        have hF : tk_k (stX7_goOn_X8 size tape) n (bX7_goOn_X8_4 size tape x1 sort v_at v_to v_value) = some o := hF
        unfold bX7_goOn_X8_4 at hF
        refine lv_aload_n hx hb dX7_goOn_147 rfl (lv_at hl 0 rfl) ?_
        refine lv_aload_n hx hb dX7_goOn_148 rfl (lv_at hl 0 rfl) ?_
        refine lv_aload_n hx hb dX7_goOn_149 rfl (lv_at hl 0 rfl) ?_
        refine va_get (D := D) (ci := 6) (v := .int v_to) (C := RX8) (T := TX8) (N := 11) hx hb hts in_X8 hown hK hP 0 rfl rfl 3 (by decide) (hts _ q605) (fun _ h9 => h9) rfl dX7_goOn_150 ?_
        obtain ⟨u16, hGu16, hF⟩ := tk_kb hF
        refine va_calli (va_runU (As := [.int v_to]) (rest := [.ref h0]) ⟨hx, hb, hml, hown, hts⟩ (mX7_see_X8 (l := l) (D := D) (ar := ar) (ad := ad) (xs := xs) (sz := H.size) (h0 := h0) (r0 := r0) (i0 := (tu (tu (tu (tu (tu i0 0 size) 1 sort) 2 v_at) 3 v_to) 4 v_value)) (v0 := (tuv (tuv v0 6 (.ref (r0 10))) 10 (.ref (r0 10)))) (r1 := r1) (i1 := i1) (size := size) (tape := tape) (p0 := v_to) (hF := hGu16)) (tk_cwP (C := "TideKeep$BeachReader") (owner := "TideKeep$Reader") (x := ⟨"TideKeep$Reader", "see", "(I)I"⟩) 1 hts (lw_meth q574) rfl rfl rfl (by decide +kernel) ⟨(Nat.le_of_ble_eq_true rfl), (Nat.le_of_ble_eq_true rfl)⟩ (hts _ q571) (hts _ q1993) (va_Decl.of (x := ⟨"TideKeep$Reader", "see", "(I)I"⟩) (hts _ q573) (hts _ q574)) (tk_selP (hts _ q567) rfl (by decide) (hE.2.1.use q572 rfl rfl) (hts _ q573)) (hts _ q573) (hts _ q102)) ⟨tk_blind, va_recv hK hP (ci := 6) (q0 := 0) rfl rfl, fun U hU hW => ⟨rfl, tk_mk hP hD hS hA hE hR hX [] [0, 1, 2] rfl rfl rfl rfl U hU hW⟩⟩ rfl rfl hl.1 rfl (lv_room (Nat.le_of_ble_eq_true rfl)) dX7_goOn_153 ⟨(Nat.le_of_ble_eq_true rfl), (Nat.le_of_ble_eq_true rfl)⟩) hS (fun q _ h => (va_free hD hS hA [] rfl) q h) (va_free hD hS hA [] rfl) (fun zr zu zt H1 zl zht zvm zw zB zz zk zS => ?_)
        obtain ⟨hP, hD⟩ := tk_join hP hD zk [] rfl rfl (va_free hD hS hA [] rfl) (zht ▸ zB.1) zB.2 (Nat.le_of_ble_eq_true rfl)
        have hS := zS
        have zw := Eq.symm zw
        subst zw
        generalize H1 = H at hP hS ⊢
        have hP : va_P D tkCl [(h0, .inr (6, oX8 (tu (tu (tu (tu (tu i0 0 size) 1 sort) 2 v_at) 3 v_to) 4 v_value) (tuv (tuv v0 6 (.ref (r0 10))) 10 (.ref (r0 10)))))] H := hP
        have hD : va_D A [(h0, .inr (6, oX8 (tu (tu (tu (tu (tu i0 0 size) 1 sort) 2 v_at) 3 v_to) 4 v_value) (tuv (tuv v0 6 (.ref (r0 10))) 10 (.ref (r0 10)))))] := hD
        obtain ⟨u17, hGu17, hF⟩ := tk_kb hF
        refine va_calli (va_runU (As := [.int u16]) (rest := []) ⟨hx, hb, hml, hown, hts⟩ (mX7_isDigit_X8 (l := l) (D := D) (ar := ar) (ad := ad) (xs := xs) (sz := H.size) (h0 := h0) (p0 := u16) (hF := hGu17)) (tk_cwP (C := "TideKeep$BeachReader") (owner := "TideKeep$Reader") (x := ⟨"TideKeep$Reader", "isDigit", "(I)Z"⟩) 1 hts (lw_meth q582) rfl rfl rfl (by decide +kernel) ⟨(Nat.le_of_ble_eq_true rfl), (Nat.le_of_ble_eq_true rfl)⟩ (hts _ q579) (hts _ q1995) (va_Decl.of (x := ⟨"TideKeep$Reader", "isDigit", "(I)Z"⟩) (hts _ q581) (hts _ q582)) (tk_selP (hts _ q567) rfl (by decide) (hE.2.1.use q580 rfl rfl) (hts _ q581)) (hts _ q581) (hts _ q102)) ⟨tk_blind, va_recv hK hP (ci := 6) (q0 := 0) rfl rfl, fun U hU hW => ⟨rfl, tk_mk hP hD hS hA hE hR hX [] [] rfl rfl rfl rfl U hU hW⟩⟩ rfl rfl hl.1 rfl (lv_room (Nat.le_of_ble_eq_true rfl)) dX7_goOn_156 ⟨(Nat.le_of_ble_eq_true rfl), (Nat.le_of_ble_eq_true rfl)⟩) hS (fun q _ h => (va_free hD hS hA [] rfl) q h) (va_free hD hS hA [] rfl) (fun zr zu zt H1 zl zht zvm zw zB zz zk zS => ?_)
        obtain ⟨hP, hD⟩ := tk_join hP hD zk [] rfl rfl (va_free hD hS hA [] rfl) (zht ▸ zB.1) zB.2 (Nat.le_of_ble_eq_true rfl)
        have hS := zS
        have zw := Eq.symm zw
        subst zw
        generalize H1 = H at hP hS ⊢
        have hP : va_P D tkCl [(h0, .inr (6, oX8 (tu (tu (tu (tu (tu i0 0 size) 1 sort) 2 v_at) 3 v_to) 4 v_value) (tuv (tuv v0 6 (.ref (r0 10))) 10 (.ref (r0 10)))))] H := hP
        have hD : va_D A [(h0, .inr (6, oX8 (tu (tu (tu (tu (tu i0 0 size) 1 sort) 2 v_at) 3 v_to) 4 v_value) (tuv (tuv v0 6 (.ref (r0 10))) 10 (.ref (r0 10)))))] := hD
        refine lv_if_eq (tgt := 215) hx hb dX7_goOn_159 (by decide) (fun c18 => ?_) (fun c18 => ?_)
        · have hF := tk_kt hF c18
          refine lv_aload_n hx hb dX7_goOn_215 rfl (lv_at hl 0 rfl) ?_
          refine lv_aload_n hx hb dX7_goOn_216 rfl (lv_at hl 0 rfl) ?_
          refine va_get (D := D) (ci := 6) (v := .int v_to) (C := RX8) (T := TX8) (N := 11) hx hb hts in_X8 hown hK hP 0 rfl rfl 3 (by decide) (hts _ q605) (fun _ h9 => h9) rfl dX7_goOn_217 ?_
          refine lv_iload_n hx hb dX7_goOn_220 rfl (lv_at hl 1 rfl) ?_
          refine lv_isub hx hb dX7_goOn_221 ?_
          refine lv_iconst (v := 3) hx hb dX7_goOn_222 (by decide) ?_
          refine lv_icmp_le (tgt := 230) hx hb dX7_goOn_223 (by decide) (fun c19 => ?_) (fun c19 => ?_)
          · have hF := tk_kt hF c19
            refine lv_iconst (v := 2) hx hb dX7_goOn_230 (by decide) ?_
            exact ih231 2 sort v_at v_to v_value _ _ _ hF hP hD hS (lv_sub hl [] rfl)
          · have hF := tk_kf hF c19
            refine lv_iconst (v := 4) hx hb dX7_goOn_226 (by decide) ?_
            refine lv_goto (tgt := 231) hx hb dX7_goOn_227 (by decide) ?_
            exact ih231 4 sort v_at v_to v_value _ _ _ hF hP hD hS (lv_sub hl [] rfl)
        · have hF := tk_kf hF c18
          refine lv_aload_n hx hb dX7_goOn_162 rfl (lv_at hl 0 rfl) ?_
          refine lv_aload_n hx hb dX7_goOn_163 rfl (lv_at hl 0 rfl) ?_
          refine va_get (D := D) (ci := 6) (v := .int v_to) (C := RX8) (T := TX8) (N := 11) hx hb hts in_X8 hown hK hP 0 rfl rfl 3 (by decide) (hts _ q605) (fun _ h9 => h9) rfl dX7_goOn_164 ?_
          refine lv_iload_n hx hb dX7_goOn_167 rfl (lv_at hl 1 rfl) ?_
          refine lv_isub hx hb dX7_goOn_168 ?_
          refine lv_iconst (v := 3) hx hb dX7_goOn_169 (by decide) ?_
          refine lv_icmp_ge (tgt := 195) hx hb dX7_goOn_170 (by decide) (fun c20 => ?_) (fun c20 => ?_)
          · have hF := tk_kt hF c20
            refine lv_aload_n hx hb dX7_goOn_195 rfl (lv_at hl 0 rfl) ?_
            refine va_get (D := D) (ci := 6) (v := .int v_value) (C := RX8) (T := TX8) (N := 11) hx hb hts in_X8 hown hK hP 0 rfl rfl 4 (by decide) (hts _ q606) (fun _ h9 => h9) rfl dX7_goOn_196 ?_
            exact ih199 x1 v_value sort v_at v_to v_value _ _ _ hF hP hD hS (lv_sub hl [0, 1] rfl)
          · have hF := tk_kf hF c20
            refine lv_bipush (v := 10) hx hb dX7_goOn_173 (by decide) ?_
            refine lv_aload_n hx hb dX7_goOn_175 rfl (lv_at hl 0 rfl) ?_
            refine va_get (D := D) (ci := 6) (v := .int v_value) (C := RX8) (T := TX8) (N := 11) hx hb hts in_X8 hown hK hP 0 rfl rfl 4 (by decide) (hts _ q606) (fun _ h9 => h9) rfl dX7_goOn_176 ?_
            refine lv_imul hx hb dX7_goOn_179 ?_
            refine lv_aload_n hx hb dX7_goOn_180 rfl (lv_at hl 0 rfl) ?_
            refine lv_aload_n hx hb dX7_goOn_181 rfl (lv_at hl 0 rfl) ?_
            refine va_get (D := D) (ci := 6) (v := .int v_to) (C := RX8) (T := TX8) (N := 11) hx hb hts in_X8 hown hK hP 0 rfl rfl 3 (by decide) (hts _ q605) (fun _ h9 => h9) rfl dX7_goOn_182 ?_
            obtain ⟨u21, hGu21, hF⟩ := tk_kb hF
            refine va_calli (va_runU (As := [.int v_to]) (rest := [.int (10 * v_value), .ref h0]) ⟨hx, hb, hml, hown, hts⟩ (mX7_see_X8 (l := l) (D := D) (ar := ar) (ad := ad) (xs := xs) (sz := H.size) (h0 := h0) (r0 := r0) (i0 := (tu (tu (tu (tu (tu i0 0 size) 1 sort) 2 v_at) 3 v_to) 4 v_value)) (v0 := (tuv (tuv v0 6 (.ref (r0 10))) 10 (.ref (r0 10)))) (r1 := r1) (i1 := i1) (size := size) (tape := tape) (p0 := v_to) (hF := hGu21)) (tk_cwP (C := "TideKeep$BeachReader") (owner := "TideKeep$Reader") (x := ⟨"TideKeep$Reader", "see", "(I)I"⟩) 1 hts (lw_meth q574) rfl rfl rfl (by decide +kernel) ⟨(Nat.le_of_ble_eq_true rfl), (Nat.le_of_ble_eq_true rfl)⟩ (hts _ q571) (hts _ q1993) (va_Decl.of (x := ⟨"TideKeep$Reader", "see", "(I)I"⟩) (hts _ q573) (hts _ q574)) (tk_selP (hts _ q567) rfl (by decide) (hE.2.1.use q572 rfl rfl) (hts _ q573)) (hts _ q573) (hts _ q102)) ⟨tk_blind, va_recv hK hP (ci := 6) (q0 := 0) rfl rfl, fun U hU hW => ⟨rfl, tk_mk hP hD hS hA hE hR hX [] [0, 1, 2] rfl rfl rfl rfl U hU hW⟩⟩ rfl rfl hl.1 rfl (lv_room (Nat.le_of_ble_eq_true rfl)) dX7_goOn_185 ⟨(Nat.le_of_ble_eq_true rfl), (Nat.le_of_ble_eq_true rfl)⟩) hS (fun q _ h => (va_free hD hS hA [] rfl) q h) (va_free hD hS hA [] rfl) (fun zr zu zt H1 zl zht zvm zw zB zz zk zS => ?_)
            obtain ⟨hP, hD⟩ := tk_join hP hD zk [] rfl rfl (va_free hD hS hA [] rfl) (zht ▸ zB.1) zB.2 (Nat.le_of_ble_eq_true rfl)
            have hS := zS
            have zw := Eq.symm zw
            subst zw
            generalize H1 = H at hP hS ⊢
            have hP : va_P D tkCl [(h0, .inr (6, oX8 (tu (tu (tu (tu (tu i0 0 size) 1 sort) 2 v_at) 3 v_to) 4 v_value) (tuv (tuv v0 6 (.ref (r0 10))) 10 (.ref (r0 10)))))] H := hP
            have hD : va_D A [(h0, .inr (6, oX8 (tu (tu (tu (tu (tu i0 0 size) 1 sort) 2 v_at) 3 v_to) 4 v_value) (tuv (tuv v0 6 (.ref (r0 10))) 10 (.ref (r0 10)))))] := hD
            refine lv_iadd hx hb dX7_goOn_188 ?_
            refine lv_bipush (v := 48) hx hb dX7_goOn_189 (by decide) ?_
            refine lv_isub hx hb dX7_goOn_191 ?_
            refine lv_goto (tgt := 199) hx hb dX7_goOn_192 (by decide) ?_
            exact ih199 x1 (((10 * v_value) + u21) - 48) sort v_at v_to v_value _ _ _ hF hP hD hS (lv_sub hl [0, 1] rfl)
      · intro x1 s1 sort v_at v_to v_value H locs ls hF hP hD hS hl
        have hF : tk_k (stX7_goOn_X8 size tape) n (bX7_goOn_X8_5 size tape x1 s1 sort v_at v_to v_value) = some o := hF
        unfold bX7_goOn_X8_5 at hF
        refine tk_put (D := D) (ci := 6) (v := .int s1) (ty := .int) (C := RX8) (T := TX8) (N := 11) hx hb hts in_X8 tyX8 tyX8_ok nmdX8 hown hK hP hD hS 0 rfl rfl 4 (by decide) (hts _ q606) (fun _ h9 => h9) rfl (by decide +kernel) rfl rfl (Nat.le_of_ble_eq_true rfl) dX7_goOn_199 (fun H locs hP hD hS => ?_)
        have hP : va_P D tkCl [(h0, .inr (6, oX8 (tu (tu (tu (tu (tu i0 0 size) 1 sort) 2 v_at) 3 v_to) 4 s1) (tuv (tuv v0 6 (.ref (r0 10))) 10 (.ref (r0 10)))))] H := hP
        have hD : va_D A [(h0, .inr (6, oX8 (tu (tu (tu (tu (tu i0 0 size) 1 sort) 2 v_at) 3 v_to) 4 s1) (tuv (tuv v0 6 (.ref (r0 10))) 10 (.ref (r0 10)))))] := hD
        refine lv_aload_n hx hb dX7_goOn_202 rfl (lv_at hl 0 rfl) ?_
        refine lv_dup hx hb dX7_goOn_203 rfl ?_
        refine va_get (D := D) (ci := 6) (v := .int v_to) (C := RX8) (T := TX8) (N := 11) hx hb hts in_X8 hown hK hP 0 rfl rfl 3 (by decide) (hts _ q605) (fun _ h9 => h9) rfl dX7_goOn_204 ?_
        refine lv_iconst (v := 1) hx hb dX7_goOn_207 (by decide) ?_
        refine lv_iadd hx hb dX7_goOn_208 ?_
        refine tk_put (D := D) (ci := 6) (v := .int (v_to + 1)) (ty := .int) (C := RX8) (T := TX8) (N := 11) hx hb hts in_X8 tyX8 tyX8_ok nmdX8 hown hK hP hD hS 0 rfl rfl 3 (by decide) (hts _ q605) (fun _ h9 => h9) rfl (by decide +kernel) rfl rfl (Nat.le_of_ble_eq_true rfl) dX7_goOn_209 (fun H locs hP hD hS => ?_)
        have hP : va_P D tkCl [(h0, .inr (6, oX8 (tu (tu (tu (tu (tu i0 0 size) 1 sort) 2 v_at) 3 (v_to + 1)) 4 s1) (tuv (tuv v0 6 (.ref (r0 10))) 10 (.ref (r0 10)))))] H := hP
        have hD : va_D A [(h0, .inr (6, oX8 (tu (tu (tu (tu (tu i0 0 size) 1 sort) 2 v_at) 3 (v_to + 1)) 4 s1) (tuv (tuv v0 6 (.ref (r0 10))) 10 (.ref (r0 10)))))] := hD
        refine lv_goto (tgt := 147) hx hb dX7_goOn_212 (by decide) ?_
        exact ih147 x1 sort v_at (v_to + 1) s1 _ _ _ hF hP hD hS (lv_sub hl [0, 1] rfl)
      · intro s1 sort v_at v_to v_value H locs ls hF hP hD hS hl
        have hF : tk_k (stX7_goOn_X8 size tape) n (bX7_goOn_X8_6 size tape s1 sort v_at v_to v_value) = some o := hF
        unfold bX7_goOn_X8_6 at hF
        refine tk_put (D := D) (ci := 6) (v := .int s1) (ty := .int) (C := RX8) (T := TX8) (N := 11) hx hb hts in_X8 tyX8 tyX8_ok nmdX8 hown hK hP hD hS 0 rfl rfl 1 (by decide) (hts _ q603) (fun _ h9 => h9) rfl (by decide +kernel) rfl rfl (Nat.le_of_ble_eq_true rfl) dX7_goOn_231 (fun H locs hP hD hS => ?_)
        have hP : va_P D tkCl [(h0, .inr (6, oX8 (tu (tu (tu (tu (tu i0 0 size) 1 s1) 2 v_at) 3 v_to) 4 v_value) (tuv (tuv v0 6 (.ref (r0 10))) 10 (.ref (r0 10)))))] H := hP
        have hD : va_D A [(h0, .inr (6, oX8 (tu (tu (tu (tu (tu i0 0 size) 1 s1) 2 v_at) 3 v_to) 4 v_value) (tuv (tuv v0 6 (.ref (r0 10))) 10 (.ref (r0 10)))))] := hD
        refine lv_goto (tgt := 252) hx hb dX7_goOn_234 (by decide) ?_
        have eo := tk_kr hF
        subst eo
        exact W.vret hx hb hr (fun t ht hW => ⟨⟨(), rfl, trivial, tk_pst ht hP hD⟩, hS.F ht⟩) hS.2.2 dX7_goOn_252
      · intro s1 sort v_at v_to v_value H locs ls hF hP hD hS hl
        have hF : tk_k (stX7_goOn_X8 size tape) n (bX7_goOn_X8_7 size tape s1 sort v_at v_to v_value) = some o := hF
        unfold bX7_goOn_X8_7 at hF
        refine tk_put (D := D) (ci := 6) (v := .int s1) (ty := .int) (C := RX8) (T := TX8) (N := 11) hx hb hts in_X8 tyX8 tyX8_ok nmdX8 hown hK hP hD hS 0 rfl rfl 1 (by decide) (hts _ q603) (fun _ h9 => h9) rfl (by decide +kernel) rfl rfl (Nat.le_of_ble_eq_true rfl) dX7_goOn_249 (fun H locs hP hD hS => ?_)
        have hP : va_P D tkCl [(h0, .inr (6, oX8 (tu (tu (tu (tu (tu i0 0 size) 1 s1) 2 v_at) 3 v_to) 4 v_value) (tuv (tuv v0 6 (.ref (r0 10))) 10 (.ref (r0 10)))))] H := hP
        have hD : va_D A [(h0, .inr (6, oX8 (tu (tu (tu (tu (tu i0 0 size) 1 s1) 2 v_at) 3 v_to) 4 v_value) (tuv (tuv v0 6 (.ref (r0 10))) 10 (.ref (r0 10)))))] := hD
        have eo := tk_kr hF
        subst eo
        exact W.vret hx hb hr (fun t ht hW => ⟨⟨(), rfl, trivial, tk_pst ht hP hD⟩, hS.F ht⟩) hS.2.2 dX7_goOn_252
  obtain ⟨ih5, ih78, ih123, ih147, ih199, ih231, ih249⟩ := key n0
  clear key
  unfold bX7_goOn_X8_0 at hF
  have hF : tk_k (stX7_goOn_X8 size tape) n0 _ = some o := hF
  refine lv_aload_n hx hb dX7_goOn_0 rfl (lv_at hl 0 rfl) ?_
  refine va_get (D := D) (ci := 6) (v := .int v_to) (C := RX8) (T := TX8) (N := 11) hx hb hts in_X8 hown hK hP 0 rfl rfl 3 (by decide) (hts _ q605) (fun _ h9 => h9) rfl dX7_goOn_1 ?_
  refine lv_istore_n (lv' := [(1, .int v_to), (0, .ref h0)]) hx hb dX7_goOn_4 rfl hl (Nat.le_of_ble_eq_true rfl) rfl (fun ls hl => ?_)
  exact ih5 v_to sort v_at v_to v_value _ _ _ hF hP hD hS (lv_sub hl [1, 0] rfl)
set_option maxHeartbeats 4000000 in
theorem mX7_ask_X8 (l : Launch) (D : va_G) (ar : Nat → ClassId) (ad : Nat → Nat → Nat) (xs : va_W) (sz : Nat) (h0 : Nat) (i0 : Nat → Int32) (v0 : Nat → Value) (r0 r1 : Nat → Nat) (i1 i2 : Nat → Int32) (v2 : Nat → Value) (v_at p0 p1 kind place : Int32) (o : (Int32 × Int32) ⊕ (Int32 × Int32)) (hF : fX7_ask_X8 v_at p0 p1 kind place = some o) : tx_Met l yX7_ask (ws_ yX7_ask cX7_ask 3 none) ({ frames := 1, cells := 0, slots := 0, locals := 22 }) (va_Pc [.ref h0, .int p0, .int p1] (tk_Pre D ar ad [((r1 0), .inr (1, oX1 (tu (tu i2 6 kind) 7 place) v2))] [(h0, .inr (6, oX8 (tu i0 2 v_at) (tuv (tuv v0 6 (.ref (r0 10))) 10 (.ref (r0 10))))), ((r0 10), .inr (0, oX0 r1 i1))] xs sz)) (va_Qv (fun z : Int32 × Int32 => o = .inl z) (fun z t => tk_Post D (va_A [((r1 0), .inr (1, oX1 (tu (tu i2 6 kind) 7 place) v2))] sz) [((r1 0), .inr (1, oX1 (tu (tu i2 6 z.1) 7 z.2) v2))] t) (va_A [((r1 0), .inr (1, oX1 (tu (tu i2 6 kind) 7 place) v2))] sz)) (tx_X (fun z : Int32 × Int32 => o = .inr z) (fun q9 E9 z t => q9 = (r1 0) ∧ E9 = "TideKeep$Wrong" ∧ tk_Post D (va_A [((r1 0), .inr (1, oX1 (tu (tu i2 6 kind) 7 place) v2))] sz) [((r1 0), .inr (1, oX1 (tu (tu i2 6 z.1) 7 z.2) v2))] t) (va_A [((r1 0), .inr (1, oX1 (tu (tu i2 6 kind) 7 place) v2))] sz)) 0 0 (va_A [((r1 0), .inr (1, oX1 (tu (tu i2 6 kind) 7 place) v2))] sz) := by
  refine tx_ofW (cc := cX7_ask) (maxL := 3) (ret := none) (by decide) rfl ?_
  intro p e s m args below meth c s₁ B hml htab hv
  obtain ⟨rfl, hsz, hP, hD0, hR, hX, hE⟩ := hv
  have hx := B.exec
  have hb := B.bytes
  have hr := B.returns
  have hts := atoms_spec (ws := (ws_ yX7_ask cX7_ask 3 none)) B.pre
  have hts : ∀ w ∈ lw_all, w.before _ s = true := fun w h => hts w (List.mem_cons_of_mem _ h)
  have hown : s.vm.findClass RX7 = some m.cls := findClass_of_methodNamed B.named
  have hlocks := B.notSynchronized
  subst hsz
  have hD := hD0.self (sz := s.heap.size)
  generalize hAe : va_A [((r1 0), .inr (1, oX1 (tu (tu i2 6 kind) 7 place) v2))] s.heap.size = A at hD hR hX hE ⊢
  have hA : ∀ q : Nat, s.heap.size ≤ q → A q := fun q h => by rw [← hAe]; exact Or.inr h
  have hS : va_S A s.heap s.heap [] := va_S.rf
  have hK := hE.1
  have hl := lv_entry ([.ref h0, .int p0, .int p1]) (n := 3) (Nat.le_of_ble_eq_true rfl)
  rw [lg_entry_eq]
  generalize (lg_sl ([.ref h0, .int p0, .int p1]) ++ List.replicate (3 - (lg_sl ([.ref h0, .int p0, .int p1])).length) Slot.unset).toArray = ls at hl ⊢
  have hl : lv_has ls 3 [(0, .ref h0), (1, .int p0), (2, .int p1)] := hl
  have hP : va_P D tkCl [((r1 0), .inr (1, oX1 (tu (tu i2 6 kind) 7 place) v2))] s.heap := hP
  unfold fX7_ask_X8 at hF
  refine lv_iload_n hx hb dX7_ask_0 rfl (lv_at hl 1 rfl) ?_
  refine lv_if_ne (tgt := 20) hx hb dX7_ask_1 (by decide) (fun c1 => ?_) (fun c1 => ?_)
  · have hF := tk_pf hF c1
    have eo := tk_pr hF
    subst eo
    refine tx_ret ?_
    exact W.vret hx hb hr (fun t ht hW => ⟨⟨_, rfl, rfl, tk_pst ht hP hD⟩, hS.F ht⟩) hS.2.2 dX7_ask_20
  · have hF := tk_pt hF c1
    refine lv_aload_n hx hb dX7_ask_4 rfl (lv_at hl 0 rfl) ?_
    refine va_get (D := D) (ci := 6) (v := .ref (r0 10)) (C := RX8) (T := TX8) (N := 11) hx hb hts in_X8 hown hK (hR.at hS) 0 rfl rfl 6 (by decide) (hts _ q609) (fun _ h9 => h9) rfl dX7_ask_5 ?_
    refine va_getN (D := D) (ci := 0) (v := .ref (r1 0)) (C := RX0) (T := TX0) (N := 25) hx hb hts in_X0 hown hK (hR.at hS) 1 rfl rfl 0 (by decide) (hE.2.1.use q450 rfl rfl) (fun _ h9 => h9) rfl dX7_ask_8 ?_
    refine lv_iload_n hx hb dX7_ask_11 rfl (lv_at hl 2 rfl) ?_
    refine lv_aload_n hx hb dX7_ask_12 rfl (lv_at hl 0 rfl) ?_
    refine va_get (D := D) (ci := 6) (v := .int v_at) (C := RX8) (T := TX8) (N := 11) hx hb hts in_X8 hown hK (hR.at hS) 0 rfl rfl 2 (by decide) (hts _ q604) (fun _ h9 => h9) rfl dX7_ask_13 ?_
    obtain ⟨u2, hGu2, hF⟩ := tk_pb hF
    refine va_callr (va_runV (As := [.int p1, .int v_at]) (rest := []) ⟨hx, hb, hml, hown, hts⟩ (mX1_by (l := l) (D := D) (ar := ar) (ad := ad) (xs := xs) (sz := s.heap.size) (h0 := (r1 0)) (i0 := (tu (tu i2 6 kind) 7 place)) (v0 := v2) (kind := kind) (place := place) (p0 := p1) (p1 := v_at) (hF := hGu2)) (cwV 2 hts (lw_V q714 q715 q716 q91 q717) rfl rfl rfl (by decide +kernel) ⟨(Nat.le_of_ble_eq_true rfl), (Nat.le_of_ble_eq_true rfl)⟩) ⟨tk_blind, va_recv hK hP (ci := 1) (q0 := 0) rfl rfl, fun U hU hW => ⟨rfl, tk_mk hP hD hS hA hE hR hX [0] [] rfl rfl rfl rfl U hU hW⟩⟩ rfl rfl hl.1 rfl (lv_room (Nat.le_of_ble_eq_true rfl)) dX7_ask_16 ⟨(Nat.le_of_ble_eq_true rfl), (Nat.le_of_ble_eq_true rfl)⟩) hS (fun q _ h => (va_free hD hS hA [0] rfl) q h) (va_free hD hS hA [0] rfl) (fun zu zr zt H1 zl zht zvm zw zB zz zk zS => ?_)
    obtain ⟨zr9, zB⟩ := zB
    have zr9 := Eq.symm zr9
    subst zr9
    obtain ⟨hP, hD⟩ := tk_join hP hD zk [0] rfl rfl (va_free hD hS hA [0] rfl) (zht ▸ zB.1) zB.2 (Nat.le_of_ble_eq_true rfl)
    have hS := zS
    generalize H1 = H at hP hS ⊢
    have hP : va_P D tkCl [((r1 0), .inr (1, oX1 (tu (tu i2 6 u2.1) 7 u2.2) v2))] H := hP
    have hD : va_D A [((r1 0), .inr (1, oX1 (tu (tu i2 6 u2.1) 7 u2.2) v2))] := hD
    refine tx_athrow hx hb dX7_ask_19 ?_
    obtain ⟨ce, hce, hcv, hcl⟩ := tk_cell hK hP 0 rfl rfl
    have eo := tk_pr hF
    subst eo
    exact tx_out (fun x9 hx9 => (htab x9 hx9).elim) hlocks hce hcv hcl (fun t ht hW => ⟨_, rfl, ⟨rfl, rfl, tk_pst ht hP hD⟩, hS.F ht⟩) hS.2.2 (Nat.le_of_ble_eq_true rfl) (Nat.le_of_ble_eq_true rfl)
set_option maxHeartbeats 4000000 in
theorem mX7_is_X8 (l : Launch) (D : va_G) (ar : Nat → ClassId) (ad : Nat → Nat → Nat) (xs : va_W) (sz : Nat) (h0 : Nat) (i0 : Nat → Int32) (v0 : Nat → Value) (r0 r1 : Nat → Nat) (i1 : Nat → Int32) (size sort v_at v_to : Int32) (tape : Nat → Int32) (p0 : Nat) (hk_p0 : p0 < 43) (o : Int32) (hF : fX7_is_X8 size sort v_at v_to tape p0 = some o) : Met l yX7_is (ws_ yX7_is cX7_is 3 (some .boolean)) ({ frames := 4, cells := 0, slots := 0, locals := 85 }) (va_Pc [.ref h0, .ref (ad 0 p0)] (tk_Pre D ar ad [] [(h0, .inr (6, oX8 (tu (tu (tu (tu i0 0 size) 1 sort) 2 v_at) 3 v_to) (tuv (tuv v0 6 (.ref (r0 10))) 10 (.ref (r0 10))))), ((r0 10), .inr (0, oX0 r1 i1)), ((r1 1), .inl (ar 1, 900, .inl tape))] xs sz)) (va_Qi (fun (zr : Int32) (_ : Unit) => zr = o) (fun _ t => tk_Post D (va_A [] sz) [] t) (va_A [] sz)) 0 0 (va_A [] sz) := by
  refine Met.ofW (cc := cX7_is) (maxL := 3) (ret := (some .boolean)) (by decide) rfl ?_
  intro p e s m args below meth c s₁ B hml hv
  obtain ⟨rfl, hsz, hP, hD0, hR, hX, hE⟩ := hv
  have hx := B.exec
  have hb := B.bytes
  have hr := B.returns
  have hts := atoms_spec (ws := (ws_ yX7_is cX7_is 3 (some .boolean))) B.pre
  have hts : ∀ w ∈ lw_all, w.before _ s = true := fun w h => hts w (List.mem_cons_of_mem _ h)
  have hown : s.vm.findClass RX7 = some m.cls := findClass_of_methodNamed B.named
  have hlocks := B.notSynchronized
  subst hsz
  have hD := hD0.self (sz := s.heap.size)
  generalize hAe : va_A [] s.heap.size = A at hD hR hX hE ⊢
  have hA : ∀ q : Nat, s.heap.size ≤ q → A q := fun q h => by rw [← hAe]; exact Or.inr h
  have hS : va_S A s.heap s.heap [] := va_S.rf
  have hK := hE.1
  have hl := lv_entry ([.ref h0, .ref (ad 0 p0)]) (n := 3) (Nat.le_of_ble_eq_true rfl)
  rw [lg_entry_eq]
  generalize (lg_sl ([.ref h0, .ref (ad 0 p0)]) ++ List.replicate (3 - (lg_sl ([.ref h0, .ref (ad 0 p0)])).length) Slot.unset).toArray = ls at hl ⊢
  have hl : lv_has ls 3 [(0, .ref h0), (1, .ref (ad 0 p0))] := hl
  have hP : va_P D tkCl [] s.heap := hP
  obtain ⟨n0, hF⟩ : ∃ n, tk_k (stX7_is_X8 size sort v_at v_to tape p0) n (bX7_is_X8_0 size sort v_at v_to tape p0) = some o := tk_fin_it hF
  have key : ∀ n : Nat, (∀ (x2 : Int32) (H : Heap) (locs : List Loc) (ls : Array Slot), tk_it (stX7_is_X8 size sort v_at v_to tape p0) n (1, x2) = some o → va_P D tkCl [] H → va_D A [] → va_S A s.heap H locs → lv_has ls 3 [(0, .ref h0), (1, .ref (ad 0 p0)), (2, .int x2)] → W p l e (headSpec (ws_ yX7_is cX7_is 3 (some .boolean)) ({ frames := 4, cells := 0, slots := 0, locals := 85 })).room s m ([.ref h0, .ref (ad 0 p0)] : List Value).toArray below meth c H locs 0 0 (MQ below (va_Qi (fun (zr : Int32) (_ : Unit) => zr = o) (fun _ t => tk_Post D A [] t) A) ([.ref h0, .ref (ad 0 p0)] : List Value).toArray s 0 0 A) (F0 m 28 ls [])) := by
    intro n
    induction n with
    | zero => exact (by intros; rename_i hF _ _ _ _; cases hF)
    | succ n ih =>
      have ih28 := ih
      intro x2 H locs ls hF hP hD hS hl
      have hF : tk_k (stX7_is_X8 size sort v_at v_to tape p0) n (bX7_is_X8_1 size sort v_at v_to tape p0 x2) = some o := hF
      unfold bX7_is_X8_1 at hF
      refine lv_iload_n hx hb dX7_is_28 rfl (lv_at hl 2 rfl) ?_
      refine lv_aload_n hx hb dX7_is_29 rfl (lv_at hl 1 rfl) ?_
      refine va_calli (va_runV (As := []) (rest := [.int x2]) ⟨hx, hb, hml, hown, hts⟩ (mJ7_length (l := l) (D := D) (ar := ar) (ad := ad) (xs := xs) (sz := H.size) (k := p0) (hk := hk_p0)) (cwV 0 hts (lw_V q656 q657 q658 q104 q659) rfl rfl rfl (by decide +kernel) ⟨(Nat.le_of_ble_eq_true rfl), (Nat.le_of_ble_eq_true rfl)⟩) ⟨tk_blind, tk_recvO (let ⟨_, hq⟩ := tk_str_at hk_p0; (hE.2.2.2.1 _ _ hq).2.1) hS, fun U hU hW => ⟨rfl, tk_mk hP hD hS hA hE hR hX [] [] rfl rfl rfl rfl U hU hW⟩⟩ rfl rfl hl.1 rfl (lv_room (Nat.le_of_ble_eq_true rfl)) dX7_is_30 ⟨(Nat.le_of_ble_eq_true rfl), (Nat.le_of_ble_eq_true rfl)⟩) hS (fun q _ h => (va_free hD hS hA [] rfl) q h) (va_free hD hS hA [] rfl) (fun zr zu zt H1 zl zht zvm zw zB zz zk zS => ?_)
      have zw := Eq.symm zw
      subst zw
      obtain ⟨hP, hD⟩ := tk_join hP hD zk [] rfl rfl (va_free hD hS hA [] rfl) (zht ▸ zB.1) zB.2 (Nat.le_of_ble_eq_true rfl)
      have hS := zS
      generalize H1 = H at hP hS ⊢
      have hP : va_P D tkCl [] H := hP
      have hD : va_D A [] := hD
      refine lv_icmp_ge (tgt := 62) hx hb dX7_is_33 (by decide) (fun c3 => ?_) (fun c3 => ?_)
      · have hF := tk_kt hF c3
        refine lv_iconst (v := 1) hx hb dX7_is_62 (by decide) ?_
        have eo := tk_kr hF
        subst eo
        exact W.zret (v := 1) hx hb hr (by decide) (fun t ht hW => ⟨⟨_, (), rfl, rfl, tk_pst ht hP hD⟩, hS.F ht⟩) hS.2.2 dX7_is_63
      · have hF := tk_kf hF c3
        refine lv_aload_n hx hb dX7_is_36 rfl (lv_at hl 0 rfl) ?_
        refine lv_aload_n hx hb dX7_is_37 rfl (lv_at hl 0 rfl) ?_
        refine va_get (D := D) (ci := 6) (v := .int v_at) (C := RX8) (T := TX8) (N := 11) hx hb hts in_X8 hown hK (hR.at hS) 0 rfl rfl 2 (by decide) (hts _ q604) (fun _ h9 => h9) rfl dX7_is_38 ?_
        refine lv_iload_n hx hb dX7_is_41 rfl (lv_at hl 2 rfl) ?_
        refine lv_iadd hx hb dX7_is_42 ?_
        obtain ⟨u4, hGu4, hF⟩ := tk_kb hF
        refine va_calli (va_runU (As := [.int (v_at + x2)]) (rest := []) ⟨hx, hb, hml, hown, hts⟩ (mX7_see_X8 (l := l) (D := D) (ar := ar) (ad := ad) (xs := xs) (sz := H.size) (h0 := h0) (r0 := r0) (i0 := (tu (tu (tu (tu i0 0 size) 1 sort) 2 v_at) 3 v_to)) (v0 := (tuv (tuv v0 6 (.ref (r0 10))) 10 (.ref (r0 10)))) (r1 := r1) (i1 := i1) (size := size) (tape := tape) (p0 := v_at + x2) (hF := hGu4)) (tk_cwP (C := "TideKeep$BeachReader") (owner := "TideKeep$Reader") (x := ⟨"TideKeep$Reader", "see", "(I)I"⟩) 1 hts (lw_meth q574) rfl rfl rfl (by decide +kernel) ⟨(Nat.le_of_ble_eq_true rfl), (Nat.le_of_ble_eq_true rfl)⟩ (hts _ q571) (hts _ q1993) (va_Decl.of (x := ⟨"TideKeep$Reader", "see", "(I)I"⟩) (hts _ q573) (hts _ q574)) (tk_selP (hts _ q567) rfl (by decide) (hE.2.1.use q572 rfl rfl) (hts _ q573)) (hts _ q573) (hts _ q102)) ⟨tk_blind, va_recv hK (hR.at hS) (ci := 6) (q0 := 0) rfl rfl, fun U hU hW => ⟨rfl, tk_mk hP hD hS hA hE hR hX [] [0, 1, 2] rfl rfl rfl rfl U hU hW⟩⟩ rfl rfl hl.1 rfl (lv_room (Nat.le_of_ble_eq_true rfl)) dX7_is_43 ⟨(Nat.le_of_ble_eq_true rfl), (Nat.le_of_ble_eq_true rfl)⟩) hS (fun q _ h => (va_free hD hS hA [] rfl) q h) (va_free hD hS hA [] rfl) (fun zr zu zt H1 zl zht zvm zw zB zz zk zS => ?_)
        obtain ⟨hP, hD⟩ := tk_join hP hD zk [] rfl rfl (va_free hD hS hA [] rfl) (zht ▸ zB.1) zB.2 (Nat.le_of_ble_eq_true rfl)
        have hS := zS
        have zw := Eq.symm zw
        subst zw
        generalize H1 = H at hP hS ⊢
        have hP : va_P D tkCl [] H := hP
        have hD : va_D A [] := hD
        refine lv_aload_n hx hb dX7_is_46 rfl (lv_at hl 1 rfl) ?_
        refine lv_iload_n hx hb dX7_is_47 rfl (lv_at hl 2 rfl) ?_
        obtain ⟨gd5, hF⟩ := tk_kg hF
        refine va_calli (va_runV (As := [.int x2]) (rest := [.int u4]) ⟨hx, hb, hml, hown, hts⟩ (mJ7_charAt (l := l) (D := D) (ar := ar) (ad := ad) (xs := xs) (sz := H.size) (k := p0) (p0 := x2) (hk := hk_p0) (hg := gd5)) (cwV 1 hts (lw_V q666 q667 q668 q104 q669) rfl rfl rfl (by decide +kernel) ⟨(Nat.le_of_ble_eq_true rfl), (Nat.le_of_ble_eq_true rfl)⟩) ⟨tk_blind, tk_recvO (let ⟨_, hq⟩ := tk_str_at hk_p0; (hE.2.2.2.1 _ _ hq).2.1) hS, fun U hU hW => ⟨rfl, tk_mk hP hD hS hA hE hR hX [] [] rfl rfl rfl rfl U hU hW⟩⟩ rfl rfl hl.1 rfl (lv_room (Nat.le_of_ble_eq_true rfl)) dX7_is_48 ⟨(Nat.le_of_ble_eq_true rfl), (Nat.le_of_ble_eq_true rfl)⟩) hS (fun q _ h => (va_free hD hS hA [] rfl) q h) (va_free hD hS hA [] rfl) (fun zr zu zt H1 zl zht zvm zw zB zz zk zS => ?_)
        have zw := Eq.symm zw
        subst zw
        obtain ⟨hP, hD⟩ := tk_join hP hD zk [] rfl rfl (va_free hD hS hA [] rfl) (zht ▸ zB.1) zB.2 (Nat.le_of_ble_eq_true rfl)
        have hS := zS
        generalize H1 = H at hP hS ⊢
        have hP : va_P D tkCl [] H := hP
        have hD : va_D A [] := hD
        refine lv_icmp_eq (tgt := 56) hx hb dX7_is_51 (by decide) (fun c6 => ?_) (fun c6 => ?_)
        · have hF := tk_kt hF c6
          refine lv_iinc (v := x2 + 1) (lv' := [(2, .int (x2 + 1)), (0, .ref h0), (1, .ref (ad 0 p0))]) hx hb dX7_is_56 hl (k := 2) rfl (congrArg (fun z => x2 + z) (show Int32.ofInt 1 = 1 by decide)) (Nat.le_of_ble_eq_true rfl) rfl (fun ls hl => ?_)
          refine lv_goto (tgt := 28) hx hb dX7_is_59 (by decide) ?_
          exact ih28 (x2 + 1) _ _ _ hF hP hD hS (lv_sub hl [1, 2, 0] rfl)
        · have hF := tk_kf hF c6
          refine lv_iconst (v := 0) hx hb dX7_is_54 (by decide) ?_
          have eo := tk_kr hF
          subst eo
          exact W.zret (v := 0) hx hb hr (by decide) (fun t ht hW => ⟨⟨_, (), rfl, rfl, tk_pst ht hP hD⟩, hS.F ht⟩) hS.2.2 dX7_is_55
  have ih28 := key n0
  clear key
  unfold bX7_is_X8_0 at hF
  have hF : tk_k (stX7_is_X8 size sort v_at v_to tape p0) n0 _ = some o := hF
  refine lv_aload_n hx hb dX7_is_0 rfl (lv_at hl 0 rfl) ?_
  refine va_get (D := D) (ci := 6) (v := .int sort) (C := RX8) (T := TX8) (N := 11) hx hb hts in_X8 hown hK (hR.at hS) 0 rfl rfl 1 (by decide) (hts _ q603) (fun _ h9 => h9) rfl dX7_is_1 ?_
  refine lv_iconst (v := 1) hx hb dX7_is_4 (by decide) ?_
  refine lv_icmp_ne (tgt := 24) hx hb dX7_is_5 (by decide) (fun c1 => ?_) (fun c1 => ?_)
  · have hF := tk_kf hF c1
    refine lv_iconst (v := 0) hx hb dX7_is_24 (by decide) ?_
    have eo := tk_kr hF
    subst eo
    exact W.zret (v := 0) hx hb hr (by decide) (fun t ht hW => ⟨⟨_, (), rfl, rfl, tk_pst ht hP hD⟩, hS.F ht⟩) hS.2.2 dX7_is_25
  · have hF := tk_kt hF c1
    refine lv_aload_n hx hb dX7_is_8 rfl (lv_at hl 0 rfl) ?_
    refine va_get (D := D) (ci := 6) (v := .int v_to) (C := RX8) (T := TX8) (N := 11) hx hb hts in_X8 hown hK (hR.at hS) 0 rfl rfl 3 (by decide) (hts _ q605) (fun _ h9 => h9) rfl dX7_is_9 ?_
    refine lv_aload_n hx hb dX7_is_12 rfl (lv_at hl 0 rfl) ?_
    refine va_get (D := D) (ci := 6) (v := .int v_at) (C := RX8) (T := TX8) (N := 11) hx hb hts in_X8 hown hK (hR.at hS) 0 rfl rfl 2 (by decide) (hts _ q604) (fun _ h9 => h9) rfl dX7_is_13 ?_
    refine lv_isub hx hb dX7_is_16 ?_
    refine lv_aload_n hx hb dX7_is_17 rfl (lv_at hl 1 rfl) ?_
    refine va_calli (va_runV (As := []) (rest := [.int (v_to - v_at)]) ⟨hx, hb, hml, hown, hts⟩ (mJ7_length (l := l) (D := D) (ar := ar) (ad := ad) (xs := xs) (sz := s.heap.size) (k := p0) (hk := hk_p0)) (cwV 0 hts (lw_V q656 q657 q658 q104 q659) rfl rfl rfl (by decide +kernel) ⟨(Nat.le_of_ble_eq_true rfl), (Nat.le_of_ble_eq_true rfl)⟩) ⟨tk_blind, tk_recvO (let ⟨_, hq⟩ := tk_str_at hk_p0; (hE.2.2.2.1 _ _ hq).2.1) hS, fun U hU hW => ⟨rfl, tk_mk hP hD hS hA hE hR hX [] [] rfl rfl rfl rfl U hU hW⟩⟩ rfl rfl hl.1 rfl (lv_room (Nat.le_of_ble_eq_true rfl)) dX7_is_18 ⟨(Nat.le_of_ble_eq_true rfl), (Nat.le_of_ble_eq_true rfl)⟩) hS (fun q _ h => (va_free hD hS hA [] rfl) q h) (va_free hD hS hA [] rfl) (fun zr zu zt H1 zl zht zvm zw zB zz zk zS => ?_)
    have zw := Eq.symm zw
    subst zw
    obtain ⟨hP, hD⟩ := tk_join hP hD zk [] rfl rfl (va_free hD hS hA [] rfl) (zht ▸ zB.1) zB.2 (Nat.le_of_ble_eq_true rfl)
    have hS := zS
    generalize H1 = H at hP hS ⊢
    have hP : va_P D tkCl [] H := hP
    have hD : va_D A [] := hD
    refine lv_icmp_eq (tgt := 26) hx hb dX7_is_21 (by decide) (fun c2 => ?_) (fun c2 => ?_)
    · have hF := tk_kt hF c2
      refine lv_iconst (v := 0) hx hb dX7_is_26 (by decide) ?_
      refine lv_istore_n (lv' := [(2, .int 0), (0, .ref h0), (1, .ref (ad 0 p0))]) hx hb dX7_is_27 rfl hl (Nat.le_of_ble_eq_true rfl) rfl (fun ls hl => ?_)
      exact ih28 0 _ _ _ hF hP hD hS (lv_sub hl [1, 2, 0] rfl)
    · have hF := tk_kf hF c2
      refine lv_iconst (v := 0) hx hb dX7_is_24 (by decide) ?_
      have eo := tk_kr hF
      subst eo
      exact W.zret (v := 0) hx hb hr (by decide) (fun t ht hW => ⟨⟨_, (), rfl, rfl, tk_pst ht hP hD⟩, hS.F ht⟩) hS.2.2 dX7_is_25
set_option maxHeartbeats 4000000 in
theorem mX7_begins_X8 (l : Launch) (D : va_G) (ar : Nat → ClassId) (ad : Nat → Nat → Nat) (xs : va_W) (sz : Nat) (h0 : Nat) (i0 : Nat → Int32) (v0 : Nat → Value) (r0 r1 : Nat → Nat) (i1 i2 : Nat → Int32) (v2 : Nat → Value) (size : Int32) (tape : Nat → Int32) (p0 : Nat) (p1 sort v_at v_to v_value told kind place : Int32) (hk_p0 : p0 < 43) (o : (Int32 × Int32 × Int32 × Int32 × Int32 × Int32 × Int32 × Int32) ⊕ (Int32 × Int32 × Int32 × Int32 × Int32 × Int32 × Int32)) (hF : fX7_begins_X8 size tape p0 p1 sort v_at v_to v_value told kind place = some o) : tx_Met l yX7_begins (ws_ yX7_begins cX7_begins 3 (some .boolean)) ({ frames := 5, cells := 0, slots := 0, locals := 107 }) (va_Pc [.ref h0, .ref (ad 0 p0), .int p1] (tk_Pre D ar ad [(h0, .inr (6, oX8 (tu (tu (tu (tu (tu (tu i0 0 size) 1 sort) 2 v_at) 3 v_to) 4 v_value) 5 told) (tuv (tuv v0 6 (.ref (r0 10))) 10 (.ref (r0 10))))), ((r1 0), .inr (1, oX1 (tu (tu i2 6 kind) 7 place) v2))] [((r0 10), .inr (0, oX0 r1 i1)), ((r1 1), .inl (ar 1, 900, .inl tape))] xs sz)) (va_Qi (fun (zr : Int32) (z : Int32 × Int32 × Int32 × Int32 × Int32 × Int32 × Int32 × Int32) => o = .inl z ∧ zr = z.1) (fun z t => tk_Post D (va_A [(h0, .inr (6, oX8 (tu (tu (tu (tu (tu (tu i0 0 size) 1 sort) 2 v_at) 3 v_to) 4 v_value) 5 told) (tuv (tuv v0 6 (.ref (r0 10))) 10 (.ref (r0 10))))), ((r1 0), .inr (1, oX1 (tu (tu i2 6 kind) 7 place) v2))] sz) [(h0, .inr (6, oX8 (tu (tu (tu (tu (tu (tu i0 0 size) 1 z.2.1) 2 z.2.2.1) 3 z.2.2.2.1) 4 z.2.2.2.2.1) 5 z.2.2.2.2.2.1) (tuv (tuv v0 6 (.ref (r0 10))) 10 (.ref (r0 10))))), ((r1 0), .inr (1, oX1 (tu (tu i2 6 z.2.2.2.2.2.2.1) 7 z.2.2.2.2.2.2.2) v2))] t) (va_A [(h0, .inr (6, oX8 (tu (tu (tu (tu (tu (tu i0 0 size) 1 sort) 2 v_at) 3 v_to) 4 v_value) 5 told) (tuv (tuv v0 6 (.ref (r0 10))) 10 (.ref (r0 10))))), ((r1 0), .inr (1, oX1 (tu (tu i2 6 kind) 7 place) v2))] sz)) (tx_X (fun z : Int32 × Int32 × Int32 × Int32 × Int32 × Int32 × Int32 => o = .inr z) (fun q9 E9 z t => q9 = (r1 0) ∧ E9 = "TideKeep$Wrong" ∧ tk_Post D (va_A [(h0, .inr (6, oX8 (tu (tu (tu (tu (tu (tu i0 0 size) 1 sort) 2 v_at) 3 v_to) 4 v_value) 5 told) (tuv (tuv v0 6 (.ref (r0 10))) 10 (.ref (r0 10))))), ((r1 0), .inr (1, oX1 (tu (tu i2 6 kind) 7 place) v2))] sz) [(h0, .inr (6, oX8 (tu (tu (tu (tu (tu (tu i0 0 size) 1 z.1) 2 z.2.1) 3 z.2.2.1) 4 z.2.2.2.1) 5 z.2.2.2.2.1) (tuv (tuv v0 6 (.ref (r0 10))) 10 (.ref (r0 10))))), ((r1 0), .inr (1, oX1 (tu (tu i2 6 z.2.2.2.2.2.1) 7 z.2.2.2.2.2.2) v2))] t) (va_A [(h0, .inr (6, oX8 (tu (tu (tu (tu (tu (tu i0 0 size) 1 sort) 2 v_at) 3 v_to) 4 v_value) 5 told) (tuv (tuv v0 6 (.ref (r0 10))) 10 (.ref (r0 10))))), ((r1 0), .inr (1, oX1 (tu (tu i2 6 kind) 7 place) v2))] sz)) 0 0 (va_A [(h0, .inr (6, oX8 (tu (tu (tu (tu (tu (tu i0 0 size) 1 sort) 2 v_at) 3 v_to) 4 v_value) 5 told) (tuv (tuv v0 6 (.ref (r0 10))) 10 (.ref (r0 10))))), ((r1 0), .inr (1, oX1 (tu (tu i2 6 kind) 7 place) v2))] sz) := by
  refine tx_ofW (cc := cX7_begins) (maxL := 3) (ret := (some .boolean)) (by decide) rfl ?_
  intro p e s m args below meth c s₁ B hml htab hv
  obtain ⟨rfl, hsz, hP, hD0, hR, hX, hE⟩ := hv
  have hx := B.exec
  have hb := B.bytes
  have hr := B.returns
  have hts := atoms_spec (ws := (ws_ yX7_begins cX7_begins 3 (some .boolean))) B.pre
  have hts : ∀ w ∈ lw_all, w.before _ s = true := fun w h => hts w (List.mem_cons_of_mem _ h)
  have hown : s.vm.findClass RX7 = some m.cls := findClass_of_methodNamed B.named
  have hlocks := B.notSynchronized
  subst hsz
  have hD := hD0.self (sz := s.heap.size)
  generalize hAe : va_A [(h0, .inr (6, oX8 (tu (tu (tu (tu (tu (tu i0 0 size) 1 sort) 2 v_at) 3 v_to) 4 v_value) 5 told) (tuv (tuv v0 6 (.ref (r0 10))) 10 (.ref (r0 10))))), ((r1 0), .inr (1, oX1 (tu (tu i2 6 kind) 7 place) v2))] s.heap.size = A at hD hR hX hE ⊢
  have hA : ∀ q : Nat, s.heap.size ≤ q → A q := fun q h => by rw [← hAe]; exact Or.inr h
  have hS : va_S A s.heap s.heap [] := va_S.rf
  have hK := hE.1
  have hl := lv_entry ([.ref h0, .ref (ad 0 p0), .int p1]) (n := 3) (Nat.le_of_ble_eq_true rfl)
  rw [lg_entry_eq]
  generalize (lg_sl ([.ref h0, .ref (ad 0 p0), .int p1]) ++ List.replicate (3 - (lg_sl ([.ref h0, .ref (ad 0 p0), .int p1])).length) Slot.unset).toArray = ls at hl ⊢
  have hl : lv_has ls 3 [(0, .ref h0), (1, .ref (ad 0 p0)), (2, .int p1)] := hl
  have hP : va_P D tkCl [(h0, .inr (6, oX8 (tu (tu (tu (tu (tu (tu i0 0 size) 1 sort) 2 v_at) 3 v_to) 4 v_value) 5 told) (tuv (tuv v0 6 (.ref (r0 10))) 10 (.ref (r0 10))))), ((r1 0), .inr (1, oX1 (tu (tu i2 6 kind) 7 place) v2))] s.heap := hP
  obtain ⟨n0, hF⟩ : ∃ n, tk_k (stX7_begins_X8 size tape p0) n (bX7_begins_X8_0 size tape p0 p1 sort v_at v_to v_value told kind place) = some o := tk_fin_it hF
  have key : ∀ n : Nat, (∀ (x2 s1 sort v_at v_to v_value told kind place : Int32) (H : Heap) (locs : List Loc) (ls : Array Slot), tk_it (stX7_begins_X8 size tape p0) n (1, (x2, s1, sort, v_at, v_to, v_value, told, kind, place)) = some o → va_P D tkCl [(h0, .inr (6, oX8 (tu (tu (tu (tu (tu (tu i0 0 size) 1 sort) 2 v_at) 3 v_to) 4 v_value) 5 told) (tuv (tuv v0 6 (.ref (r0 10))) 10 (.ref (r0 10))))), ((r1 0), .inr (1, oX1 (tu (tu i2 6 kind) 7 place) v2))] H → va_D A [(h0, .inr (6, oX8 (tu (tu (tu (tu (tu (tu i0 0 size) 1 sort) 2 v_at) 3 v_to) 4 v_value) 5 told) (tuv (tuv v0 6 (.ref (r0 10))) 10 (.ref (r0 10))))), ((r1 0), .inr (1, oX1 (tu (tu i2 6 kind) 7 place) v2))] → va_S A s.heap H locs → lv_has ls 3 [(0, .ref h0), (2, .int x2)] → W p l e (headSpec (ws_ yX7_begins cX7_begins 3 (some .boolean)) ({ frames := 5, cells := 0, slots := 0, locals := 107 })).room s m ([.ref h0, .ref (ad 0 p0), .int p1] : List Value).toArray below meth c H locs 0 0 (tx_MQ below (va_Qi (fun (zr : Int32) (z : Int32 × Int32 × Int32 × Int32 × Int32 × Int32 × Int32 × Int32) => o = .inl z ∧ zr = z.1) (fun z t => tk_Post D A [(h0, .inr (6, oX8 (tu (tu (tu (tu (tu (tu i0 0 size) 1 z.2.1) 2 z.2.2.1) 3 z.2.2.2.1) 4 z.2.2.2.2.1) 5 z.2.2.2.2.2.1) (tuv (tuv v0 6 (.ref (r0 10))) 10 (.ref (r0 10))))), ((r1 0), .inr (1, oX1 (tu (tu i2 6 z.2.2.2.2.2.2.1) 7 z.2.2.2.2.2.2.2) v2))] t) A) (tx_X (fun z : Int32 × Int32 × Int32 × Int32 × Int32 × Int32 × Int32 => o = .inr z) (fun q9 E9 z t => q9 = (r1 0) ∧ E9 = "TideKeep$Wrong" ∧ tk_Post D A [(h0, .inr (6, oX8 (tu (tu (tu (tu (tu (tu i0 0 size) 1 z.1) 2 z.2.1) 3 z.2.2.1) 4 z.2.2.2.1) 5 z.2.2.2.2.1) (tuv (tuv v0 6 (.ref (r0 10))) 10 (.ref (r0 10))))), ((r1 0), .inr (1, oX1 (tu (tu i2 6 z.2.2.2.2.2.1) 7 z.2.2.2.2.2.2) v2))] t) A) ([.ref h0, .ref (ad 0 p0), .int p1] : List Value).toArray s 0 0 A) (F0 m 27 ls [.int s1, .ref h0])) := by
    intro n
    induction n with
    | zero => exact (by intros; rename_i hF _ _ _ _; cases hF)
    | succ n ih =>
      have ih27 := ih
      intro x2 s1 sort v_at v_to v_value told kind place H locs ls hF hP hD hS hl
      have hF : tk_k (stX7_begins_X8 size tape p0) n (bX7_begins_X8_1 size tape p0 x2 s1 sort v_at v_to v_value told kind place) = some o := hF
      unfold bX7_begins_X8_1 at hF
      refine lv_iconst (v := 3) hx hb dX7_begins_27 (by decide) ?_
      obtain ⟨u4, hGu4, hF⟩ := tk_kb hF
      refine tx_callv (tx_runU (As := [.int s1, .int 3]) (rest := []) ⟨hx, hb, hml, hown, hts⟩ (mX7_ask_X8 (l := l) (D := D) (ar := ar) (ad := ad) (xs := xs) (sz := H.size) (h0 := h0) (r0 := r0) (i0 := (tu (tu (tu (tu (tu (tu i0 0 size) 1 sort) 2 v_at) 3 v_to) 4 v_value) 5 told)) (v0 := (tuv (tuv v0 6 (.ref (r0 10))) 10 (.ref (r0 10)))) (r1 := r1) (i1 := i1) (i2 := (tu (tu i2 6 kind) 7 place)) (v2 := v2) (v_at := v_at) (kind := kind) (place := place) (p0 := s1) (p1 := 3) (hF := hGu4)) (tk_cwP (C := "TideKeep$BeachReader") (owner := "TideKeep$Reader") (x := ⟨"TideKeep$Reader", "ask", "(ZI)V"⟩) 2 hts (lw_meth q713) rfl rfl rfl (by decide +kernel) ⟨(Nat.le_of_ble_eq_true rfl), (Nat.le_of_ble_eq_true rfl)⟩ (hts _ q725) (hts _ q2000) (va_Decl.of (x := ⟨"TideKeep$Reader", "ask", "(ZI)V"⟩) (hts _ q712) (hts _ q713)) (hts _ q2001) (hts _ q712) (hts _ q102)) ⟨tk_blind, va_recv hK hP (ci := 6) (q0 := 0) rfl rfl, fun U hU hW => ⟨rfl, tk_mk hP hD hS hA hE hR hX [1] [0, 2] rfl rfl rfl rfl U hU hW⟩⟩ rfl rfl hl.1 rfl (lv_room (Nat.le_of_ble_eq_true rfl)) dX7_begins_28 ⟨(Nat.le_of_ble_eq_true rfl), (Nat.le_of_ble_eq_true rfl)⟩) hS (fun q _ h => (va_free hD hS hA [1] rfl) q h) (va_free hD hS hA [1] rfl) (fun q _ h => (va_free hD hS hA [1] rfl) q h) (fun E9 ce q9 xu4 zt H1 zl zht zvm zw zB zz zk zS hce hcv hcl => ?_) (fun ru4 zt H1 zl zht zvm zw zB zz zk zS => ?_)
      · obtain ⟨zq, zE, zB⟩ := zB
        subst zq
        subst zE
        subst zw
        have hF := tk_ksx hF
        obtain ⟨hP, hD⟩ := tk_join hP hD zk [1] rfl rfl (va_free hD hS hA [1] rfl) (zht ▸ zB.1) zB.2 (Nat.le_of_ble_eq_true rfl)
        have hS := zS
        generalize H1 = H at hP hS hce ⊢
        have hP : va_P D tkCl [(h0, .inr (6, oX8 (tu (tu (tu (tu (tu (tu i0 0 size) 1 sort) 2 v_at) 3 v_to) 4 v_value) 5 told) (tuv (tuv v0 6 (.ref (r0 10))) 10 (.ref (r0 10))))), ((r1 0), .inr (1, oX1 (tu (tu i2 6 xu4.1) 7 xu4.2) v2))] H := hP
        have hD : va_D A [(h0, .inr (6, oX8 (tu (tu (tu (tu (tu (tu i0 0 size) 1 sort) 2 v_at) 3 v_to) 4 v_value) 5 told) (tuv (tuv v0 6 (.ref (r0 10))) 10 (.ref (r0 10))))), ((r1 0), .inr (1, oX1 (tu (tu i2 6 xu4.1) 7 xu4.2) v2))] := hD
        have eo := tk_kr hF
        subst eo
        exact tx_out (fun x9 hx9 => (htab x9 hx9).elim) hlocks hce hcv hcl (fun t ht hW => ⟨_, rfl, ⟨rfl, rfl, tk_pst ht hP hD⟩, hS.F ht⟩) hS.2.2 (Nat.le_of_ble_eq_true rfl) (Nat.le_of_ble_eq_true rfl)
      subst zw
      have hF := tk_kss hF
      obtain ⟨hP, hD⟩ := tk_join hP hD zk [1] rfl rfl (va_free hD hS hA [1] rfl) (zht ▸ zB.1) zB.2 (Nat.le_of_ble_eq_true rfl)
      have hS := zS
      generalize H1 = H at hP hS ⊢
      have hP : va_P D tkCl [(h0, .inr (6, oX8 (tu (tu (tu (tu (tu (tu i0 0 size) 1 sort) 2 v_at) 3 v_to) 4 v_value) 5 told) (tuv (tuv v0 6 (.ref (r0 10))) 10 (.ref (r0 10))))), ((r1 0), .inr (1, oX1 (tu (tu i2 6 ru4.1) 7 ru4.2) v2))] H := hP
      have hD : va_D A [(h0, .inr (6, oX8 (tu (tu (tu (tu (tu (tu i0 0 size) 1 sort) 2 v_at) 3 v_to) 4 v_value) 5 told) (tuv (tuv v0 6 (.ref (r0 10))) 10 (.ref (r0 10))))), ((r1 0), .inr (1, oX1 (tu (tu i2 6 ru4.1) 7 ru4.2) v2))] := hD
      refine lv_aload_n hx hb dX7_begins_31 rfl (lv_at hl 0 rfl) ?_
      refine lv_dup hx hb dX7_begins_32 rfl ?_
      refine va_get (D := D) (ci := 6) (v := .int told) (C := RX8) (T := TX8) (N := 11) hx hb hts in_X8 hown hK hP 0 rfl rfl 5 (by decide) (hts _ q608) (fun _ h9 => h9) rfl dX7_begins_33 ?_
      refine lv_iconst (v := 1) hx hb dX7_begins_36 (by decide) ?_
      refine lv_iload_n hx hb dX7_begins_37 rfl (lv_at hl 1 rfl) ?_
      refine lv_ishl hx hb dX7_begins_38 ?_
      refine lv_ior hx hb dX7_begins_39 ?_
      refine tk_put (D := D) (ci := 6) (v := .int (told ||| (1 <<< (x2 &&& 31)))) (ty := .int) (C := RX8) (T := TX8) (N := 11) hx hb hts in_X8 tyX8 tyX8_ok nmdX8 hown hK hP hD hS 0 rfl rfl 5 (by decide) (hts _ q608) (fun _ h9 => h9) rfl (by decide +kernel) rfl rfl (Nat.le_of_ble_eq_true rfl) dX7_begins_40 (fun H locs hP hD hS => ?_)
      have hP : va_P D tkCl [(h0, .inr (6, oX8 (tu (tu (tu (tu (tu (tu i0 0 size) 1 sort) 2 v_at) 3 v_to) 4 v_value) 5 (told ||| (1 <<< (x2 &&& 31)))) (tuv (tuv v0 6 (.ref (r0 10))) 10 (.ref (r0 10))))), ((r1 0), .inr (1, oX1 (tu (tu i2 6 ru4.1) 7 ru4.2) v2))] H := hP
      have hD : va_D A [(h0, .inr (6, oX8 (tu (tu (tu (tu (tu (tu i0 0 size) 1 sort) 2 v_at) 3 v_to) 4 v_value) 5 (told ||| (1 <<< (x2 &&& 31)))) (tuv (tuv v0 6 (.ref (r0 10))) 10 (.ref (r0 10))))), ((r1 0), .inr (1, oX1 (tu (tu i2 6 ru4.1) 7 ru4.2) v2))] := hD
      refine lv_aload_n hx hb dX7_begins_43 rfl (lv_at hl 0 rfl) ?_
      obtain ⟨u5, hGu5, hF⟩ := tk_kb hF
      refine va_callv (va_runU (As := []) (rest := []) ⟨hx, hb, hml, hown, hts⟩ (mX7_goOn_X8 (l := l) (D := D) (ar := ar) (ad := ad) (xs := xs) (sz := H.size) (h0 := h0) (r0 := r0) (i0 := (tu (tu (tu (tu (tu (tu i0 0 size) 1 sort) 2 v_at) 3 v_to) 4 v_value) 5 (told ||| (1 <<< (x2 &&& 31))))) (v0 := (tuv (tuv v0 6 (.ref (r0 10))) 10 (.ref (r0 10)))) (r1 := r1) (i1 := i1) (size := size) (tape := tape) (sort := sort) (v_at := v_at) (v_to := v_to) (v_value := v_value) (hF := hGu5)) (tk_cwP (C := "TideKeep$BeachReader") (owner := "TideKeep$Reader") (x := ⟨"TideKeep$Reader", "goOn", "()V"⟩) 0 hts (lw_meth q570) rfl rfl rfl (by decide +kernel) ⟨(Nat.le_of_ble_eq_true rfl), (Nat.le_of_ble_eq_true rfl)⟩ (hts _ q564) (hts _ q566) (va_Decl.of (x := ⟨"TideKeep$Reader", "goOn", "()V"⟩) (hts _ q565) (hts _ q570)) (hts _ q567) (hts _ q565) (hts _ q102)) ⟨tk_blind, va_recv hK hP (ci := 6) (q0 := 0) rfl rfl, fun U hU hW => ⟨rfl, tk_mk hP hD hS hA hE hR hX [0] [2, 3] rfl rfl rfl rfl U hU hW⟩⟩ rfl rfl hl.1 rfl (lv_room (Nat.le_of_ble_eq_true rfl)) dX7_begins_44 ⟨(Nat.le_of_ble_eq_true rfl), (Nat.le_of_ble_eq_true rfl)⟩) hS (fun q _ h => (va_free hD hS hA [0] rfl) q h) (va_free hD hS hA [0] rfl) (fun zu zt H1 zl zht zvm zw zB zz zk zS => ?_)
      obtain ⟨hP, hD⟩ := tk_join hP hD zk [0] rfl rfl (va_free hD hS hA [0] rfl) (zht ▸ zB.1) zB.2 (Nat.le_of_ble_eq_true rfl)
      have hS := zS
      generalize H1 = H at hP hS ⊢
      have hP : va_P D tkCl [(h0, .inr (6, oX8 (tu (tu (tu (tu (tu (tu i0 0 size) 1 u5.1) 2 u5.2.1) 3 u5.2.2.1) 4 u5.2.2.2) 5 (told ||| (1 <<< (x2 &&& 31)))) (tuv (tuv v0 6 (.ref (r0 10))) 10 (.ref (r0 10))))), ((r1 0), .inr (1, oX1 (tu (tu i2 6 ru4.1) 7 ru4.2) v2))] H := hP
      have hD : va_D A [(h0, .inr (6, oX8 (tu (tu (tu (tu (tu (tu i0 0 size) 1 u5.1) 2 u5.2.1) 3 u5.2.2.1) 4 u5.2.2.2) 5 (told ||| (1 <<< (x2 &&& 31)))) (tuv (tuv v0 6 (.ref (r0 10))) 10 (.ref (r0 10))))), ((r1 0), .inr (1, oX1 (tu (tu i2 6 ru4.1) 7 ru4.2) v2))] := hD
      refine lv_iconst (v := 1) hx hb dX7_begins_47 (by decide) ?_
      have eo := tk_kr hF
      subst eo
      refine tx_ret ?_
      exact W.zret (v := 1) hx hb hr (by decide) (fun t ht hW => ⟨⟨_, _, rfl, ⟨rfl, rfl⟩, tk_pst ht hP hD⟩, hS.F ht⟩) hS.2.2 dX7_begins_48
  have ih27 := key n0
  clear key
  unfold bX7_begins_X8_0 at hF
  have hF : tk_k (stX7_begins_X8 size tape p0) n0 _ = some o := hF
  refine lv_aload_n hx hb dX7_begins_0 rfl (lv_at hl 0 rfl) ?_
  refine lv_aload_n hx hb dX7_begins_1 rfl (lv_at hl 1 rfl) ?_
  obtain ⟨u1, hGu1, hF⟩ := tk_kb hF
  refine va_calli (va_runU (As := [.ref (ad 0 p0)]) (rest := []) ⟨hx, hb, hml, hown, hts⟩ (mX7_is_X8 (l := l) (D := D) (ar := ar) (ad := ad) (xs := xs) (sz := s.heap.size) (h0 := h0) (r0 := r0) (i0 := (tu (tu (tu (tu (tu (tu i0 0 size) 1 sort) 2 v_at) 3 v_to) 4 v_value) 5 told)) (v0 := (tuv (tuv v0 6 (.ref (r0 10))) 10 (.ref (r0 10)))) (r1 := r1) (i1 := i1) (size := size) (sort := sort) (v_at := v_at) (v_to := v_to) (tape := tape) (p0 := p0) (hk_p0 := hk_p0) (hF := hGu1)) (tk_cwP (C := "TideKeep$BeachReader") (owner := "TideKeep$Reader") (x := ⟨"TideKeep$Reader", "is", "(Ljava/lang/String;)Z"⟩) 1 hts (lw_meth q655) rfl rfl rfl (by decide +kernel) ⟨(Nat.le_of_ble_eq_true rfl), (Nat.le_of_ble_eq_true rfl)⟩ (hts _ q724) (hts _ q1996) (va_Decl.of (x := ⟨"TideKeep$Reader", "is", "(Ljava/lang/String;)Z"⟩) (hts _ q654) (hts _ q655)) (hts _ q1997) (hts _ q654) (hts _ q102)) ⟨tk_blind, va_recv hK hP (ci := 6) (q0 := 0) rfl rfl, fun U hU hW => ⟨rfl, tk_mk hP hD hS hA hE hR hX [] [0, 2, 3] rfl rfl rfl rfl U hU hW⟩⟩ rfl rfl hl.1 rfl (lv_room (Nat.le_of_ble_eq_true rfl)) dX7_begins_2 ⟨(Nat.le_of_ble_eq_true rfl), (Nat.le_of_ble_eq_true rfl)⟩) hS (fun q _ h => (va_free hD hS hA [] rfl) q h) (va_free hD hS hA [] rfl) (fun zr zu zt H1 zl zht zvm zw zB zz zk zS => ?_)
  obtain ⟨hP, hD⟩ := tk_join hP hD zk [] rfl rfl (va_free hD hS hA [] rfl) (zht ▸ zB.1) zB.2 (Nat.le_of_ble_eq_true rfl)
  have hS := zS
  have zw := Eq.symm zw
  subst zw
  generalize H1 = H at hP hS ⊢
  have hP : va_P D tkCl [(h0, .inr (6, oX8 (tu (tu (tu (tu (tu (tu i0 0 size) 1 sort) 2 v_at) 3 v_to) 4 v_value) 5 told) (tuv (tuv v0 6 (.ref (r0 10))) 10 (.ref (r0 10))))), ((r1 0), .inr (1, oX1 (tu (tu i2 6 kind) 7 place) v2))] H := hP
  have hD : va_D A [(h0, .inr (6, oX8 (tu (tu (tu (tu (tu (tu i0 0 size) 1 sort) 2 v_at) 3 v_to) 4 v_value) 5 told) (tuv (tuv v0 6 (.ref (r0 10))) 10 (.ref (r0 10))))), ((r1 0), .inr (1, oX1 (tu (tu i2 6 kind) 7 place) v2))] := hD
  refine lv_if_ne (tgt := 10) hx hb dX7_begins_5 (by decide) (fun c2 => ?_) (fun c2 => ?_)
  · have hF := tk_kf hF c2
    refine lv_aload_n hx hb dX7_begins_10 rfl (lv_at hl 0 rfl) ?_
    refine lv_aload_n hx hb dX7_begins_11 rfl (lv_at hl 0 rfl) ?_
    refine va_get (D := D) (ci := 6) (v := .int told) (C := RX8) (T := TX8) (N := 11) hx hb hts in_X8 hown hK hP 0 rfl rfl 5 (by decide) (hts _ q608) (fun _ h9 => h9) rfl dX7_begins_12 ?_
    refine lv_iload_n hx hb dX7_begins_15 rfl (lv_at hl 2 rfl) ?_
    refine lv_ishr hx hb dX7_begins_16 ?_
    refine lv_iconst (v := 1) hx hb dX7_begins_17 (by decide) ?_
    refine lv_iand hx hb dX7_begins_18 ?_
    refine lv_if_ne (tgt := 26) hx hb dX7_begins_19 (by decide) (fun c3 => ?_) (fun c3 => ?_)
    · have hF := tk_kf hF c3
      refine lv_iconst (v := 0) hx hb dX7_begins_26 (by decide) ?_
      exact ih27 p1 0 sort v_at v_to v_value told kind place _ _ _ hF hP hD hS (lv_sub hl [0, 2] rfl)
    · have hF := tk_kt hF c3
      refine lv_iconst (v := 1) hx hb dX7_begins_22 (by decide) ?_
      refine lv_goto (tgt := 27) hx hb dX7_begins_23 (by decide) ?_
      exact ih27 p1 1 sort v_at v_to v_value told kind place _ _ _ hF hP hD hS (lv_sub hl [0, 2] rfl)
  · have hF := tk_kt hF c2
    refine lv_iconst (v := 0) hx hb dX7_begins_8 (by decide) ?_
    have eo := tk_kr hF
    subst eo
    refine tx_ret ?_
    exact W.zret (v := 0) hx hb hr (by decide) (fun t ht hW => ⟨⟨_, _, rfl, ⟨rfl, rfl⟩, tk_pst ht hP hD⟩, hS.F ht⟩) hS.2.2 dX7_begins_9
set_option maxHeartbeats 4000000 in
theorem mX7_within_X8 (l : Launch) (D : va_G) (ar : Nat → ClassId) (ad : Nat → Nat → Nat) (xs : va_W) (sz : Nat) (h0 : Nat) (i0 : Nat → Int32) (v0 : Nat → Value) (r0 r1 : Nat → Nat) (i1 i2 : Nat → Int32) (v2 : Nat → Value) (sort v_at v_value p0 p1 kind place : Int32) (o : (Int32 × Int32 × Int32) ⊕ (Int32 × Int32)) (hF : fX7_within_X8 sort v_at v_value p0 p1 kind place = some o) : tx_Met l yX7_within (ws_ yX7_within cX7_within 3 (some .int)) ({ frames := 2, cells := 0, slots := 0, locals := 44 }) (va_Pc [.ref h0, .int p0, .int p1] (tk_Pre D ar ad [((r1 0), .inr (1, oX1 (tu (tu i2 6 kind) 7 place) v2))] [(h0, .inr (6, oX8 (tu (tu (tu i0 1 sort) 2 v_at) 4 v_value) (tuv (tuv v0 6 (.ref (r0 10))) 10 (.ref (r0 10))))), ((r0 10), .inr (0, oX0 r1 i1))] xs sz)) (va_Qi (fun (zr : Int32) (z : Int32 × Int32 × Int32) => o = .inl z ∧ zr = z.1) (fun z t => tk_Post D (va_A [((r1 0), .inr (1, oX1 (tu (tu i2 6 kind) 7 place) v2))] sz) [((r1 0), .inr (1, oX1 (tu (tu i2 6 z.2.1) 7 z.2.2) v2))] t) (va_A [((r1 0), .inr (1, oX1 (tu (tu i2 6 kind) 7 place) v2))] sz)) (tx_X (fun z : Int32 × Int32 => o = .inr z) (fun q9 E9 z t => q9 = (r1 0) ∧ E9 = "TideKeep$Wrong" ∧ tk_Post D (va_A [((r1 0), .inr (1, oX1 (tu (tu i2 6 kind) 7 place) v2))] sz) [((r1 0), .inr (1, oX1 (tu (tu i2 6 z.1) 7 z.2) v2))] t) (va_A [((r1 0), .inr (1, oX1 (tu (tu i2 6 kind) 7 place) v2))] sz)) 0 0 (va_A [((r1 0), .inr (1, oX1 (tu (tu i2 6 kind) 7 place) v2))] sz) := by
  refine tx_ofW (cc := cX7_within) (maxL := 3) (ret := (some .int)) (by decide) rfl ?_
  intro p e s m args below meth c s₁ B hml htab hv
  obtain ⟨rfl, hsz, hP, hD0, hR, hX, hE⟩ := hv
  have hx := B.exec
  have hb := B.bytes
  have hr := B.returns
  have hts := atoms_spec (ws := (ws_ yX7_within cX7_within 3 (some .int))) B.pre
  have hts : ∀ w ∈ lw_all, w.before _ s = true := fun w h => hts w (List.mem_cons_of_mem _ h)
  have hown : s.vm.findClass RX7 = some m.cls := findClass_of_methodNamed B.named
  have hlocks := B.notSynchronized
  subst hsz
  have hD := hD0.self (sz := s.heap.size)
  generalize hAe : va_A [((r1 0), .inr (1, oX1 (tu (tu i2 6 kind) 7 place) v2))] s.heap.size = A at hD hR hX hE ⊢
  have hA : ∀ q : Nat, s.heap.size ≤ q → A q := fun q h => by rw [← hAe]; exact Or.inr h
  have hS : va_S A s.heap s.heap [] := va_S.rf
  have hK := hE.1
  have hl := lv_entry ([.ref h0, .int p0, .int p1]) (n := 3) (Nat.le_of_ble_eq_true rfl)
  rw [lg_entry_eq]
  generalize (lg_sl ([.ref h0, .int p0, .int p1]) ++ List.replicate (3 - (lg_sl ([.ref h0, .int p0, .int p1])).length) Slot.unset).toArray = ls at hl ⊢
  have hl : lv_has ls 3 [(0, .ref h0), (1, .int p0), (2, .int p1)] := hl
  have hP : va_P D tkCl [((r1 0), .inr (1, oX1 (tu (tu i2 6 kind) 7 place) v2))] s.heap := hP
  obtain ⟨n0, hF⟩ : ∃ n, tk_k (stX7_within_X8 sort v_at v_value) n (bX7_within_X8_0 sort v_at v_value p0 p1 kind place) = some o := tk_fin_it hF
  have key : ∀ n : Nat, (∀ (x1 x2 s1 kind place : Int32) (H : Heap) (locs : List Loc) (ls : Array Slot), tk_it (stX7_within_X8 sort v_at v_value) n (1, (x1, x2, s1, kind, place)) = some o → va_P D tkCl [((r1 0), .inr (1, oX1 (tu (tu i2 6 kind) 7 place) v2))] H → va_D A [((r1 0), .inr (1, oX1 (tu (tu i2 6 kind) 7 place) v2))] → va_S A s.heap H locs → lv_has ls 3 [(0, .ref h0), (1, .int x1), (2, .int x2)] → W p l e (headSpec (ws_ yX7_within cX7_within 3 (some .int)) ({ frames := 2, cells := 0, slots := 0, locals := 44 })).room s m ([.ref h0, .int p0, .int p1] : List Value).toArray below meth c H locs 0 0 (tx_MQ below (va_Qi (fun (zr : Int32) (z : Int32 × Int32 × Int32) => o = .inl z ∧ zr = z.1) (fun z t => tk_Post D A [((r1 0), .inr (1, oX1 (tu (tu i2 6 z.2.1) 7 z.2.2) v2))] t) A) (tx_X (fun z : Int32 × Int32 => o = .inr z) (fun q9 E9 z t => q9 = (r1 0) ∧ E9 = "TideKeep$Wrong" ∧ tk_Post D A [((r1 0), .inr (1, oX1 (tu (tu i2 6 z.1) 7 z.2) v2))] t) A) ([.ref h0, .int p0, .int p1] : List Value).toArray s 0 0 A) (F0 m 14 ls [.int s1, .ref h0])) := by
    intro n
    induction n with
    | zero => exact (by intros; rename_i hF _ _ _ _; cases hF)
    | succ n ih =>
      have ih14 := ih
      intro x1 x2 s1 kind place H locs ls hF hP hD hS hl
      have hF : tk_k (stX7_within_X8 sort v_at v_value) n (bX7_within_X8_1 sort v_at v_value x1 x2 s1 kind place) = some o := hF
      unfold bX7_within_X8_1 at hF
      refine lv_iconst (v := 1) hx hb dX7_within_14 (by decide) ?_
      obtain ⟨u2, hGu2, hF⟩ := tk_kb hF
      refine tx_callv (tx_runU (As := [.int s1, .int 1]) (rest := []) ⟨hx, hb, hml, hown, hts⟩ (mX7_ask_X8 (l := l) (D := D) (ar := ar) (ad := ad) (xs := xs) (sz := H.size) (h0 := h0) (r0 := r0) (i0 := (tu (tu (tu i0 1 sort) 2 v_at) 4 v_value)) (v0 := (tuv (tuv v0 6 (.ref (r0 10))) 10 (.ref (r0 10)))) (r1 := r1) (i1 := i1) (i2 := (tu (tu i2 6 kind) 7 place)) (v2 := v2) (v_at := v_at) (kind := kind) (place := place) (p0 := s1) (p1 := 1) (hF := hGu2)) (tk_cwP (C := "TideKeep$BeachReader") (owner := "TideKeep$Reader") (x := ⟨"TideKeep$Reader", "ask", "(ZI)V"⟩) 2 hts (lw_meth q713) rfl rfl rfl (by decide +kernel) ⟨(Nat.le_of_ble_eq_true rfl), (Nat.le_of_ble_eq_true rfl)⟩ (hts _ q725) (hts _ q2000) (va_Decl.of (x := ⟨"TideKeep$Reader", "ask", "(ZI)V"⟩) (hts _ q712) (hts _ q713)) (hts _ q2001) (hts _ q712) (hts _ q102)) ⟨tk_blind, va_recv hK (hR.at hS) (ci := 6) (q0 := 0) rfl rfl, fun U hU hW => ⟨rfl, tk_mk hP hD hS hA hE hR hX [0] [1, 2] rfl rfl rfl rfl U hU hW⟩⟩ rfl rfl hl.1 rfl (lv_room (Nat.le_of_ble_eq_true rfl)) dX7_within_15 ⟨(Nat.le_of_ble_eq_true rfl), (Nat.le_of_ble_eq_true rfl)⟩) hS (fun q _ h => (va_free hD hS hA [0] rfl) q h) (va_free hD hS hA [0] rfl) (fun q _ h => (va_free hD hS hA [0] rfl) q h) (fun E9 ce q9 xu2 zt H1 zl zht zvm zw zB zz zk zS hce hcv hcl => ?_) (fun ru2 zt H1 zl zht zvm zw zB zz zk zS => ?_)
      · obtain ⟨zq, zE, zB⟩ := zB
        subst zq
        subst zE
        subst zw
        have hF := tk_ksx hF
        obtain ⟨hP, hD⟩ := tk_join hP hD zk [0] rfl rfl (va_free hD hS hA [0] rfl) (zht ▸ zB.1) zB.2 (Nat.le_of_ble_eq_true rfl)
        have hS := zS
        generalize H1 = H at hP hS hce ⊢
        have hP : va_P D tkCl [((r1 0), .inr (1, oX1 (tu (tu i2 6 xu2.1) 7 xu2.2) v2))] H := hP
        have hD : va_D A [((r1 0), .inr (1, oX1 (tu (tu i2 6 xu2.1) 7 xu2.2) v2))] := hD
        have eo := tk_kr hF
        subst eo
        exact tx_out (fun x9 hx9 => (htab x9 hx9).elim) hlocks hce hcv hcl (fun t ht hW => ⟨_, rfl, ⟨rfl, rfl, tk_pst ht hP hD⟩, hS.F ht⟩) hS.2.2 (Nat.le_of_ble_eq_true rfl) (Nat.le_of_ble_eq_true rfl)
      subst zw
      have hF := tk_kss hF
      obtain ⟨hP, hD⟩ := tk_join hP hD zk [0] rfl rfl (va_free hD hS hA [0] rfl) (zht ▸ zB.1) zB.2 (Nat.le_of_ble_eq_true rfl)
      have hS := zS
      generalize H1 = H at hP hS ⊢
      have hP : va_P D tkCl [((r1 0), .inr (1, oX1 (tu (tu i2 6 ru2.1) 7 ru2.2) v2))] H := hP
      have hD : va_D A [((r1 0), .inr (1, oX1 (tu (tu i2 6 ru2.1) 7 ru2.2) v2))] := hD
      refine lv_aload_n hx hb dX7_within_18 rfl (lv_at hl 0 rfl) ?_
      refine lv_aload_n hx hb dX7_within_19 rfl (lv_at hl 0 rfl) ?_
      refine va_get (D := D) (ci := 6) (v := .int v_value) (C := RX8) (T := TX8) (N := 11) hx hb hts in_X8 hown hK (hR.at hS) 0 rfl rfl 4 (by decide) (hts _ q606) (fun _ h9 => h9) rfl dX7_within_20 ?_
      refine lv_iload_n hx hb dX7_within_23 rfl (lv_at hl 1 rfl) ?_
      refine lv_iload_n hx hb dX7_within_24 rfl (lv_at hl 2 rfl) ?_
      obtain ⟨u3, hGu3, hF⟩ := tk_kb hF
      refine va_calli (va_runSN (host := "TideKeep") (As := [.int v_value, .int x1, .int x2]) (rest := [.ref h0]) ⟨hx, hb, hml, hown, hts⟩ (mX0_in (l := l) (D := D) (ar := ar) (ad := ad) (xs := xs) (sz := H.size) (p0 := v_value) (p1 := x1) (p2 := x2) (hF := hGu3)) ⟨va_cnB 3 hts (lw_meth q741) rfl rfl rfl (hE.2.1 _ q739 rfl) (hts _ q88) (by decide +kernel) ⟨(Nat.le_of_ble_eq_true rfl), (Nat.le_of_ble_eq_true rfl)⟩, hts _ q740, trivial⟩ ⟨tk_blind, fun U hU hW => ⟨rfl, tk_mk hP hD hS hA hE hR hX [] [] rfl rfl rfl rfl U hU hW⟩⟩ rfl rfl hl.1 rfl (lv_room (Nat.le_of_ble_eq_true rfl)) dX7_within_25 ⟨(Nat.le_of_ble_eq_true rfl), (Nat.le_of_ble_eq_true rfl)⟩) hS (fun q _ h => (va_free hD hS hA [] rfl) q h) (va_free hD hS hA [] rfl) (fun zr zu zt H1 zl zht zvm zw zB zz zk zS => ?_)
      obtain ⟨hP, hD⟩ := tk_join hP hD zk [] rfl rfl (va_free hD hS hA [] rfl) (zht ▸ zB.1) zB.2 (Nat.le_of_ble_eq_true rfl)
      have hS := zS
      have zw := Eq.symm zw
      subst zw
      generalize H1 = H at hP hS ⊢
      have hP : va_P D tkCl [((r1 0), .inr (1, oX1 (tu (tu i2 6 ru2.1) 7 ru2.2) v2))] H := hP
      have hD : va_D A [((r1 0), .inr (1, oX1 (tu (tu i2 6 ru2.1) 7 ru2.2) v2))] := hD
      refine lv_iconst (v := 2) hx hb dX7_within_28 (by decide) ?_
      obtain ⟨u4, hGu4, hF⟩ := tk_kb hF
      refine tx_callv (tx_runU (As := [.int u3, .int 2]) (rest := []) ⟨hx, hb, hml, hown, hts⟩ (mX7_ask_X8 (l := l) (D := D) (ar := ar) (ad := ad) (xs := xs) (sz := H.size) (h0 := h0) (r0 := r0) (i0 := (tu (tu (tu i0 1 sort) 2 v_at) 4 v_value)) (v0 := (tuv (tuv v0 6 (.ref (r0 10))) 10 (.ref (r0 10)))) (r1 := r1) (i1 := i1) (i2 := (tu (tu i2 6 ru2.1) 7 ru2.2)) (v2 := v2) (v_at := v_at) (kind := ru2.1) (place := ru2.2) (p0 := u3) (p1 := 2) (hF := hGu4)) (tk_cwP (C := "TideKeep$BeachReader") (owner := "TideKeep$Reader") (x := ⟨"TideKeep$Reader", "ask", "(ZI)V"⟩) 2 hts (lw_meth q713) rfl rfl rfl (by decide +kernel) ⟨(Nat.le_of_ble_eq_true rfl), (Nat.le_of_ble_eq_true rfl)⟩ (hts _ q725) (hts _ q2000) (va_Decl.of (x := ⟨"TideKeep$Reader", "ask", "(ZI)V"⟩) (hts _ q712) (hts _ q713)) (hts _ q2001) (hts _ q712) (hts _ q102)) ⟨tk_blind, va_recv hK (hR.at hS) (ci := 6) (q0 := 0) rfl rfl, fun U hU hW => ⟨rfl, tk_mk hP hD hS hA hE hR hX [0] [1, 2] rfl rfl rfl rfl U hU hW⟩⟩ rfl rfl hl.1 rfl (lv_room (Nat.le_of_ble_eq_true rfl)) dX7_within_29 ⟨(Nat.le_of_ble_eq_true rfl), (Nat.le_of_ble_eq_true rfl)⟩) hS (fun q _ h => (va_free hD hS hA [0] rfl) q h) (va_free hD hS hA [0] rfl) (fun q _ h => (va_free hD hS hA [0] rfl) q h) (fun E9 ce q9 xu4 zt H1 zl zht zvm zw zB zz zk zS hce hcv hcl => ?_) (fun ru4 zt H1 zl zht zvm zw zB zz zk zS => ?_)
      · obtain ⟨zq, zE, zB⟩ := zB
        subst zq
        subst zE
        subst zw
        have hF := tk_ksx hF
        obtain ⟨hP, hD⟩ := tk_join hP hD zk [0] rfl rfl (va_free hD hS hA [0] rfl) (zht ▸ zB.1) zB.2 (Nat.le_of_ble_eq_true rfl)
        have hS := zS
        generalize H1 = H at hP hS hce ⊢
        have hP : va_P D tkCl [((r1 0), .inr (1, oX1 (tu (tu i2 6 xu4.1) 7 xu4.2) v2))] H := hP
        have hD : va_D A [((r1 0), .inr (1, oX1 (tu (tu i2 6 xu4.1) 7 xu4.2) v2))] := hD
        have eo := tk_kr hF
        subst eo
        exact tx_out (fun x9 hx9 => (htab x9 hx9).elim) hlocks hce hcv hcl (fun t ht hW => ⟨_, rfl, ⟨rfl, rfl, tk_pst ht hP hD⟩, hS.F ht⟩) hS.2.2 (Nat.le_of_ble_eq_true rfl) (Nat.le_of_ble_eq_true rfl)
      subst zw
      have hF := tk_kss hF
      obtain ⟨hP, hD⟩ := tk_join hP hD zk [0] rfl rfl (va_free hD hS hA [0] rfl) (zht ▸ zB.1) zB.2 (Nat.le_of_ble_eq_true rfl)
      have hS := zS
      generalize H1 = H at hP hS ⊢
      have hP : va_P D tkCl [((r1 0), .inr (1, oX1 (tu (tu i2 6 ru4.1) 7 ru4.2) v2))] H := hP
      have hD : va_D A [((r1 0), .inr (1, oX1 (tu (tu i2 6 ru4.1) 7 ru4.2) v2))] := hD
      refine lv_aload_n hx hb dX7_within_32 rfl (lv_at hl 0 rfl) ?_
      refine va_get (D := D) (ci := 6) (v := .int v_value) (C := RX8) (T := TX8) (N := 11) hx hb hts in_X8 hown hK (hR.at hS) 0 rfl rfl 4 (by decide) (hts _ q606) (fun _ h9 => h9) rfl dX7_within_33 ?_
      have eo := tk_kr hF
      subst eo
      refine tx_ret ?_
      exact W.iret (v := v_value) hx hb hr (fun t ht hW => ⟨⟨_, _, rfl, ⟨rfl, rfl⟩, tk_pst ht hP hD⟩, hS.F ht⟩) hS.2.2 dX7_within_36
  have ih14 := key n0
  clear key
  unfold bX7_within_X8_0 at hF
  have hF : tk_k (stX7_within_X8 sort v_at v_value) n0 _ = some o := hF
  refine lv_aload_n hx hb dX7_within_0 rfl (lv_at hl 0 rfl) ?_
  refine lv_aload_n hx hb dX7_within_1 rfl (lv_at hl 0 rfl) ?_
  refine va_get (D := D) (ci := 6) (v := .int sort) (C := RX8) (T := TX8) (N := 11) hx hb hts in_X8 hown hK (hR.at hS) 0 rfl rfl 1 (by decide) (hts _ q603) (fun _ h9 => h9) rfl dX7_within_2 ?_
  refine lv_iconst (v := 2) hx hb dX7_within_5 (by decide) ?_
  refine lv_icmp_ne (tgt := 13) hx hb dX7_within_6 (by decide) (fun c1 => ?_) (fun c1 => ?_)
  · have hF := tk_kf hF c1
    refine lv_iconst (v := 0) hx hb dX7_within_13 (by decide) ?_
    exact ih14 p0 p1 0 kind place _ _ _ hF hP hD hS (lv_sub hl [0, 1, 2] rfl)
  · have hF := tk_kt hF c1
    refine lv_iconst (v := 1) hx hb dX7_within_9 (by decide) ?_
    refine lv_goto (tgt := 14) hx hb dX7_within_10 (by decide) ?_
    exact ih14 p0 p1 1 kind place _ _ _ hF hP hD hS (lv_sub hl [0, 1, 2] rfl)
set_option maxHeartbeats 4000000 in
theorem mX7_number_X8 (l : Launch) (D : va_G) (ar : Nat → ClassId) (ad : Nat → Nat → Nat) (xs : va_W) (sz : Nat) (h0 : Nat) (i0 : Nat → Int32) (v0 : Nat → Value) (r0 r1 : Nat → Nat) (i1 i2 : Nat → Int32) (v2 : Nat → Value) (size : Int32) (tape : Nat → Int32) (p0 p1 sort v_at v_to v_value kind place : Int32) (o : (Int32 × Int32 × Int32 × Int32 × Int32 × Int32 × Int32) ⊕ (Int32 × Int32 × Int32 × Int32 × Int32 × Int32)) (hF : fX7_number_X8 size tape p0 p1 sort v_at v_to v_value kind place = some o) : tx_Met l yX7_number (ws_ yX7_number cX7_number 4 (some .int)) ({ frames := 3, cells := 0, slots := 0, locals := 66 }) (va_Pc [.ref h0, .int p0, .int p1] (tk_Pre D ar ad [(h0, .inr (6, oX8 (tu (tu (tu (tu (tu i0 0 size) 1 sort) 2 v_at) 3 v_to) 4 v_value) (tuv (tuv v0 6 (.ref (r0 10))) 10 (.ref (r0 10))))), ((r1 0), .inr (1, oX1 (tu (tu i2 6 kind) 7 place) v2))] [((r0 10), .inr (0, oX0 r1 i1)), ((r1 1), .inl (ar 1, 900, .inl tape))] xs sz)) (va_Qi (fun (zr : Int32) (z : Int32 × Int32 × Int32 × Int32 × Int32 × Int32 × Int32) => o = .inl z ∧ zr = z.1) (fun z t => tk_Post D (va_A [(h0, .inr (6, oX8 (tu (tu (tu (tu (tu i0 0 size) 1 sort) 2 v_at) 3 v_to) 4 v_value) (tuv (tuv v0 6 (.ref (r0 10))) 10 (.ref (r0 10))))), ((r1 0), .inr (1, oX1 (tu (tu i2 6 kind) 7 place) v2))] sz) [(h0, .inr (6, oX8 (tu (tu (tu (tu (tu i0 0 size) 1 z.2.1) 2 z.2.2.1) 3 z.2.2.2.1) 4 z.2.2.2.2.1) (tuv (tuv v0 6 (.ref (r0 10))) 10 (.ref (r0 10))))), ((r1 0), .inr (1, oX1 (tu (tu i2 6 z.2.2.2.2.2.1) 7 z.2.2.2.2.2.2) v2))] t) (va_A [(h0, .inr (6, oX8 (tu (tu (tu (tu (tu i0 0 size) 1 sort) 2 v_at) 3 v_to) 4 v_value) (tuv (tuv v0 6 (.ref (r0 10))) 10 (.ref (r0 10))))), ((r1 0), .inr (1, oX1 (tu (tu i2 6 kind) 7 place) v2))] sz)) (tx_X (fun z : Int32 × Int32 × Int32 × Int32 × Int32 × Int32 => o = .inr z) (fun q9 E9 z t => q9 = (r1 0) ∧ E9 = "TideKeep$Wrong" ∧ tk_Post D (va_A [(h0, .inr (6, oX8 (tu (tu (tu (tu (tu i0 0 size) 1 sort) 2 v_at) 3 v_to) 4 v_value) (tuv (tuv v0 6 (.ref (r0 10))) 10 (.ref (r0 10))))), ((r1 0), .inr (1, oX1 (tu (tu i2 6 kind) 7 place) v2))] sz) [(h0, .inr (6, oX8 (tu (tu (tu (tu (tu i0 0 size) 1 z.1) 2 z.2.1) 3 z.2.2.1) 4 z.2.2.2.1) (tuv (tuv v0 6 (.ref (r0 10))) 10 (.ref (r0 10))))), ((r1 0), .inr (1, oX1 (tu (tu i2 6 z.2.2.2.2.1) 7 z.2.2.2.2.2) v2))] t) (va_A [(h0, .inr (6, oX8 (tu (tu (tu (tu (tu i0 0 size) 1 sort) 2 v_at) 3 v_to) 4 v_value) (tuv (tuv v0 6 (.ref (r0 10))) 10 (.ref (r0 10))))), ((r1 0), .inr (1, oX1 (tu (tu i2 6 kind) 7 place) v2))] sz)) 0 0 (va_A [(h0, .inr (6, oX8 (tu (tu (tu (tu (tu i0 0 size) 1 sort) 2 v_at) 3 v_to) 4 v_value) (tuv (tuv v0 6 (.ref (r0 10))) 10 (.ref (r0 10))))), ((r1 0), .inr (1, oX1 (tu (tu i2 6 kind) 7 place) v2))] sz) := by
  refine tx_ofW (cc := cX7_number) (maxL := 4) (ret := (some .int)) (by decide) rfl ?_
  intro p e s m args below meth c s₁ B hml htab hv
  obtain ⟨rfl, hsz, hP, hD0, hR, hX, hE⟩ := hv
  have hx := B.exec
  have hb := B.bytes
  have hr := B.returns
  have hts := atoms_spec (ws := (ws_ yX7_number cX7_number 4 (some .int))) B.pre
  have hts : ∀ w ∈ lw_all, w.before _ s = true := fun w h => hts w (List.mem_cons_of_mem _ h)
  have hown : s.vm.findClass RX7 = some m.cls := findClass_of_methodNamed B.named
  have hlocks := B.notSynchronized
  subst hsz
  have hD := hD0.self (sz := s.heap.size)
  generalize hAe : va_A [(h0, .inr (6, oX8 (tu (tu (tu (tu (tu i0 0 size) 1 sort) 2 v_at) 3 v_to) 4 v_value) (tuv (tuv v0 6 (.ref (r0 10))) 10 (.ref (r0 10))))), ((r1 0), .inr (1, oX1 (tu (tu i2 6 kind) 7 place) v2))] s.heap.size = A at hD hR hX hE ⊢
  have hA : ∀ q : Nat, s.heap.size ≤ q → A q := fun q h => by rw [← hAe]; exact Or.inr h
  have hS : va_S A s.heap s.heap [] := va_S.rf
  have hK := hE.1
  have hl := lv_entry ([.ref h0, .int p0, .int p1]) (n := 4) (Nat.le_of_ble_eq_true rfl)
  rw [lg_entry_eq]
  generalize (lg_sl ([.ref h0, .int p0, .int p1]) ++ List.replicate (4 - (lg_sl ([.ref h0, .int p0, .int p1])).length) Slot.unset).toArray = ls at hl ⊢
  have hl : lv_has ls 4 [(0, .ref h0), (1, .int p0), (2, .int p1)] := hl
  have hP : va_P D tkCl [(h0, .inr (6, oX8 (tu (tu (tu (tu (tu i0 0 size) 1 sort) 2 v_at) 3 v_to) 4 v_value) (tuv (tuv v0 6 (.ref (r0 10))) 10 (.ref (r0 10))))), ((r1 0), .inr (1, oX1 (tu (tu i2 6 kind) 7 place) v2))] s.heap := hP
  unfold fX7_number_X8 at hF
  refine lv_aload_n hx hb dX7_number_0 rfl (lv_at hl 0 rfl) ?_
  refine lv_iload_n hx hb dX7_number_1 rfl (lv_at hl 1 rfl) ?_
  refine lv_iload_n hx hb dX7_number_2 rfl (lv_at hl 2 rfl) ?_
  obtain ⟨u1, hGu1, hF⟩ := tk_pb hF
  refine tx_calli (tx_runU (As := [.int p0, .int p1]) (rest := []) ⟨hx, hb, hml, hown, hts⟩ (mX7_within_X8 (l := l) (D := D) (ar := ar) (ad := ad) (xs := xs) (sz := s.heap.size) (h0 := h0) (r0 := r0) (i0 := (tu (tu (tu (tu (tu i0 0 size) 1 sort) 2 v_at) 3 v_to) 4 v_value)) (v0 := (tuv (tuv v0 6 (.ref (r0 10))) 10 (.ref (r0 10)))) (r1 := r1) (i1 := i1) (i2 := (tu (tu i2 6 kind) 7 place)) (v2 := v2) (sort := sort) (v_at := v_at) (v_value := v_value) (kind := kind) (place := place) (p0 := p0) (p1 := p1) (hF := hGu1)) (tk_cwP (C := "TideKeep$BeachReader") (owner := "TideKeep$Reader") (x := ⟨"TideKeep$Reader", "within", "(II)I"⟩) 2 hts (lw_meth q738) rfl rfl rfl (by decide +kernel) ⟨(Nat.le_of_ble_eq_true rfl), (Nat.le_of_ble_eq_true rfl)⟩ (hts _ q732) (hts _ q734) (va_Decl.of (x := ⟨"TideKeep$Reader", "within", "(II)I"⟩) (hts _ q733) (hts _ q738)) (hts _ q735) (hts _ q733) (hts _ q102)) ⟨tk_blind, va_recv hK hP (ci := 6) (q0 := 0) rfl rfl, fun U hU hW => ⟨rfl, tk_mk hP hD hS hA hE hR hX [1] [0, 2] rfl rfl rfl rfl U hU hW⟩⟩ rfl rfl hl.1 rfl (lv_room (Nat.le_of_ble_eq_true rfl)) dX7_number_3 ⟨(Nat.le_of_ble_eq_true rfl), (Nat.le_of_ble_eq_true rfl)⟩) hS (fun q _ h => (va_free hD hS hA [1] rfl) q h) (va_free hD hS hA [1] rfl) (fun q _ h => (va_free hD hS hA [1] rfl) q h) (fun E9 ce q9 xu1 zt H1 zl zht zvm zw zB zz zk zS hce hcv hcl => ?_) (fun zr ru1 zt H1 zl zht zvm zw zB zz zk zS => ?_)
  · obtain ⟨zq, zE, zB⟩ := zB
    subst zq
    subst zE
    subst zw
    have hF := tk_psx hF
    obtain ⟨hP, hD⟩ := tk_join hP hD zk [1] rfl rfl (va_free hD hS hA [1] rfl) (zht ▸ zB.1) zB.2 (Nat.le_of_ble_eq_true rfl)
    have hS := zS
    generalize H1 = H at hP hS hce ⊢
    have hP : va_P D tkCl [(h0, .inr (6, oX8 (tu (tu (tu (tu (tu i0 0 size) 1 sort) 2 v_at) 3 v_to) 4 v_value) (tuv (tuv v0 6 (.ref (r0 10))) 10 (.ref (r0 10))))), ((r1 0), .inr (1, oX1 (tu (tu i2 6 xu1.1) 7 xu1.2) v2))] H := hP
    have hD : va_D A [(h0, .inr (6, oX8 (tu (tu (tu (tu (tu i0 0 size) 1 sort) 2 v_at) 3 v_to) 4 v_value) (tuv (tuv v0 6 (.ref (r0 10))) 10 (.ref (r0 10))))), ((r1 0), .inr (1, oX1 (tu (tu i2 6 xu1.1) 7 xu1.2) v2))] := hD
    have eo := tk_pr hF
    subst eo
    exact tx_out (fun x9 hx9 => (htab x9 hx9).elim) hlocks hce hcv hcl (fun t ht hW => ⟨_, rfl, ⟨rfl, rfl, tk_pst ht hP hD⟩, hS.F ht⟩) hS.2.2 (Nat.le_of_ble_eq_true rfl) (Nat.le_of_ble_eq_true rfl)
  obtain ⟨zw, zw2⟩ := zw
  subst zw
  subst zw2
  have hF := tk_pss hF
  obtain ⟨hP, hD⟩ := tk_join hP hD zk [1] rfl rfl (va_free hD hS hA [1] rfl) (zht ▸ zB.1) zB.2 (Nat.le_of_ble_eq_true rfl)
  have hS := zS
  generalize H1 = H at hP hS ⊢
  have hP : va_P D tkCl [(h0, .inr (6, oX8 (tu (tu (tu (tu (tu i0 0 size) 1 sort) 2 v_at) 3 v_to) 4 v_value) (tuv (tuv v0 6 (.ref (r0 10))) 10 (.ref (r0 10))))), ((r1 0), .inr (1, oX1 (tu (tu i2 6 ru1.2.1) 7 ru1.2.2) v2))] H := hP
  have hD : va_D A [(h0, .inr (6, oX8 (tu (tu (tu (tu (tu i0 0 size) 1 sort) 2 v_at) 3 v_to) 4 v_value) (tuv (tuv v0 6 (.ref (r0 10))) 10 (.ref (r0 10))))), ((r1 0), .inr (1, oX1 (tu (tu i2 6 ru1.2.1) 7 ru1.2.2) v2))] := hD
  refine lv_istore_n (lv' := [(3, .int ru1.1), (0, .ref h0), (1, .int p0), (2, .int p1)]) hx hb dX7_number_6 rfl hl (Nat.le_of_ble_eq_true rfl) rfl (fun ls hl => ?_)
  refine lv_aload_n hx hb dX7_number_7 rfl (lv_at hl 1 rfl) ?_
  obtain ⟨u2, hGu2, hF⟩ := tk_pb hF
  refine va_callv (va_runU (As := []) (rest := []) ⟨hx, hb, hml, hown, hts⟩ (mX7_goOn_X8 (l := l) (D := D) (ar := ar) (ad := ad) (xs := xs) (sz := H.size) (h0 := h0) (r0 := r0) (i0 := (tu (tu (tu (tu (tu i0 0 size) 1 sort) 2 v_at) 3 v_to) 4 v_value)) (v0 := (tuv (tuv v0 6 (.ref (r0 10))) 10 (.ref (r0 10)))) (r1 := r1) (i1 := i1) (size := size) (tape := tape) (sort := sort) (v_at := v_at) (v_to := v_to) (v_value := v_value) (hF := hGu2)) (tk_cwP (C := "TideKeep$BeachReader") (owner := "TideKeep$Reader") (x := ⟨"TideKeep$Reader", "goOn", "()V"⟩) 0 hts (lw_meth q570) rfl rfl rfl (by decide +kernel) ⟨(Nat.le_of_ble_eq_true rfl), (Nat.le_of_ble_eq_true rfl)⟩ (hts _ q564) (hts _ q566) (va_Decl.of (x := ⟨"TideKeep$Reader", "goOn", "()V"⟩) (hts _ q565) (hts _ q570)) (hts _ q567) (hts _ q565) (hts _ q102)) ⟨tk_blind, va_recv hK hP (ci := 6) (q0 := 0) rfl rfl, fun U hU hW => ⟨rfl, tk_mk hP hD hS hA hE hR hX [0] [2, 3] rfl rfl rfl rfl U hU hW⟩⟩ rfl rfl hl.1 rfl (lv_room (Nat.le_of_ble_eq_true rfl)) dX7_number_8 ⟨(Nat.le_of_ble_eq_true rfl), (Nat.le_of_ble_eq_true rfl)⟩) hS (fun q _ h => (va_free hD hS hA [0] rfl) q h) (va_free hD hS hA [0] rfl) (fun zu zt H1 zl zht zvm zw zB zz zk zS => ?_)
  obtain ⟨hP, hD⟩ := tk_join hP hD zk [0] rfl rfl (va_free hD hS hA [0] rfl) (zht ▸ zB.1) zB.2 (Nat.le_of_ble_eq_true rfl)
  have hS := zS
  generalize H1 = H at hP hS ⊢
  have hP : va_P D tkCl [(h0, .inr (6, oX8 (tu (tu (tu (tu (tu i0 0 size) 1 u2.1) 2 u2.2.1) 3 u2.2.2.1) 4 u2.2.2.2) (tuv (tuv v0 6 (.ref (r0 10))) 10 (.ref (r0 10))))), ((r1 0), .inr (1, oX1 (tu (tu i2 6 ru1.2.1) 7 ru1.2.2) v2))] H := hP
  have hD : va_D A [(h0, .inr (6, oX8 (tu (tu (tu (tu (tu i0 0 size) 1 u2.1) 2 u2.2.1) 3 u2.2.2.1) 4 u2.2.2.2) (tuv (tuv v0 6 (.ref (r0 10))) 10 (.ref (r0 10))))), ((r1 0), .inr (1, oX1 (tu (tu i2 6 ru1.2.1) 7 ru1.2.2) v2))] := hD
  refine lv_iload_n hx hb dX7_number_11 rfl (lv_at hl 0 rfl) ?_
  have eo := tk_pr hF
  subst eo
  refine tx_ret ?_
  exact W.iret (v := ru1.1) hx hb hr (fun t ht hW => ⟨⟨_, _, rfl, ⟨rfl, rfl⟩, tk_pst ht hP hD⟩, hS.F ht⟩) hS.2.2 dX7_number_12
set_option maxHeartbeats 4000000 in
theorem mX8_isTold (l : Launch) (D : va_G) (ar : Nat → ClassId) (ad : Nat → Nat → Nat) (xs : va_W) (sz : Nat) (h0 : Nat) (i0 : Nat → Int32) (v0 : Nat → Value) (r0 : Nat → Nat) (told p0 : Int32) (o : Int32) (hF : fX8_isTold told p0 = some o) : Met l yX8_isTold (ws_ yX8_isTold cX8_isTold 2 (some .boolean)) ({ frames := 0, cells := 0, slots := 0, locals := 0 }) (va_Pc [.ref h0, .int p0] (tk_Pre D ar ad [] [(h0, .inr (6, oX8 (tu i0 5 told) v0))] xs sz)) (va_Qi (fun (zr : Int32) (_ : Unit) => zr = o) (fun _ t => tk_Post D (va_A [] sz) [] t) (va_A [] sz)) 0 0 (va_A [] sz) := by
  refine Met.ofW (cc := cX8_isTold) (maxL := 2) (ret := (some .boolean)) (by decide) rfl ?_
  intro p e s m args below meth c s₁ B hml hv
  obtain ⟨rfl, hsz, hP, hD0, hR, hX, hE⟩ := hv
  have hx := B.exec
  have hb := B.bytes
  have hr := B.returns
  have hts := atoms_spec (ws := (ws_ yX8_isTold cX8_isTold 2 (some .boolean))) B.pre
  have hts : ∀ w ∈ lw_all, w.before _ s = true := fun w h => hts w (List.mem_cons_of_mem _ h)
  have hown : s.vm.findClass RX8 = some m.cls := findClass_of_methodNamed B.named
  have hlocks := B.notSynchronized
  subst hsz
  have hD := hD0.self (sz := s.heap.size)
  generalize hAe : va_A [] s.heap.size = A at hD hR hX hE ⊢
  have hA : ∀ q : Nat, s.heap.size ≤ q → A q := fun q h => by rw [← hAe]; exact Or.inr h
  have hS : va_S A s.heap s.heap [] := va_S.rf
  have hK := hE.1
  have hl := lv_entry ([.ref h0, .int p0]) (n := 2) (Nat.le_of_ble_eq_true rfl)
  rw [lg_entry_eq]
  generalize (lg_sl ([.ref h0, .int p0]) ++ List.replicate (2 - (lg_sl ([.ref h0, .int p0])).length) Slot.unset).toArray = ls at hl ⊢
  have hl : lv_has ls 2 [(0, .ref h0), (1, .int p0)] := hl
  have hP : va_P D tkCl [] s.heap := hP
  unfold fX8_isTold at hF
  refine lv_aload_n hx hb dX8_isTold_0 rfl (lv_at hl 0 rfl) ?_
  refine va_getN (D := D) (ci := 6) (v := .int told) (C := RX8) (T := TX8) (N := 11) hx hb hts in_X8 hown hK (hR.at hS) 0 rfl rfl 5 (by decide) (hE.2.1.use q607 rfl rfl) (fun _ h9 => h9) rfl dX8_isTold_1 ?_
  refine lv_iload_n hx hb dX8_isTold_4 rfl (lv_at hl 1 rfl) ?_
  refine lv_ishr hx hb dX8_isTold_5 ?_
  refine lv_iconst (v := 1) hx hb dX8_isTold_6 (by decide) ?_
  refine lv_iand hx hb dX8_isTold_7 ?_
  refine lv_iconst (v := 1) hx hb dX8_isTold_8 (by decide) ?_
  refine lv_icmp_ne (tgt := 16) hx hb dX8_isTold_9 (by decide) (fun c1 => ?_) (fun c1 => ?_)
  · have hF := tk_pf hF c1
    refine lv_iconst (v := 0) hx hb dX8_isTold_16 (by decide) ?_
    have eo := tk_pr hF
    subst eo
    exact W.zret (v := 0) hx hb hr (by decide) (fun t ht hW => ⟨⟨_, (), rfl, rfl, tk_pst ht hP hD⟩, hS.F ht⟩) hS.2.2 dX8_isTold_17
  · have hF := tk_pt hF c1
    refine lv_iconst (v := 1) hx hb dX8_isTold_12 (by decide) ?_
    refine lv_goto (tgt := 17) hx hb dX8_isTold_13 (by decide) ?_
    have eo := tk_pr hF
    subst eo
    exact W.zret (v := 1) hx hb hr (by decide) (fun t ht hW => ⟨⟨_, (), rfl, rfl, tk_pst ht hP hD⟩, hS.F ht⟩) hS.2.2 dX8_isTold_17
set_option maxHeartbeats 4000000 in
theorem mX8_thing (l : Launch) (D : va_G) (ar : Nat → ClassId) (ad : Nat → Nat → Nat) (xs : va_W) (sz : Nat) (h0 : Nat) (i0 : Nat → Int32) (v0 : Nat → Value) (r0 r1 : Nat → Nat) (i1 : Nat → Int32) (r2 : Nat → Nat) (i2 i3 : Nat → Int32) (v3 : Nat → Value) (size : Int32) (tape : Nat → Int32) (columns rows sort v_at v_to v_value hasThings flags kind place : Int32) (stones heaps flagCell : Nat → Int32) (o : (Int32 × Int32 × Int32 × Int32 × Int32 × Int32 × Int32 × Int32 × (Nat → Int32) × (Nat → Int32) × (Nat → Int32)) ⊕ (Int32 × Int32 × Int32 × Int32 × Int32 × Int32 × Int32 × Int32 × (Nat → Int32) × (Nat → Int32) × (Nat → Int32))) (hF : fX8_thing size tape columns rows sort v_at v_to v_value hasThings flags kind place stones heaps flagCell = some o) : tx_Met l yX8_thing (ws_ yX8_thing cX8_thing 7 none) ({ frames := 5, cells := 0, slots := 0, locals := 107 }) (va_Pc [.ref h0] (tk_Pre D ar ad [(h0, .inr (6, oX8 (tu (tu (tu (tu (tu (tu i0 0 size) 1 sort) 2 v_at) 3 v_to) 4 v_value) 9 hasThings) (tuv (tuv (tuv v0 6 (.ref (r0 10))) 7 (.ref (r0 7))) 10 (.ref (r0 10))))), ((r0 7), .inr (2, oX2 r2 (tu (tu (tu i2 0 columns) 1 rows) 5 flags))), ((r1 0), .inr (1, oX1 (tu (tu i3 6 kind) 7 place) v3)), ((r2 10), .inl (ar 2, 64, .inl stones)), ((r2 8), .inl (ar 0, 64, .inl heaps)), ((r2 9), .inl (ar 0, 3, .inl flagCell))] [((r0 10), .inr (0, oX0 r1 i1)), ((r1 1), .inl (ar 1, 900, .inl tape))] xs sz)) (va_Qv (fun z : Int32 × Int32 × Int32 × Int32 × Int32 × Int32 × Int32 × Int32 × (Nat → Int32) × (Nat → Int32) × (Nat → Int32) => o = .inl z) (fun z t => tk_Post D (va_A [(h0, .inr (6, oX8 (tu (tu (tu (tu (tu (tu i0 0 size) 1 sort) 2 v_at) 3 v_to) 4 v_value) 9 hasThings) (tuv (tuv (tuv v0 6 (.ref (r0 10))) 7 (.ref (r0 7))) 10 (.ref (r0 10))))), ((r0 7), .inr (2, oX2 r2 (tu (tu (tu i2 0 columns) 1 rows) 5 flags))), ((r1 0), .inr (1, oX1 (tu (tu i3 6 kind) 7 place) v3)), ((r2 10), .inl (ar 2, 64, .inl stones)), ((r2 8), .inl (ar 0, 64, .inl heaps)), ((r2 9), .inl (ar 0, 3, .inl flagCell))] sz) [(h0, .inr (6, oX8 (tu (tu (tu (tu (tu (tu i0 0 size) 1 z.1) 2 z.2.1) 3 z.2.2.1) 4 z.2.2.2.1) 9 z.2.2.2.2.1) (tuv (tuv (tuv v0 6 (.ref (r0 10))) 7 (.ref (r0 7))) 10 (.ref (r0 10))))), ((r0 7), .inr (2, oX2 r2 (tu (tu (tu i2 0 columns) 1 rows) 5 z.2.2.2.2.2.1))), ((r1 0), .inr (1, oX1 (tu (tu i3 6 z.2.2.2.2.2.2.1) 7 z.2.2.2.2.2.2.2.1) v3)), ((r2 10), .inl (ar 2, 64, .inl z.2.2.2.2.2.2.2.2.1)), ((r2 8), .inl (ar 0, 64, .inl z.2.2.2.2.2.2.2.2.2.1)), ((r2 9), .inl (ar 0, 3, .inl z.2.2.2.2.2.2.2.2.2.2))] t) (va_A [(h0, .inr (6, oX8 (tu (tu (tu (tu (tu (tu i0 0 size) 1 sort) 2 v_at) 3 v_to) 4 v_value) 9 hasThings) (tuv (tuv (tuv v0 6 (.ref (r0 10))) 7 (.ref (r0 7))) 10 (.ref (r0 10))))), ((r0 7), .inr (2, oX2 r2 (tu (tu (tu i2 0 columns) 1 rows) 5 flags))), ((r1 0), .inr (1, oX1 (tu (tu i3 6 kind) 7 place) v3)), ((r2 10), .inl (ar 2, 64, .inl stones)), ((r2 8), .inl (ar 0, 64, .inl heaps)), ((r2 9), .inl (ar 0, 3, .inl flagCell))] sz)) (tx_X (fun z : Int32 × Int32 × Int32 × Int32 × Int32 × Int32 × Int32 × Int32 × (Nat → Int32) × (Nat → Int32) × (Nat → Int32) => o = .inr z) (fun q9 E9 z t => q9 = (r1 0) ∧ E9 = "TideKeep$Wrong" ∧ tk_Post D (va_A [(h0, .inr (6, oX8 (tu (tu (tu (tu (tu (tu i0 0 size) 1 sort) 2 v_at) 3 v_to) 4 v_value) 9 hasThings) (tuv (tuv (tuv v0 6 (.ref (r0 10))) 7 (.ref (r0 7))) 10 (.ref (r0 10))))), ((r0 7), .inr (2, oX2 r2 (tu (tu (tu i2 0 columns) 1 rows) 5 flags))), ((r1 0), .inr (1, oX1 (tu (tu i3 6 kind) 7 place) v3)), ((r2 10), .inl (ar 2, 64, .inl stones)), ((r2 8), .inl (ar 0, 64, .inl heaps)), ((r2 9), .inl (ar 0, 3, .inl flagCell))] sz) [(h0, .inr (6, oX8 (tu (tu (tu (tu (tu (tu i0 0 size) 1 z.1) 2 z.2.1) 3 z.2.2.1) 4 z.2.2.2.1) 9 z.2.2.2.2.1) (tuv (tuv (tuv v0 6 (.ref (r0 10))) 7 (.ref (r0 7))) 10 (.ref (r0 10))))), ((r0 7), .inr (2, oX2 r2 (tu (tu (tu i2 0 columns) 1 rows) 5 z.2.2.2.2.2.1))), ((r1 0), .inr (1, oX1 (tu (tu i3 6 z.2.2.2.2.2.2.1) 7 z.2.2.2.2.2.2.2.1) v3)), ((r2 10), .inl (ar 2, 64, .inl z.2.2.2.2.2.2.2.2.1)), ((r2 8), .inl (ar 0, 64, .inl z.2.2.2.2.2.2.2.2.2.1)), ((r2 9), .inl (ar 0, 3, .inl z.2.2.2.2.2.2.2.2.2.2))] t) (va_A [(h0, .inr (6, oX8 (tu (tu (tu (tu (tu (tu i0 0 size) 1 sort) 2 v_at) 3 v_to) 4 v_value) 9 hasThings) (tuv (tuv (tuv v0 6 (.ref (r0 10))) 7 (.ref (r0 7))) 10 (.ref (r0 10))))), ((r0 7), .inr (2, oX2 r2 (tu (tu (tu i2 0 columns) 1 rows) 5 flags))), ((r1 0), .inr (1, oX1 (tu (tu i3 6 kind) 7 place) v3)), ((r2 10), .inl (ar 2, 64, .inl stones)), ((r2 8), .inl (ar 0, 64, .inl heaps)), ((r2 9), .inl (ar 0, 3, .inl flagCell))] sz)) 0 0 (va_A [(h0, .inr (6, oX8 (tu (tu (tu (tu (tu (tu i0 0 size) 1 sort) 2 v_at) 3 v_to) 4 v_value) 9 hasThings) (tuv (tuv (tuv v0 6 (.ref (r0 10))) 7 (.ref (r0 7))) 10 (.ref (r0 10))))), ((r0 7), .inr (2, oX2 r2 (tu (tu (tu i2 0 columns) 1 rows) 5 flags))), ((r1 0), .inr (1, oX1 (tu (tu i3 6 kind) 7 place) v3)), ((r2 10), .inl (ar 2, 64, .inl stones)), ((r2 8), .inl (ar 0, 64, .inl heaps)), ((r2 9), .inl (ar 0, 3, .inl flagCell))] sz) := by
  refine tx_ofW (cc := cX8_thing) (maxL := 7) (ret := none) (by decide) rfl ?_
  intro p e s m args below meth c s₁ B hml htab hv
  obtain ⟨rfl, hsz, hP, hD0, hR, hX, hE⟩ := hv
  have hx := B.exec
  have hb := B.bytes
  have hr := B.returns
  have hts := atoms_spec (ws := (ws_ yX8_thing cX8_thing 7 none)) B.pre
  have hts : ∀ w ∈ lw_all, w.before _ s = true := fun w h => hts w (List.mem_cons_of_mem _ h)
  have hown : s.vm.findClass RX8 = some m.cls := findClass_of_methodNamed B.named
  have hlocks := B.notSynchronized
  subst hsz
  have hD := hD0.self (sz := s.heap.size)
  generalize hAe : va_A [(h0, .inr (6, oX8 (tu (tu (tu (tu (tu (tu i0 0 size) 1 sort) 2 v_at) 3 v_to) 4 v_value) 9 hasThings) (tuv (tuv (tuv v0 6 (.ref (r0 10))) 7 (.ref (r0 7))) 10 (.ref (r0 10))))), ((r0 7), .inr (2, oX2 r2 (tu (tu (tu i2 0 columns) 1 rows) 5 flags))), ((r1 0), .inr (1, oX1 (tu (tu i3 6 kind) 7 place) v3)), ((r2 10), .inl (ar 2, 64, .inl stones)), ((r2 8), .inl (ar 0, 64, .inl heaps)), ((r2 9), .inl (ar 0, 3, .inl flagCell))] s.heap.size = A at hD hR hX hE ⊢
  have hA : ∀ q : Nat, s.heap.size ≤ q → A q := fun q h => by rw [← hAe]; exact Or.inr h
  have hS : va_S A s.heap s.heap [] := va_S.rf
  have hK := hE.1
  have hl := lv_entry ([.ref h0]) (n := 7) (Nat.le_of_ble_eq_true rfl)
  rw [lg_entry_eq]
  generalize (lg_sl ([.ref h0]) ++ List.replicate (7 - (lg_sl ([.ref h0])).length) Slot.unset).toArray = ls at hl ⊢
  have hl : lv_has ls 7 [(0, .ref h0)] := hl
  have hP : va_P D tkCl [(h0, .inr (6, oX8 (tu (tu (tu (tu (tu (tu i0 0 size) 1 sort) 2 v_at) 3 v_to) 4 v_value) 9 hasThings) (tuv (tuv (tuv v0 6 (.ref (r0 10))) 7 (.ref (r0 7))) 10 (.ref (r0 10))))), ((r0 7), .inr (2, oX2 r2 (tu (tu (tu i2 0 columns) 1 rows) 5 flags))), ((r1 0), .inr (1, oX1 (tu (tu i3 6 kind) 7 place) v3)), ((r2 10), .inl (ar 2, 64, .inl stones)), ((r2 8), .inl (ar 0, 64, .inl heaps)), ((r2 9), .inl (ar 0, 3, .inl flagCell))] s.heap := hP
  obtain ⟨n0, hF⟩ : ∃ n, tk_k (stX8_thing size tape columns rows) n (bX8_thing_0 size tape columns rows sort v_at v_to v_value hasThings flags kind place stones heaps flagCell) = some o := tk_fin_it hF
  have key : ∀ n : Nat, (∀ (x1 x2 sort v_at v_to v_value hasThings flags kind place : Int32) (stones heaps flagCell : Nat → Int32) (H : Heap) (locs : List Loc) (ls : Array Slot), tk_it (stX8_thing size tape columns rows) n (1, (x1, x2, 0, 0, 0, 0, 0, sort, v_at, v_to, v_value, hasThings, flags, kind, place, stones, heaps, flagCell)) = some o → va_P D tkCl [(h0, .inr (6, oX8 (tu (tu (tu (tu (tu (tu i0 0 size) 1 sort) 2 v_at) 3 v_to) 4 v_value) 9 hasThings) (tuv (tuv (tuv v0 6 (.ref (r0 10))) 7 (.ref (r0 7))) 10 (.ref (r0 10))))), ((r0 7), .inr (2, oX2 r2 (tu (tu (tu i2 0 columns) 1 rows) 5 flags))), ((r1 0), .inr (1, oX1 (tu (tu i3 6 kind) 7 place) v3)), ((r2 10), .inl (ar 2, 64, .inl stones)), ((r2 8), .inl (ar 0, 64, .inl heaps)), ((r2 9), .inl (ar 0, 3, .inl flagCell))] H → va_D A [(h0, .inr (6, oX8 (tu (tu (tu (tu (tu (tu i0 0 size) 1 sort) 2 v_at) 3 v_to) 4 v_value) 9 hasThings) (tuv (tuv (tuv v0 6 (.ref (r0 10))) 7 (.ref (r0 7))) 10 (.ref (r0 10))))), ((r0 7), .inr (2, oX2 r2 (tu (tu (tu i2 0 columns) 1 rows) 5 flags))), ((r1 0), .inr (1, oX1 (tu (tu i3 6 kind) 7 place) v3)), ((r2 10), .inl (ar 2, 64, .inl stones)), ((r2 8), .inl (ar 0, 64, .inl heaps)), ((r2 9), .inl (ar 0, 3, .inl flagCell))] → va_S A s.heap H locs → lv_has ls 7 [(0, .ref h0), (1, .int x1), (2, .int x2)] → W p l e (headSpec (ws_ yX8_thing cX8_thing 7 none) ({ frames := 5, cells := 0, slots := 0, locals := 107 })).room s m ([.ref h0] : List Value).toArray below meth c H locs 0 0 (tx_MQ below (va_Qv (fun z : Int32 × Int32 × Int32 × Int32 × Int32 × Int32 × Int32 × Int32 × (Nat → Int32) × (Nat → Int32) × (Nat → Int32) => o = .inl z) (fun z t => tk_Post D A [(h0, .inr (6, oX8 (tu (tu (tu (tu (tu (tu i0 0 size) 1 z.1) 2 z.2.1) 3 z.2.2.1) 4 z.2.2.2.1) 9 z.2.2.2.2.1) (tuv (tuv (tuv v0 6 (.ref (r0 10))) 7 (.ref (r0 7))) 10 (.ref (r0 10))))), ((r0 7), .inr (2, oX2 r2 (tu (tu (tu i2 0 columns) 1 rows) 5 z.2.2.2.2.2.1))), ((r1 0), .inr (1, oX1 (tu (tu i3 6 z.2.2.2.2.2.2.1) 7 z.2.2.2.2.2.2.2.1) v3)), ((r2 10), .inl (ar 2, 64, .inl z.2.2.2.2.2.2.2.2.1)), ((r2 8), .inl (ar 0, 64, .inl z.2.2.2.2.2.2.2.2.2.1)), ((r2 9), .inl (ar 0, 3, .inl z.2.2.2.2.2.2.2.2.2.2))] t) A) (tx_X (fun z : Int32 × Int32 × Int32 × Int32 × Int32 × Int32 × Int32 × Int32 × (Nat → Int32) × (Nat → Int32) × (Nat → Int32) => o = .inr z) (fun q9 E9 z t => q9 = (r1 0) ∧ E9 = "TideKeep$Wrong" ∧ tk_Post D A [(h0, .inr (6, oX8 (tu (tu (tu (tu (tu (tu i0 0 size) 1 z.1) 2 z.2.1) 3 z.2.2.1) 4 z.2.2.2.1) 9 z.2.2.2.2.1) (tuv (tuv (tuv v0 6 (.ref (r0 10))) 7 (.ref (r0 7))) 10 (.ref (r0 10))))), ((r0 7), .inr (2, oX2 r2 (tu (tu (tu i2 0 columns) 1 rows) 5 z.2.2.2.2.2.1))), ((r1 0), .inr (1, oX1 (tu (tu i3 6 z.2.2.2.2.2.2.1) 7 z.2.2.2.2.2.2.2.1) v3)), ((r2 10), .inl (ar 2, 64, .inl z.2.2.2.2.2.2.2.2.1)), ((r2 8), .inl (ar 0, 64, .inl z.2.2.2.2.2.2.2.2.2.1)), ((r2 9), .inl (ar 0, 3, .inl z.2.2.2.2.2.2.2.2.2.2))] t) A) ([.ref h0] : List Value).toArray s 0 0 A) (F0 m 34 ls [.ref h0])) ∧ (∀ (x1 x2 s1 sort v_at v_to v_value hasThings flags kind place : Int32) (stones heaps flagCell : Nat → Int32) (H : Heap) (locs : List Loc) (ls : Array Slot), tk_it (stX8_thing size tape columns rows) n (2, (x1, x2, s1, 0, 0, 0, 0, sort, v_at, v_to, v_value, hasThings, flags, kind, place, stones, heaps, flagCell)) = some o → va_P D tkCl [(h0, .inr (6, oX8 (tu (tu (tu (tu (tu (tu i0 0 size) 1 sort) 2 v_at) 3 v_to) 4 v_value) 9 hasThings) (tuv (tuv (tuv v0 6 (.ref (r0 10))) 7 (.ref (r0 7))) 10 (.ref (r0 10))))), ((r0 7), .inr (2, oX2 r2 (tu (tu (tu i2 0 columns) 1 rows) 5 flags))), ((r1 0), .inr (1, oX1 (tu (tu i3 6 kind) 7 place) v3)), ((r2 10), .inl (ar 2, 64, .inl stones)), ((r2 8), .inl (ar 0, 64, .inl heaps)), ((r2 9), .inl (ar 0, 3, .inl flagCell))] H → va_D A [(h0, .inr (6, oX8 (tu (tu (tu (tu (tu (tu i0 0 size) 1 sort) 2 v_at) 3 v_to) 4 v_value) 9 hasThings) (tuv (tuv (tuv v0 6 (.ref (r0 10))) 7 (.ref (r0 7))) 10 (.ref (r0 10))))), ((r0 7), .inr (2, oX2 r2 (tu (tu (tu i2 0 columns) 1 rows) 5 flags))), ((r1 0), .inr (1, oX1 (tu (tu i3 6 kind) 7 place) v3)), ((r2 10), .inl (ar 2, 64, .inl stones)), ((r2 8), .inl (ar 0, 64, .inl heaps)), ((r2 9), .inl (ar 0, 3, .inl flagCell))] → va_S A s.heap H locs → lv_has ls 7 [(0, .ref h0), (1, .int x1), (2, .int x2)] → W p l e (headSpec (ws_ yX8_thing cX8_thing 7 none) ({ frames := 5, cells := 0, slots := 0, locals := 107 })).room s m ([.ref h0] : List Value).toArray below meth c H locs 0 0 (tx_MQ below (va_Qv (fun z : Int32 × Int32 × Int32 × Int32 × Int32 × Int32 × Int32 × Int32 × (Nat → Int32) × (Nat → Int32) × (Nat → Int32) => o = .inl z) (fun z t => tk_Post D A [(h0, .inr (6, oX8 (tu (tu (tu (tu (tu (tu i0 0 size) 1 z.1) 2 z.2.1) 3 z.2.2.1) 4 z.2.2.2.1) 9 z.2.2.2.2.1) (tuv (tuv (tuv v0 6 (.ref (r0 10))) 7 (.ref (r0 7))) 10 (.ref (r0 10))))), ((r0 7), .inr (2, oX2 r2 (tu (tu (tu i2 0 columns) 1 rows) 5 z.2.2.2.2.2.1))), ((r1 0), .inr (1, oX1 (tu (tu i3 6 z.2.2.2.2.2.2.1) 7 z.2.2.2.2.2.2.2.1) v3)), ((r2 10), .inl (ar 2, 64, .inl z.2.2.2.2.2.2.2.2.1)), ((r2 8), .inl (ar 0, 64, .inl z.2.2.2.2.2.2.2.2.2.1)), ((r2 9), .inl (ar 0, 3, .inl z.2.2.2.2.2.2.2.2.2.2))] t) A) (tx_X (fun z : Int32 × Int32 × Int32 × Int32 × Int32 × Int32 × Int32 × Int32 × (Nat → Int32) × (Nat → Int32) × (Nat → Int32) => o = .inr z) (fun q9 E9 z t => q9 = (r1 0) ∧ E9 = "TideKeep$Wrong" ∧ tk_Post D A [(h0, .inr (6, oX8 (tu (tu (tu (tu (tu (tu i0 0 size) 1 z.1) 2 z.2.1) 3 z.2.2.1) 4 z.2.2.2.1) 9 z.2.2.2.2.1) (tuv (tuv (tuv v0 6 (.ref (r0 10))) 7 (.ref (r0 7))) 10 (.ref (r0 10))))), ((r0 7), .inr (2, oX2 r2 (tu (tu (tu i2 0 columns) 1 rows) 5 z.2.2.2.2.2.1))), ((r1 0), .inr (1, oX1 (tu (tu i3 6 z.2.2.2.2.2.2.1) 7 z.2.2.2.2.2.2.2.1) v3)), ((r2 10), .inl (ar 2, 64, .inl z.2.2.2.2.2.2.2.2.1)), ((r2 8), .inl (ar 0, 64, .inl z.2.2.2.2.2.2.2.2.2.1)), ((r2 9), .inl (ar 0, 3, .inl z.2.2.2.2.2.2.2.2.2.2))] t) A) ([.ref h0] : List Value).toArray s 0 0 A) (F0 m 39 ls [.int s1, .ref h0])) ∧ (∀ (x1 x2 s0 sort v_at v_to v_value hasThings flags kind place : Int32) (stones heaps flagCell : Nat → Int32) (H : Heap) (locs : List Loc) (ls : Array Slot), tk_it (stX8_thing size tape columns rows) n (3, (x1, x2, 0, s0, 0, 0, 0, sort, v_at, v_to, v_value, hasThings, flags, kind, place, stones, heaps, flagCell)) = some o → va_P D tkCl [(h0, .inr (6, oX8 (tu (tu (tu (tu (tu (tu i0 0 size) 1 sort) 2 v_at) 3 v_to) 4 v_value) 9 hasThings) (tuv (tuv (tuv v0 6 (.ref (r0 10))) 7 (.ref (r0 7))) 10 (.ref (r0 10))))), ((r0 7), .inr (2, oX2 r2 (tu (tu (tu i2 0 columns) 1 rows) 5 flags))), ((r1 0), .inr (1, oX1 (tu (tu i3 6 kind) 7 place) v3)), ((r2 10), .inl (ar 2, 64, .inl stones)), ((r2 8), .inl (ar 0, 64, .inl heaps)), ((r2 9), .inl (ar 0, 3, .inl flagCell))] H → va_D A [(h0, .inr (6, oX8 (tu (tu (tu (tu (tu (tu i0 0 size) 1 sort) 2 v_at) 3 v_to) 4 v_value) 9 hasThings) (tuv (tuv (tuv v0 6 (.ref (r0 10))) 7 (.ref (r0 7))) 10 (.ref (r0 10))))), ((r0 7), .inr (2, oX2 r2 (tu (tu (tu i2 0 columns) 1 rows) 5 flags))), ((r1 0), .inr (1, oX1 (tu (tu i3 6 kind) 7 place) v3)), ((r2 10), .inl (ar 2, 64, .inl stones)), ((r2 8), .inl (ar 0, 64, .inl heaps)), ((r2 9), .inl (ar 0, 3, .inl flagCell))] → va_S A s.heap H locs → lv_has ls 7 [(0, .ref h0), (1, .int x1), (2, .int x2)] → W p l e (headSpec (ws_ yX8_thing cX8_thing 7 none) ({ frames := 5, cells := 0, slots := 0, locals := 107 })).room s m ([.ref h0] : List Value).toArray below meth c H locs 0 0 (tx_MQ below (va_Qv (fun z : Int32 × Int32 × Int32 × Int32 × Int32 × Int32 × Int32 × Int32 × (Nat → Int32) × (Nat → Int32) × (Nat → Int32) => o = .inl z) (fun z t => tk_Post D A [(h0, .inr (6, oX8 (tu (tu (tu (tu (tu (tu i0 0 size) 1 z.1) 2 z.2.1) 3 z.2.2.1) 4 z.2.2.2.1) 9 z.2.2.2.2.1) (tuv (tuv (tuv v0 6 (.ref (r0 10))) 7 (.ref (r0 7))) 10 (.ref (r0 10))))), ((r0 7), .inr (2, oX2 r2 (tu (tu (tu i2 0 columns) 1 rows) 5 z.2.2.2.2.2.1))), ((r1 0), .inr (1, oX1 (tu (tu i3 6 z.2.2.2.2.2.2.1) 7 z.2.2.2.2.2.2.2.1) v3)), ((r2 10), .inl (ar 2, 64, .inl z.2.2.2.2.2.2.2.2.1)), ((r2 8), .inl (ar 0, 64, .inl z.2.2.2.2.2.2.2.2.2.1)), ((r2 9), .inl (ar 0, 3, .inl z.2.2.2.2.2.2.2.2.2.2))] t) A) (tx_X (fun z : Int32 × Int32 × Int32 × Int32 × Int32 × Int32 × Int32 × Int32 × (Nat → Int32) × (Nat → Int32) × (Nat → Int32) => o = .inr z) (fun q9 E9 z t => q9 = (r1 0) ∧ E9 = "TideKeep$Wrong" ∧ tk_Post D A [(h0, .inr (6, oX8 (tu (tu (tu (tu (tu (tu i0 0 size) 1 z.1) 2 z.2.1) 3 z.2.2.1) 4 z.2.2.2.1) 9 z.2.2.2.2.1) (tuv (tuv (tuv v0 6 (.ref (r0 10))) 7 (.ref (r0 7))) 10 (.ref (r0 10))))), ((r0 7), .inr (2, oX2 r2 (tu (tu (tu i2 0 columns) 1 rows) 5 z.2.2.2.2.2.1))), ((r1 0), .inr (1, oX1 (tu (tu i3 6 z.2.2.2.2.2.2.1) 7 z.2.2.2.2.2.2.2.1) v3)), ((r2 10), .inl (ar 2, 64, .inl z.2.2.2.2.2.2.2.2.1)), ((r2 8), .inl (ar 0, 64, .inl z.2.2.2.2.2.2.2.2.2.1)), ((r2 9), .inl (ar 0, 3, .inl z.2.2.2.2.2.2.2.2.2.2))] t) A) ([.ref h0] : List Value).toArray s 0 0 A) (F0 m 67 ls [.int s0])) ∧ (∀ (x3 x5 s1 sort v_at v_to v_value hasThings flags kind place : Int32) (stones heaps flagCell : Nat → Int32) (H : Heap) (locs : List Loc) (ls : Array Slot), tk_it (stX8_thing size tape columns rows) n (4, (0, 0, s1, 0, x3, x5, 0, sort, v_at, v_to, v_value, hasThings, flags, kind, place, stones, heaps, flagCell)) = some o → va_P D tkCl [(h0, .inr (6, oX8 (tu (tu (tu (tu (tu (tu i0 0 size) 1 sort) 2 v_at) 3 v_to) 4 v_value) 9 hasThings) (tuv (tuv (tuv v0 6 (.ref (r0 10))) 7 (.ref (r0 7))) 10 (.ref (r0 10))))), ((r0 7), .inr (2, oX2 r2 (tu (tu (tu i2 0 columns) 1 rows) 5 flags))), ((r1 0), .inr (1, oX1 (tu (tu i3 6 kind) 7 place) v3)), ((r2 10), .inl (ar 2, 64, .inl stones)), ((r2 8), .inl (ar 0, 64, .inl heaps)), ((r2 9), .inl (ar 0, 3, .inl flagCell))] H → va_D A [(h0, .inr (6, oX8 (tu (tu (tu (tu (tu (tu i0 0 size) 1 sort) 2 v_at) 3 v_to) 4 v_value) 9 hasThings) (tuv (tuv (tuv v0 6 (.ref (r0 10))) 7 (.ref (r0 7))) 10 (.ref (r0 10))))), ((r0 7), .inr (2, oX2 r2 (tu (tu (tu i2 0 columns) 1 rows) 5 flags))), ((r1 0), .inr (1, oX1 (tu (tu i3 6 kind) 7 place) v3)), ((r2 10), .inl (ar 2, 64, .inl stones)), ((r2 8), .inl (ar 0, 64, .inl heaps)), ((r2 9), .inl (ar 0, 3, .inl flagCell))] → va_S A s.heap H locs → lv_has ls 7 [(0, .ref h0), (3, .int x3), (5, .int x5)] → W p l e (headSpec (ws_ yX8_thing cX8_thing 7 none) ({ frames := 5, cells := 0, slots := 0, locals := 107 })).room s m ([.ref h0] : List Value).toArray below meth c H locs 0 0 (tx_MQ below (va_Qv (fun z : Int32 × Int32 × Int32 × Int32 × Int32 × Int32 × Int32 × Int32 × (Nat → Int32) × (Nat → Int32) × (Nat → Int32) => o = .inl z) (fun z t => tk_Post D A [(h0, .inr (6, oX8 (tu (tu (tu (tu (tu (tu i0 0 size) 1 z.1) 2 z.2.1) 3 z.2.2.1) 4 z.2.2.2.1) 9 z.2.2.2.2.1) (tuv (tuv (tuv v0 6 (.ref (r0 10))) 7 (.ref (r0 7))) 10 (.ref (r0 10))))), ((r0 7), .inr (2, oX2 r2 (tu (tu (tu i2 0 columns) 1 rows) 5 z.2.2.2.2.2.1))), ((r1 0), .inr (1, oX1 (tu (tu i3 6 z.2.2.2.2.2.2.1) 7 z.2.2.2.2.2.2.2.1) v3)), ((r2 10), .inl (ar 2, 64, .inl z.2.2.2.2.2.2.2.2.1)), ((r2 8), .inl (ar 0, 64, .inl z.2.2.2.2.2.2.2.2.2.1)), ((r2 9), .inl (ar 0, 3, .inl z.2.2.2.2.2.2.2.2.2.2))] t) A) (tx_X (fun z : Int32 × Int32 × Int32 × Int32 × Int32 × Int32 × Int32 × Int32 × (Nat → Int32) × (Nat → Int32) × (Nat → Int32) => o = .inr z) (fun q9 E9 z t => q9 = (r1 0) ∧ E9 = "TideKeep$Wrong" ∧ tk_Post D A [(h0, .inr (6, oX8 (tu (tu (tu (tu (tu (tu i0 0 size) 1 z.1) 2 z.2.1) 3 z.2.2.1) 4 z.2.2.2.1) 9 z.2.2.2.2.1) (tuv (tuv (tuv v0 6 (.ref (r0 10))) 7 (.ref (r0 7))) 10 (.ref (r0 10))))), ((r0 7), .inr (2, oX2 r2 (tu (tu (tu i2 0 columns) 1 rows) 5 z.2.2.2.2.2.1))), ((r1 0), .inr (1, oX1 (tu (tu i3 6 z.2.2.2.2.2.2.1) 7 z.2.2.2.2.2.2.2.1) v3)), ((r2 10), .inl (ar 2, 64, .inl z.2.2.2.2.2.2.2.2.1)), ((r2 8), .inl (ar 0, 64, .inl z.2.2.2.2.2.2.2.2.2.1)), ((r2 9), .inl (ar 0, 3, .inl z.2.2.2.2.2.2.2.2.2.2))] t) A) ([.ref h0] : List Value).toArray s 0 0 A) (F0 m 138 ls [.int s1, .ref h0])) ∧ (∀ (x5 s1 sort v_at v_to v_value hasThings flags kind place : Int32) (stones heaps flagCell : Nat → Int32) (H : Heap) (locs : List Loc) (ls : Array Slot), tk_it (stX8_thing size tape columns rows) n (5, (0, 0, s1, 0, 0, x5, 0, sort, v_at, v_to, v_value, hasThings, flags, kind, place, stones, heaps, flagCell)) = some o → va_P D tkCl [(h0, .inr (6, oX8 (tu (tu (tu (tu (tu (tu i0 0 size) 1 sort) 2 v_at) 3 v_to) 4 v_value) 9 hasThings) (tuv (tuv (tuv v0 6 (.ref (r0 10))) 7 (.ref (r0 7))) 10 (.ref (r0 10))))), ((r0 7), .inr (2, oX2 r2 (tu (tu (tu i2 0 columns) 1 rows) 5 flags))), ((r1 0), .inr (1, oX1 (tu (tu i3 6 kind) 7 place) v3)), ((r2 10), .inl (ar 2, 64, .inl stones)), ((r2 8), .inl (ar 0, 64, .inl heaps)), ((r2 9), .inl (ar 0, 3, .inl flagCell))] H → va_D A [(h0, .inr (6, oX8 (tu (tu (tu (tu (tu (tu i0 0 size) 1 sort) 2 v_at) 3 v_to) 4 v_value) 9 hasThings) (tuv (tuv (tuv v0 6 (.ref (r0 10))) 7 (.ref (r0 7))) 10 (.ref (r0 10))))), ((r0 7), .inr (2, oX2 r2 (tu (tu (tu i2 0 columns) 1 rows) 5 flags))), ((r1 0), .inr (1, oX1 (tu (tu i3 6 kind) 7 place) v3)), ((r2 10), .inl (ar 2, 64, .inl stones)), ((r2 8), .inl (ar 0, 64, .inl heaps)), ((r2 9), .inl (ar 0, 3, .inl flagCell))] → va_S A s.heap H locs → lv_has ls 7 [(0, .ref h0), (5, .int x5)] → W p l e (headSpec (ws_ yX8_thing cX8_thing 7 none) ({ frames := 5, cells := 0, slots := 0, locals := 107 })).room s m ([.ref h0] : List Value).toArray below meth c H locs 0 0 (tx_MQ below (va_Qv (fun z : Int32 × Int32 × Int32 × Int32 × Int32 × Int32 × Int32 × Int32 × (Nat → Int32) × (Nat → Int32) × (Nat → Int32) => o = .inl z) (fun z t => tk_Post D A [(h0, .inr (6, oX8 (tu (tu (tu (tu (tu (tu i0 0 size) 1 z.1) 2 z.2.1) 3 z.2.2.1) 4 z.2.2.2.1) 9 z.2.2.2.2.1) (tuv (tuv (tuv v0 6 (.ref (r0 10))) 7 (.ref (r0 7))) 10 (.ref (r0 10))))), ((r0 7), .inr (2, oX2 r2 (tu (tu (tu i2 0 columns) 1 rows) 5 z.2.2.2.2.2.1))), ((r1 0), .inr (1, oX1 (tu (tu i3 6 z.2.2.2.2.2.2.1) 7 z.2.2.2.2.2.2.2.1) v3)), ((r2 10), .inl (ar 2, 64, .inl z.2.2.2.2.2.2.2.2.1)), ((r2 8), .inl (ar 0, 64, .inl z.2.2.2.2.2.2.2.2.2.1)), ((r2 9), .inl (ar 0, 3, .inl z.2.2.2.2.2.2.2.2.2.2))] t) A) (tx_X (fun z : Int32 × Int32 × Int32 × Int32 × Int32 × Int32 × Int32 × Int32 × (Nat → Int32) × (Nat → Int32) × (Nat → Int32) => o = .inr z) (fun q9 E9 z t => q9 = (r1 0) ∧ E9 = "TideKeep$Wrong" ∧ tk_Post D A [(h0, .inr (6, oX8 (tu (tu (tu (tu (tu (tu i0 0 size) 1 z.1) 2 z.2.1) 3 z.2.2.1) 4 z.2.2.2.1) 9 z.2.2.2.2.1) (tuv (tuv (tuv v0 6 (.ref (r0 10))) 7 (.ref (r0 7))) 10 (.ref (r0 10))))), ((r0 7), .inr (2, oX2 r2 (tu (tu (tu i2 0 columns) 1 rows) 5 z.2.2.2.2.2.1))), ((r1 0), .inr (1, oX1 (tu (tu i3 6 z.2.2.2.2.2.2.1) 7 z.2.2.2.2.2.2.2.1) v3)), ((r2 10), .inl (ar 2, 64, .inl z.2.2.2.2.2.2.2.2.1)), ((r2 8), .inl (ar 0, 64, .inl z.2.2.2.2.2.2.2.2.2.1)), ((r2 9), .inl (ar 0, 3, .inl z.2.2.2.2.2.2.2.2.2.2))] t) A) ([.ref h0] : List Value).toArray s 0 0 A) (F0 m 182 ls [.int s1, .ref h0])) ∧ (∀ (x5 x6 sort v_at v_to v_value hasThings flags kind place : Int32) (stones heaps flagCell : Nat → Int32) (H : Heap) (locs : List Loc) (ls : Array Slot), tk_it (stX8_thing size tape columns rows) n (6, (0, 0, 0, 0, 0, x5, x6, sort, v_at, v_to, v_value, hasThings, flags, kind, place, stones, heaps, flagCell)) = some o → va_P D tkCl [(h0, .inr (6, oX8 (tu (tu (tu (tu (tu (tu i0 0 size) 1 sort) 2 v_at) 3 v_to) 4 v_value) 9 hasThings) (tuv (tuv (tuv v0 6 (.ref (r0 10))) 7 (.ref (r0 7))) 10 (.ref (r0 10))))), ((r0 7), .inr (2, oX2 r2 (tu (tu (tu i2 0 columns) 1 rows) 5 flags))), ((r1 0), .inr (1, oX1 (tu (tu i3 6 kind) 7 place) v3)), ((r2 10), .inl (ar 2, 64, .inl stones)), ((r2 8), .inl (ar 0, 64, .inl heaps)), ((r2 9), .inl (ar 0, 3, .inl flagCell))] H → va_D A [(h0, .inr (6, oX8 (tu (tu (tu (tu (tu (tu i0 0 size) 1 sort) 2 v_at) 3 v_to) 4 v_value) 9 hasThings) (tuv (tuv (tuv v0 6 (.ref (r0 10))) 7 (.ref (r0 7))) 10 (.ref (r0 10))))), ((r0 7), .inr (2, oX2 r2 (tu (tu (tu i2 0 columns) 1 rows) 5 flags))), ((r1 0), .inr (1, oX1 (tu (tu i3 6 kind) 7 place) v3)), ((r2 10), .inl (ar 2, 64, .inl stones)), ((r2 8), .inl (ar 0, 64, .inl heaps)), ((r2 9), .inl (ar 0, 3, .inl flagCell))] → va_S A s.heap H locs → lv_has ls 7 [(0, .ref h0), (5, .int x5), (6, .int x6)] → W p l e (headSpec (ws_ yX8_thing cX8_thing 7 none) ({ frames := 5, cells := 0, slots := 0, locals := 107 })).room s m ([.ref h0] : List Value).toArray below meth c H locs 0 0 (tx_MQ below (va_Qv (fun z : Int32 × Int32 × Int32 × Int32 × Int32 × Int32 × Int32 × Int32 × (Nat → Int32) × (Nat → Int32) × (Nat → Int32) => o = .inl z) (fun z t => tk_Post D A [(h0, .inr (6, oX8 (tu (tu (tu (tu (tu (tu i0 0 size) 1 z.1) 2 z.2.1) 3 z.2.2.1) 4 z.2.2.2.1) 9 z.2.2.2.2.1) (tuv (tuv (tuv v0 6 (.ref (r0 10))) 7 (.ref (r0 7))) 10 (.ref (r0 10))))), ((r0 7), .inr (2, oX2 r2 (tu (tu (tu i2 0 columns) 1 rows) 5 z.2.2.2.2.2.1))), ((r1 0), .inr (1, oX1 (tu (tu i3 6 z.2.2.2.2.2.2.1) 7 z.2.2.2.2.2.2.2.1) v3)), ((r2 10), .inl (ar 2, 64, .inl z.2.2.2.2.2.2.2.2.1)), ((r2 8), .inl (ar 0, 64, .inl z.2.2.2.2.2.2.2.2.2.1)), ((r2 9), .inl (ar 0, 3, .inl z.2.2.2.2.2.2.2.2.2.2))] t) A) (tx_X (fun z : Int32 × Int32 × Int32 × Int32 × Int32 × Int32 × Int32 × Int32 × (Nat → Int32) × (Nat → Int32) × (Nat → Int32) => o = .inr z) (fun q9 E9 z t => q9 = (r1 0) ∧ E9 = "TideKeep$Wrong" ∧ tk_Post D A [(h0, .inr (6, oX8 (tu (tu (tu (tu (tu (tu i0 0 size) 1 z.1) 2 z.2.1) 3 z.2.2.1) 4 z.2.2.2.1) 9 z.2.2.2.2.1) (tuv (tuv (tuv v0 6 (.ref (r0 10))) 7 (.ref (r0 7))) 10 (.ref (r0 10))))), ((r0 7), .inr (2, oX2 r2 (tu (tu (tu i2 0 columns) 1 rows) 5 z.2.2.2.2.2.1))), ((r1 0), .inr (1, oX1 (tu (tu i3 6 z.2.2.2.2.2.2.1) 7 z.2.2.2.2.2.2.2.1) v3)), ((r2 10), .inl (ar 2, 64, .inl z.2.2.2.2.2.2.2.2.1)), ((r2 8), .inl (ar 0, 64, .inl z.2.2.2.2.2.2.2.2.2.1)), ((r2 9), .inl (ar 0, 3, .inl z.2.2.2.2.2.2.2.2.2.2))] t) A) ([.ref h0] : List Value).toArray s 0 0 A) (F0 m 203 ls [])) ∧ (∀ (x5 x6 s1 sort v_at v_to v_value hasThings flags kind place : Int32) (stones heaps flagCell : Nat → Int32) (H : Heap) (locs : List Loc) (ls : Array Slot), tk_it (stX8_thing size tape columns rows) n (7, (0, 0, s1, 0, 0, x5, x6, sort, v_at, v_to, v_value, hasThings, flags, kind, place, stones, heaps, flagCell)) = some o → va_P D tkCl [(h0, .inr (6, oX8 (tu (tu (tu (tu (tu (tu i0 0 size) 1 sort) 2 v_at) 3 v_to) 4 v_value) 9 hasThings) (tuv (tuv (tuv v0 6 (.ref (r0 10))) 7 (.ref (r0 7))) 10 (.ref (r0 10))))), ((r0 7), .inr (2, oX2 r2 (tu (tu (tu i2 0 columns) 1 rows) 5 flags))), ((r1 0), .inr (1, oX1 (tu (tu i3 6 kind) 7 place) v3)), ((r2 10), .inl (ar 2, 64, .inl stones)), ((r2 8), .inl (ar 0, 64, .inl heaps)), ((r2 9), .inl (ar 0, 3, .inl flagCell))] H → va_D A [(h0, .inr (6, oX8 (tu (tu (tu (tu (tu (tu i0 0 size) 1 sort) 2 v_at) 3 v_to) 4 v_value) 9 hasThings) (tuv (tuv (tuv v0 6 (.ref (r0 10))) 7 (.ref (r0 7))) 10 (.ref (r0 10))))), ((r0 7), .inr (2, oX2 r2 (tu (tu (tu i2 0 columns) 1 rows) 5 flags))), ((r1 0), .inr (1, oX1 (tu (tu i3 6 kind) 7 place) v3)), ((r2 10), .inl (ar 2, 64, .inl stones)), ((r2 8), .inl (ar 0, 64, .inl heaps)), ((r2 9), .inl (ar 0, 3, .inl flagCell))] → va_S A s.heap H locs → lv_has ls 7 [(0, .ref h0), (5, .int x5), (6, .int x6)] → W p l e (headSpec (ws_ yX8_thing cX8_thing 7 none) ({ frames := 5, cells := 0, slots := 0, locals := 107 })).room s m ([.ref h0] : List Value).toArray below meth c H locs 0 0 (tx_MQ below (va_Qv (fun z : Int32 × Int32 × Int32 × Int32 × Int32 × Int32 × Int32 × Int32 × (Nat → Int32) × (Nat → Int32) × (Nat → Int32) => o = .inl z) (fun z t => tk_Post D A [(h0, .inr (6, oX8 (tu (tu (tu (tu (tu (tu i0 0 size) 1 z.1) 2 z.2.1) 3 z.2.2.1) 4 z.2.2.2.1) 9 z.2.2.2.2.1) (tuv (tuv (tuv v0 6 (.ref (r0 10))) 7 (.ref (r0 7))) 10 (.ref (r0 10))))), ((r0 7), .inr (2, oX2 r2 (tu (tu (tu i2 0 columns) 1 rows) 5 z.2.2.2.2.2.1))), ((r1 0), .inr (1, oX1 (tu (tu i3 6 z.2.2.2.2.2.2.1) 7 z.2.2.2.2.2.2.2.1) v3)), ((r2 10), .inl (ar 2, 64, .inl z.2.2.2.2.2.2.2.2.1)), ((r2 8), .inl (ar 0, 64, .inl z.2.2.2.2.2.2.2.2.2.1)), ((r2 9), .inl (ar 0, 3, .inl z.2.2.2.2.2.2.2.2.2.2))] t) A) (tx_X (fun z : Int32 × Int32 × Int32 × Int32 × Int32 × Int32 × Int32 × Int32 × (Nat → Int32) × (Nat → Int32) × (Nat → Int32) => o = .inr z) (fun q9 E9 z t => q9 = (r1 0) ∧ E9 = "TideKeep$Wrong" ∧ tk_Post D A [(h0, .inr (6, oX8 (tu (tu (tu (tu (tu (tu i0 0 size) 1 z.1) 2 z.2.1) 3 z.2.2.1) 4 z.2.2.2.1) 9 z.2.2.2.2.1) (tuv (tuv (tuv v0 6 (.ref (r0 10))) 7 (.ref (r0 7))) 10 (.ref (r0 10))))), ((r0 7), .inr (2, oX2 r2 (tu (tu (tu i2 0 columns) 1 rows) 5 z.2.2.2.2.2.1))), ((r1 0), .inr (1, oX1 (tu (tu i3 6 z.2.2.2.2.2.2.1) 7 z.2.2.2.2.2.2.2.1) v3)), ((r2 10), .inl (ar 2, 64, .inl z.2.2.2.2.2.2.2.2.1)), ((r2 8), .inl (ar 0, 64, .inl z.2.2.2.2.2.2.2.2.2.1)), ((r2 9), .inl (ar 0, 3, .inl z.2.2.2.2.2.2.2.2.2.2))] t) A) ([.ref h0] : List Value).toArray s 0 0 A) (F0 m 236 ls [.int s1, .ref h0])) ∧ (∀ (sort v_at v_to v_value hasThings flags kind place : Int32) (stones heaps flagCell : Nat → Int32) (H : Heap) (locs : List Loc) (ls : Array Slot), tk_it (stX8_thing size tape columns rows) n (8, (0, 0, 0, 0, 0, 0, 0, sort, v_at, v_to, v_value, hasThings, flags, kind, place, stones, heaps, flagCell)) = some o → va_P D tkCl [(h0, .inr (6, oX8 (tu (tu (tu (tu (tu (tu i0 0 size) 1 sort) 2 v_at) 3 v_to) 4 v_value) 9 hasThings) (tuv (tuv (tuv v0 6 (.ref (r0 10))) 7 (.ref (r0 7))) 10 (.ref (r0 10))))), ((r0 7), .inr (2, oX2 r2 (tu (tu (tu i2 0 columns) 1 rows) 5 flags))), ((r1 0), .inr (1, oX1 (tu (tu i3 6 kind) 7 place) v3)), ((r2 10), .inl (ar 2, 64, .inl stones)), ((r2 8), .inl (ar 0, 64, .inl heaps)), ((r2 9), .inl (ar 0, 3, .inl flagCell))] H → va_D A [(h0, .inr (6, oX8 (tu (tu (tu (tu (tu (tu i0 0 size) 1 sort) 2 v_at) 3 v_to) 4 v_value) 9 hasThings) (tuv (tuv (tuv v0 6 (.ref (r0 10))) 7 (.ref (r0 7))) 10 (.ref (r0 10))))), ((r0 7), .inr (2, oX2 r2 (tu (tu (tu i2 0 columns) 1 rows) 5 flags))), ((r1 0), .inr (1, oX1 (tu (tu i3 6 kind) 7 place) v3)), ((r2 10), .inl (ar 2, 64, .inl stones)), ((r2 8), .inl (ar 0, 64, .inl heaps)), ((r2 9), .inl (ar 0, 3, .inl flagCell))] → va_S A s.heap H locs → lv_has ls 7 [(0, .ref h0)] → W p l e (headSpec (ws_ yX8_thing cX8_thing 7 none) ({ frames := 5, cells := 0, slots := 0, locals := 107 })).room s m ([.ref h0] : List Value).toArray below meth c H locs 0 0 (tx_MQ below (va_Qv (fun z : Int32 × Int32 × Int32 × Int32 × Int32 × Int32 × Int32 × Int32 × (Nat → Int32) × (Nat → Int32) × (Nat → Int32) => o = .inl z) (fun z t => tk_Post D A [(h0, .inr (6, oX8 (tu (tu (tu (tu (tu (tu i0 0 size) 1 z.1) 2 z.2.1) 3 z.2.2.1) 4 z.2.2.2.1) 9 z.2.2.2.2.1) (tuv (tuv (tuv v0 6 (.ref (r0 10))) 7 (.ref (r0 7))) 10 (.ref (r0 10))))), ((r0 7), .inr (2, oX2 r2 (tu (tu (tu i2 0 columns) 1 rows) 5 z.2.2.2.2.2.1))), ((r1 0), .inr (1, oX1 (tu (tu i3 6 z.2.2.2.2.2.2.1) 7 z.2.2.2.2.2.2.2.1) v3)), ((r2 10), .inl (ar 2, 64, .inl z.2.2.2.2.2.2.2.2.1)), ((r2 8), .inl (ar 0, 64, .inl z.2.2.2.2.2.2.2.2.2.1)), ((r2 9), .inl (ar 0, 3, .inl z.2.2.2.2.2.2.2.2.2.2))] t) A) (tx_X (fun z : Int32 × Int32 × Int32 × Int32 × Int32 × Int32 × Int32 × Int32 × (Nat → Int32) × (Nat → Int32) × (Nat → Int32) => o = .inr z) (fun q9 E9 z t => q9 = (r1 0) ∧ E9 = "TideKeep$Wrong" ∧ tk_Post D A [(h0, .inr (6, oX8 (tu (tu (tu (tu (tu (tu i0 0 size) 1 z.1) 2 z.2.1) 3 z.2.2.1) 4 z.2.2.2.1) 9 z.2.2.2.2.1) (tuv (tuv (tuv v0 6 (.ref (r0 10))) 7 (.ref (r0 7))) 10 (.ref (r0 10))))), ((r0 7), .inr (2, oX2 r2 (tu (tu (tu i2 0 columns) 1 rows) 5 z.2.2.2.2.2.1))), ((r1 0), .inr (1, oX1 (tu (tu i3 6 z.2.2.2.2.2.2.1) 7 z.2.2.2.2.2.2.2.1) v3)), ((r2 10), .inl (ar 2, 64, .inl z.2.2.2.2.2.2.2.2.1)), ((r2 8), .inl (ar 0, 64, .inl z.2.2.2.2.2.2.2.2.2.1)), ((r2 9), .inl (ar 0, 3, .inl z.2.2.2.2.2.2.2.2.2.2))] t) A) ([.ref h0] : List Value).toArray s 0 0 A) (F0 m 276 ls [])) := by
    intro n
    induction n with
    | zero => exact ⟨(by intros; rename_i hF _ _ _ _; cases hF), (by intros; rename_i hF _ _ _ _; cases hF), (by intros; rename_i hF _ _ _ _; cases hF), (by intros; rename_i hF _ _ _ _; cases hF), (by intros; rename_i hF _ _ _ _; cases hF), (by intros; rename_i hF _ _ _ _; cases hF), (by intros; rename_i hF _ _ _ _; cases hF), (by intros; rename_i hF _ _ _ _; cases hF)⟩
    | succ n ih =>
      obtain ⟨ih34, ih39, ih67, ih138, ih182, ih203, ih236, ih276⟩ := ih
      refine ⟨?_, ?_, ?_, ?_, ?_, ?_, ?_, ?_⟩
      · intro x1 x2 sort v_at v_to v_value hasThings flags kind place stones heaps flagCell H locs ls hF hP hD hS hl
        have hF : tk_k (stX8_thing size tape columns rows) n (bX8_thing_1 size tape columns rows x1 x2 sort v_at v_to v_value hasThings flags kind place stones heaps flagCell) = some o := hF
        unfold bX8_thing_1 at hF
        refine lv_iconst (v := 1) hx hb dX8_thing_34 (by decide) ?_
        refine lv_goto (tgt := 39) hx hb dX8_thing_35 (by decide) ?_
        exact ih39 x1 x2 1 sort v_at v_to v_value hasThings flags kind place stones heaps flagCell _ _ _ hF hP hD hS (lv_sub hl [0, 1, 2] rfl)
      · intro x1 x2 s1 sort v_at v_to v_value hasThings flags kind place stones heaps flagCell H locs ls hF hP hD hS hl
        have hF : tk_k (stX8_thing size tape columns rows) n (bX8_thing_2 size tape columns rows x1 x2 s1 sort v_at v_to v_value hasThings flags kind place stones heaps flagCell) = some o := hF
        unfold bX8_thing_2 at hF
        refine lv_iconst (v := 4) hx hb dX8_thing_39 (by decide) ?_
        obtain ⟨u6, hGu6, hF⟩ := tk_kb hF
        refine tx_callv (tx_runU (As := [.int s1, .int 4]) (rest := []) ⟨hx, hb, hml, hown, hts⟩ (mX7_ask_X8 (l := l) (D := D) (ar := ar) (ad := ad) (xs := xs) (sz := H.size) (h0 := h0) (r0 := r0) (i0 := (tu (tu (tu (tu (tu (tu i0 0 size) 1 sort) 2 v_at) 3 v_to) 4 v_value) 9 hasThings)) (v0 := (tuv (tuv (tuv v0 6 (.ref (r0 10))) 7 (.ref (r0 7))) 10 (.ref (r0 10)))) (r1 := r1) (i1 := i1) (i2 := (tu (tu i3 6 kind) 7 place)) (v2 := v3) (v_at := v_at) (kind := kind) (place := place) (p0 := s1) (p1 := 4) (hF := hGu6)) (tk_cwP (C := "TideKeep$BeachReader") (owner := "TideKeep$Reader") (x := ⟨"TideKeep$BeachReader", "ask", "(ZI)V"⟩) 2 hts (lw_meth q713) rfl rfl rfl (by decide +kernel) ⟨(Nat.le_of_ble_eq_true rfl), (Nat.le_of_ble_eq_true rfl)⟩ (hts _ q708) (hts _ q709) (va_Decl.of (x := ⟨"TideKeep$Reader", "ask", "(ZI)V"⟩) (hts _ q712) (hts _ q713)) (hts _ q711) (hts _ q712) (hts _ q102)) ⟨tk_blind, va_recv hK hP (ci := 6) (q0 := 0) rfl rfl, fun U hU hW => ⟨rfl, tk_mk hP hD hS hA hE hR hX [2] [0, 6] rfl rfl rfl rfl U hU hW⟩⟩ rfl rfl hl.1 rfl (lv_room (Nat.le_of_ble_eq_true rfl)) dX8_thing_40 ⟨(Nat.le_of_ble_eq_true rfl), (Nat.le_of_ble_eq_true rfl)⟩) hS (fun q _ h => (va_free hD hS hA [2] rfl) q h) (va_free hD hS hA [2] rfl) (fun q _ h => (va_free hD hS hA [2] rfl) q h) (fun E9 ce q9 xu6 zt H1 zl zht zvm zw zB zz zk zS hce hcv hcl => ?_) (fun ru6 zt H1 zl zht zvm zw zB zz zk zS => ?_)
        · obtain ⟨zq, zE, zB⟩ := zB
          subst zq
          subst zE
          subst zw
          have hF := tk_ksx hF
          obtain ⟨hP, hD⟩ := tk_join hP hD zk [2] rfl rfl (va_free hD hS hA [2] rfl) (zht ▸ zB.1) zB.2 (Nat.le_of_ble_eq_true rfl)
          have hS := zS
          generalize H1 = H at hP hS hce ⊢
          have hP : va_P D tkCl [(h0, .inr (6, oX8 (tu (tu (tu (tu (tu (tu i0 0 size) 1 sort) 2 v_at) 3 v_to) 4 v_value) 9 hasThings) (tuv (tuv (tuv v0 6 (.ref (r0 10))) 7 (.ref (r0 7))) 10 (.ref (r0 10))))), ((r0 7), .inr (2, oX2 r2 (tu (tu (tu i2 0 columns) 1 rows) 5 flags))), ((r1 0), .inr (1, oX1 (tu (tu i3 6 xu6.1) 7 xu6.2) v3)), ((r2 10), .inl (ar 2, 64, .inl stones)), ((r2 8), .inl (ar 0, 64, .inl heaps)), ((r2 9), .inl (ar 0, 3, .inl flagCell))] H := hP
          have hD : va_D A [(h0, .inr (6, oX8 (tu (tu (tu (tu (tu (tu i0 0 size) 1 sort) 2 v_at) 3 v_to) 4 v_value) 9 hasThings) (tuv (tuv (tuv v0 6 (.ref (r0 10))) 7 (.ref (r0 7))) 10 (.ref (r0 10))))), ((r0 7), .inr (2, oX2 r2 (tu (tu (tu i2 0 columns) 1 rows) 5 flags))), ((r1 0), .inr (1, oX1 (tu (tu i3 6 xu6.1) 7 xu6.2) v3)), ((r2 10), .inl (ar 2, 64, .inl stones)), ((r2 8), .inl (ar 0, 64, .inl heaps)), ((r2 9), .inl (ar 0, 3, .inl flagCell))] := hD
          have eo := tk_kr hF
          subst eo
          exact tx_out (fun x9 hx9 => (htab x9 hx9).elim) hlocks hce hcv hcl (fun t ht hW => ⟨_, rfl, ⟨rfl, rfl, tk_pst ht hP hD⟩, hS.F ht⟩) hS.2.2 (Nat.le_of_ble_eq_true rfl) (Nat.le_of_ble_eq_true rfl)
        subst zw
        have hF := tk_kss hF
        obtain ⟨hP, hD⟩ := tk_join hP hD zk [2] rfl rfl (va_free hD hS hA [2] rfl) (zht ▸ zB.1) zB.2 (Nat.le_of_ble_eq_true rfl)
        have hS := zS
        generalize H1 = H at hP hS ⊢
        have hP : va_P D tkCl [(h0, .inr (6, oX8 (tu (tu (tu (tu (tu (tu i0 0 size) 1 sort) 2 v_at) 3 v_to) 4 v_value) 9 hasThings) (tuv (tuv (tuv v0 6 (.ref (r0 10))) 7 (.ref (r0 7))) 10 (.ref (r0 10))))), ((r0 7), .inr (2, oX2 r2 (tu (tu (tu i2 0 columns) 1 rows) 5 flags))), ((r1 0), .inr (1, oX1 (tu (tu i3 6 ru6.1) 7 ru6.2) v3)), ((r2 10), .inl (ar 2, 64, .inl stones)), ((r2 8), .inl (ar 0, 64, .inl heaps)), ((r2 9), .inl (ar 0, 3, .inl flagCell))] H := hP
        have hD : va_D A [(h0, .inr (6, oX8 (tu (tu (tu (tu (tu (tu i0 0 size) 1 sort) 2 v_at) 3 v_to) 4 v_value) 9 hasThings) (tuv (tuv (tuv v0 6 (.ref (r0 10))) 7 (.ref (r0 7))) 10 (.ref (r0 10))))), ((r0 7), .inr (2, oX2 r2 (tu (tu (tu i2 0 columns) 1 rows) 5 flags))), ((r1 0), .inr (1, oX1 (tu (tu i3 6 ru6.1) 7 ru6.2) v3)), ((r2 10), .inl (ar 2, 64, .inl stones)), ((r2 8), .inl (ar 0, 64, .inl heaps)), ((r2 9), .inl (ar 0, 3, .inl flagCell))] := hD
        refine lv_aload_n hx hb dX8_thing_43 rfl (lv_at hl 0 rfl) ?_
        refine lv_iconst (v := 1) hx hb dX8_thing_44 (by decide) ?_
        refine tk_put (D := D) (ci := 6) (v := .int 1) (ty := .boolean) (C := RX8) (T := TX8) (N := 11) hx hb hts in_X8 tyX8 tyX8_ok nmdX8 hown hK hP hD hS 0 rfl rfl 9 (by decide) (hts _ q600) (fun _ h9 => h9) rfl (by decide +kernel) (by decide) (by decide) (Nat.le_of_ble_eq_true rfl) dX8_thing_45 (fun H locs hP hD hS => ?_)
        have hP : va_P D tkCl [(h0, .inr (6, oX8 (tu (tu (tu (tu (tu (tu i0 0 size) 1 sort) 2 v_at) 3 v_to) 4 v_value) 9 1) (tuv (tuv (tuv v0 6 (.ref (r0 10))) 7 (.ref (r0 7))) 10 (.ref (r0 10))))), ((r0 7), .inr (2, oX2 r2 (tu (tu (tu i2 0 columns) 1 rows) 5 flags))), ((r1 0), .inr (1, oX1 (tu (tu i3 6 ru6.1) 7 ru6.2) v3)), ((r2 10), .inl (ar 2, 64, .inl stones)), ((r2 8), .inl (ar 0, 64, .inl heaps)), ((r2 9), .inl (ar 0, 3, .inl flagCell))] H := hP
        have hD : va_D A [(h0, .inr (6, oX8 (tu (tu (tu (tu (tu (tu i0 0 size) 1 sort) 2 v_at) 3 v_to) 4 v_value) 9 1) (tuv (tuv (tuv v0 6 (.ref (r0 10))) 7 (.ref (r0 7))) 10 (.ref (r0 10))))), ((r0 7), .inr (2, oX2 r2 (tu (tu (tu i2 0 columns) 1 rows) 5 flags))), ((r1 0), .inr (1, oX1 (tu (tu i3 6 ru6.1) 7 ru6.2) v3)), ((r2 10), .inl (ar 2, 64, .inl stones)), ((r2 8), .inl (ar 0, 64, .inl heaps)), ((r2 9), .inl (ar 0, 3, .inl flagCell))] := hD
        refine lv_aload_n hx hb dX8_thing_48 rfl (lv_at hl 0 rfl) ?_
        obtain ⟨u7, hGu7, hF⟩ := tk_kb hF
        refine va_callv (va_runU (As := []) (rest := []) ⟨hx, hb, hml, hown, hts⟩ (mX7_goOn_X8 (l := l) (D := D) (ar := ar) (ad := ad) (xs := xs) (sz := H.size) (h0 := h0) (r0 := r0) (i0 := (tu (tu (tu (tu (tu (tu i0 0 size) 1 sort) 2 v_at) 3 v_to) 4 v_value) 9 1)) (v0 := (tuv (tuv (tuv v0 6 (.ref (r0 10))) 7 (.ref (r0 7))) 10 (.ref (r0 10)))) (r1 := r1) (i1 := i1) (size := size) (tape := tape) (sort := sort) (v_at := v_at) (v_to := v_to) (v_value := v_value) (hF := hGu7)) (tk_cwP (C := "TideKeep$BeachReader") (owner := "TideKeep$Reader") (x := ⟨"TideKeep$BeachReader", "goOn", "()V"⟩) 0 hts (lw_meth q570) rfl rfl rfl (by decide +kernel) ⟨(Nat.le_of_ble_eq_true rfl), (Nat.le_of_ble_eq_true rfl)⟩ (hts _ q749) (hts _ q750) (va_Decl.of (x := ⟨"TideKeep$Reader", "goOn", "()V"⟩) (hts _ q565) (hts _ q570)) (hts _ q752) (hts _ q565) (hts _ q102)) ⟨tk_blind, va_recv hK hP (ci := 6) (q0 := 0) rfl rfl, fun U hU hW => ⟨rfl, tk_mk hP hD hS hA hE hR hX [0] [6, 7] rfl rfl rfl rfl U hU hW⟩⟩ rfl rfl hl.1 rfl (lv_room (Nat.le_of_ble_eq_true rfl)) dX8_thing_49 ⟨(Nat.le_of_ble_eq_true rfl), (Nat.le_of_ble_eq_true rfl)⟩) hS (fun q _ h => (va_free hD hS hA [0] rfl) q h) (va_free hD hS hA [0] rfl) (fun zu zt H1 zl zht zvm zw zB zz zk zS => ?_)
        obtain ⟨hP, hD⟩ := tk_join hP hD zk [0] rfl rfl (va_free hD hS hA [0] rfl) (zht ▸ zB.1) zB.2 (Nat.le_of_ble_eq_true rfl)
        have hS := zS
        generalize H1 = H at hP hS ⊢
        have hP : va_P D tkCl [(h0, .inr (6, oX8 (tu (tu (tu (tu (tu (tu i0 0 size) 1 u7.1) 2 u7.2.1) 3 u7.2.2.1) 4 u7.2.2.2) 9 1) (tuv (tuv (tuv v0 6 (.ref (r0 10))) 7 (.ref (r0 7))) 10 (.ref (r0 10))))), ((r0 7), .inr (2, oX2 r2 (tu (tu (tu i2 0 columns) 1 rows) 5 flags))), ((r1 0), .inr (1, oX1 (tu (tu i3 6 ru6.1) 7 ru6.2) v3)), ((r2 10), .inl (ar 2, 64, .inl stones)), ((r2 8), .inl (ar 0, 64, .inl heaps)), ((r2 9), .inl (ar 0, 3, .inl flagCell))] H := hP
        have hD : va_D A [(h0, .inr (6, oX8 (tu (tu (tu (tu (tu (tu i0 0 size) 1 u7.1) 2 u7.2.1) 3 u7.2.2.1) 4 u7.2.2.2) 9 1) (tuv (tuv (tuv v0 6 (.ref (r0 10))) 7 (.ref (r0 7))) 10 (.ref (r0 10))))), ((r0 7), .inr (2, oX2 r2 (tu (tu (tu i2 0 columns) 1 rows) 5 flags))), ((r1 0), .inr (1, oX1 (tu (tu i3 6 ru6.1) 7 ru6.2) v3)), ((r2 10), .inl (ar 2, 64, .inl stones)), ((r2 8), .inl (ar 0, 64, .inl heaps)), ((r2 9), .inl (ar 0, 3, .inl flagCell))] := hD
        refine lv_iload_n hx hb dX8_thing_52 rfl (lv_at hl 1 rfl) ?_
        refine lv_if_eq (tgt := 66) hx hb dX8_thing_53 (by decide) (fun c8 => ?_) (fun c8 => ?_)
        · have hF := tk_kt hF c8
          refine lv_iconst (v := 0) hx hb dX8_thing_66 (by decide) ?_
          exact ih67 x1 x2 0 u7.1 u7.2.1 u7.2.2.1 u7.2.2.2 1 flags ru6.1 ru6.2 stones heaps flagCell _ _ _ hF hP hD hS (lv_sub hl [0, 1, 2] rfl)
        · have hF := tk_kf hF c8
          refine lv_aload_n hx hb dX8_thing_56 rfl (lv_at hl 0 rfl) ?_
          refine lv_iconst (v := 1) hx hb dX8_thing_57 (by decide) ?_
          refine lv_bipush (v := 40) hx hb dX8_thing_58 (by decide) ?_
          obtain ⟨u9, hGu9, hF⟩ := tk_kb hF
          refine tx_calli (tx_runU (As := [.int 1, .int 40]) (rest := []) ⟨hx, hb, hml, hown, hts⟩ (mX7_number_X8 (l := l) (D := D) (ar := ar) (ad := ad) (xs := xs) (sz := H.size) (h0 := h0) (r0 := r0) (i0 := (tu (tu (tu (tu (tu (tu i0 0 size) 1 u7.1) 2 u7.2.1) 3 u7.2.2.1) 4 u7.2.2.2) 9 1)) (v0 := (tuv (tuv (tuv v0 6 (.ref (r0 10))) 7 (.ref (r0 7))) 10 (.ref (r0 10)))) (r1 := r1) (i1 := i1) (i2 := (tu (tu i3 6 ru6.1) 7 ru6.2)) (v2 := v3) (size := size) (tape := tape) (sort := u7.1) (v_at := u7.2.1) (v_to := u7.2.2.1) (v_value := u7.2.2.2) (kind := ru6.1) (place := ru6.2) (p0 := 1) (p1 := 40) (hF := hGu9)) (tk_cwP (C := "TideKeep$BeachReader") (owner := "TideKeep$Reader") (x := ⟨"TideKeep$BeachReader", "number", "(II)I"⟩) 2 hts (lw_meth q731) rfl rfl rfl (by decide +kernel) ⟨(Nat.le_of_ble_eq_true rfl), (Nat.le_of_ble_eq_true rfl)⟩ (hts _ q726) (hts _ q727) (va_Decl.of (x := ⟨"TideKeep$Reader", "number", "(II)I"⟩) (hts _ q730) (hts _ q731)) (hts _ q729) (hts _ q730) (hts _ q102)) ⟨tk_blind, va_recv hK hP (ci := 6) (q0 := 0) rfl rfl, fun U hU hW => ⟨rfl, tk_mk hP hD hS hA hE hR hX [0, 2] [6, 7] rfl rfl rfl rfl U hU hW⟩⟩ rfl rfl hl.1 rfl (lv_room (Nat.le_of_ble_eq_true rfl)) dX8_thing_60 ⟨(Nat.le_of_ble_eq_true rfl), (Nat.le_of_ble_eq_true rfl)⟩) hS (fun q _ h => (va_free hD hS hA [0, 2] rfl) q h) (va_free hD hS hA [0, 2] rfl) (fun q _ h => (va_free hD hS hA [0, 2] rfl) q h) (fun E9 ce q9 xu9 zt H1 zl zht zvm zw zB zz zk zS hce hcv hcl => ?_) (fun zr ru9 zt H1 zl zht zvm zw zB zz zk zS => ?_)
          · obtain ⟨zq, zE, zB⟩ := zB
            subst zq
            subst zE
            subst zw
            have hF := tk_ksx hF
            obtain ⟨hP, hD⟩ := tk_join hP hD zk [0, 2] rfl rfl (va_free hD hS hA [0, 2] rfl) (zht ▸ zB.1) zB.2 (Nat.le_of_ble_eq_true rfl)
            have hS := zS
            generalize H1 = H at hP hS hce ⊢
            have hP : va_P D tkCl [(h0, .inr (6, oX8 (tu (tu (tu (tu (tu (tu i0 0 size) 1 xu9.1) 2 xu9.2.1) 3 xu9.2.2.1) 4 xu9.2.2.2.1) 9 1) (tuv (tuv (tuv v0 6 (.ref (r0 10))) 7 (.ref (r0 7))) 10 (.ref (r0 10))))), ((r0 7), .inr (2, oX2 r2 (tu (tu (tu i2 0 columns) 1 rows) 5 flags))), ((r1 0), .inr (1, oX1 (tu (tu i3 6 xu9.2.2.2.2.1) 7 xu9.2.2.2.2.2) v3)), ((r2 10), .inl (ar 2, 64, .inl stones)), ((r2 8), .inl (ar 0, 64, .inl heaps)), ((r2 9), .inl (ar 0, 3, .inl flagCell))] H := hP
            have hD : va_D A [(h0, .inr (6, oX8 (tu (tu (tu (tu (tu (tu i0 0 size) 1 xu9.1) 2 xu9.2.1) 3 xu9.2.2.1) 4 xu9.2.2.2.1) 9 1) (tuv (tuv (tuv v0 6 (.ref (r0 10))) 7 (.ref (r0 7))) 10 (.ref (r0 10))))), ((r0 7), .inr (2, oX2 r2 (tu (tu (tu i2 0 columns) 1 rows) 5 flags))), ((r1 0), .inr (1, oX1 (tu (tu i3 6 xu9.2.2.2.2.1) 7 xu9.2.2.2.2.2) v3)), ((r2 10), .inl (ar 2, 64, .inl stones)), ((r2 8), .inl (ar 0, 64, .inl heaps)), ((r2 9), .inl (ar 0, 3, .inl flagCell))] := hD
            have eo := tk_kr hF
            subst eo
            exact tx_out (fun x9 hx9 => (htab x9 hx9).elim) hlocks hce hcv hcl (fun t ht hW => ⟨_, rfl, ⟨rfl, rfl, tk_pst ht hP hD⟩, hS.F ht⟩) hS.2.2 (Nat.le_of_ble_eq_true rfl) (Nat.le_of_ble_eq_true rfl)
          obtain ⟨zw, zw2⟩ := zw
          subst zw
          subst zw2
          have hF := tk_kss hF
          obtain ⟨hP, hD⟩ := tk_join hP hD zk [0, 2] rfl rfl (va_free hD hS hA [0, 2] rfl) (zht ▸ zB.1) zB.2 (Nat.le_of_ble_eq_true rfl)
          have hS := zS
          generalize H1 = H at hP hS ⊢
          have hP : va_P D tkCl [(h0, .inr (6, oX8 (tu (tu (tu (tu (tu (tu i0 0 size) 1 ru9.2.1) 2 ru9.2.2.1) 3 ru9.2.2.2.1) 4 ru9.2.2.2.2.1) 9 1) (tuv (tuv (tuv v0 6 (.ref (r0 10))) 7 (.ref (r0 7))) 10 (.ref (r0 10))))), ((r0 7), .inr (2, oX2 r2 (tu (tu (tu i2 0 columns) 1 rows) 5 flags))), ((r1 0), .inr (1, oX1 (tu (tu i3 6 ru9.2.2.2.2.2.1) 7 ru9.2.2.2.2.2.2) v3)), ((r2 10), .inl (ar 2, 64, .inl stones)), ((r2 8), .inl (ar 0, 64, .inl heaps)), ((r2 9), .inl (ar 0, 3, .inl flagCell))] H := hP
          have hD : va_D A [(h0, .inr (6, oX8 (tu (tu (tu (tu (tu (tu i0 0 size) 1 ru9.2.1) 2 ru9.2.2.1) 3 ru9.2.2.2.1) 4 ru9.2.2.2.2.1) 9 1) (tuv (tuv (tuv v0 6 (.ref (r0 10))) 7 (.ref (r0 7))) 10 (.ref (r0 10))))), ((r0 7), .inr (2, oX2 r2 (tu (tu (tu i2 0 columns) 1 rows) 5 flags))), ((r1 0), .inr (1, oX1 (tu (tu i3 6 ru9.2.2.2.2.2.1) 7 ru9.2.2.2.2.2.2) v3)), ((r2 10), .inl (ar 2, 64, .inl stones)), ((r2 8), .inl (ar 0, 64, .inl heaps)), ((r2 9), .inl (ar 0, 3, .inl flagCell))] := hD
          refine lv_goto (tgt := 67) hx hb dX8_thing_63 (by decide) ?_
          exact ih67 x1 x2 ru9.1 ru9.2.1 ru9.2.2.1 ru9.2.2.2.1 ru9.2.2.2.2.1 1 flags ru9.2.2.2.2.2.1 ru9.2.2.2.2.2.2 stones heaps flagCell _ _ _ hF hP hD hS (lv_sub hl [0, 1, 2] rfl)
      · intro x1 x2 s0 sort v_at v_to v_value hasThings flags kind place stones heaps flagCell H locs ls hF hP hD hS hl
        have hF : tk_k (stX8_thing size tape columns rows) n (bX8_thing_3 size tape columns rows x1 x2 s0 sort v_at v_to v_value hasThings flags kind place stones heaps flagCell) = some o := hF
        unfold bX8_thing_3 at hF
        refine lv_istore_n (lv' := [(3, .int s0), (0, .ref h0), (1, .int x1), (2, .int x2)]) hx hb dX8_thing_67 rfl hl (Nat.le_of_ble_eq_true rfl) rfl (fun ls hl => ?_)
        refine lv_aload_n hx hb dX8_thing_68 rfl (lv_at hl 1 rfl) ?_
        refine lv_iconst (v := 0) hx hb dX8_thing_69 (by decide) ?_
        refine lv_aload_n hx hb dX8_thing_70 rfl (lv_at hl 1 rfl) ?_
        refine va_get (D := D) (ci := 6) (v := .ref (r0 7)) (C := RX8) (T := TX8) (N := 11) hx hb hts in_X8 hown hK hP 0 rfl rfl 7 (by decide) (hts _ q598) (fun _ h9 => h9) rfl dX8_thing_71 ?_
        refine va_getN (D := D) (ci := 2) (v := .int columns) (C := RX2) (T := TX2) (N := 11) hx hb hts in_X2 hown hK hP 1 rfl rfl 0 (by decide) (hE.2.1.use q218 rfl rfl) (fun _ h9 => h9) rfl dX8_thing_74 ?_
        refine lv_iconst (v := 1) hx hb dX8_thing_77 (by decide) ?_
        refine lv_isub hx hb dX8_thing_78 ?_
        obtain ⟨u10, hGu10, hF⟩ := tk_kb hF
        refine tx_calli (tx_runU (As := [.int 0, .int (columns - 1)]) (rest := []) ⟨hx, hb, hml, hown, hts⟩ (mX7_number_X8 (l := l) (D := D) (ar := ar) (ad := ad) (xs := xs) (sz := H.size) (h0 := h0) (r0 := r0) (i0 := (tu (tu (tu (tu (tu (tu i0 0 size) 1 sort) 2 v_at) 3 v_to) 4 v_value) 9 hasThings)) (v0 := (tuv (tuv (tuv v0 6 (.ref (r0 10))) 7 (.ref (r0 7))) 10 (.ref (r0 10)))) (r1 := r1) (i1 := i1) (i2 := (tu (tu i3 6 kind) 7 place)) (v2 := v3) (size := size) (tape := tape) (sort := sort) (v_at := v_at) (v_to := v_to) (v_value := v_value) (kind := kind) (place := place) (p0 := 0) (p1 := columns - 1) (hF := hGu10)) (tk_cwP (C := "TideKeep$BeachReader") (owner := "TideKeep$Reader") (x := ⟨"TideKeep$BeachReader", "number", "(II)I"⟩) 2 hts (lw_meth q731) rfl rfl rfl (by decide +kernel) ⟨(Nat.le_of_ble_eq_true rfl), (Nat.le_of_ble_eq_true rfl)⟩ (hts _ q726) (hts _ q727) (va_Decl.of (x := ⟨"TideKeep$Reader", "number", "(II)I"⟩) (hts _ q730) (hts _ q731)) (hts _ q729) (hts _ q730) (hts _ q102)) ⟨tk_blind, va_recv hK hP (ci := 6) (q0 := 0) rfl rfl, fun U hU hW => ⟨rfl, tk_mk hP hD hS hA hE hR hX [0, 2] [6, 7] rfl rfl rfl rfl U hU hW⟩⟩ rfl rfl hl.1 rfl (lv_room (Nat.le_of_ble_eq_true rfl)) dX8_thing_79 ⟨(Nat.le_of_ble_eq_true rfl), (Nat.le_of_ble_eq_true rfl)⟩) hS (fun q _ h => (va_free hD hS hA [0, 2] rfl) q h) (va_free hD hS hA [0, 2] rfl) (fun q _ h => (va_free hD hS hA [0, 2] rfl) q h) (fun E9 ce q9 xu10 zt H1 zl zht zvm zw zB zz zk zS hce hcv hcl => ?_) (fun zr ru10 zt H1 zl zht zvm zw zB zz zk zS => ?_)
        · obtain ⟨zq, zE, zB⟩ := zB
          subst zq
          subst zE
          subst zw
          have hF := tk_ksx hF
          obtain ⟨hP, hD⟩ := tk_join hP hD zk [0, 2] rfl rfl (va_free hD hS hA [0, 2] rfl) (zht ▸ zB.1) zB.2 (Nat.le_of_ble_eq_true rfl)
          have hS := zS
          generalize H1 = H at hP hS hce ⊢
          have hP : va_P D tkCl [(h0, .inr (6, oX8 (tu (tu (tu (tu (tu (tu i0 0 size) 1 xu10.1) 2 xu10.2.1) 3 xu10.2.2.1) 4 xu10.2.2.2.1) 9 hasThings) (tuv (tuv (tuv v0 6 (.ref (r0 10))) 7 (.ref (r0 7))) 10 (.ref (r0 10))))), ((r0 7), .inr (2, oX2 r2 (tu (tu (tu i2 0 columns) 1 rows) 5 flags))), ((r1 0), .inr (1, oX1 (tu (tu i3 6 xu10.2.2.2.2.1) 7 xu10.2.2.2.2.2) v3)), ((r2 10), .inl (ar 2, 64, .inl stones)), ((r2 8), .inl (ar 0, 64, .inl heaps)), ((r2 9), .inl (ar 0, 3, .inl flagCell))] H := hP
          have hD : va_D A [(h0, .inr (6, oX8 (tu (tu (tu (tu (tu (tu i0 0 size) 1 xu10.1) 2 xu10.2.1) 3 xu10.2.2.1) 4 xu10.2.2.2.1) 9 hasThings) (tuv (tuv (tuv v0 6 (.ref (r0 10))) 7 (.ref (r0 7))) 10 (.ref (r0 10))))), ((r0 7), .inr (2, oX2 r2 (tu (tu (tu i2 0 columns) 1 rows) 5 flags))), ((r1 0), .inr (1, oX1 (tu (tu i3 6 xu10.2.2.2.2.1) 7 xu10.2.2.2.2.2) v3)), ((r2 10), .inl (ar 2, 64, .inl stones)), ((r2 8), .inl (ar 0, 64, .inl heaps)), ((r2 9), .inl (ar 0, 3, .inl flagCell))] := hD
          have eo := tk_kr hF
          subst eo
          exact tx_out (fun x9 hx9 => (htab x9 hx9).elim) hlocks hce hcv hcl (fun t ht hW => ⟨_, rfl, ⟨rfl, rfl, tk_pst ht hP hD⟩, hS.F ht⟩) hS.2.2 (Nat.le_of_ble_eq_true rfl) (Nat.le_of_ble_eq_true rfl)
        obtain ⟨zw, zw2⟩ := zw
        subst zw
        subst zw2
        have hF := tk_kss hF
        obtain ⟨hP, hD⟩ := tk_join hP hD zk [0, 2] rfl rfl (va_free hD hS hA [0, 2] rfl) (zht ▸ zB.1) zB.2 (Nat.le_of_ble_eq_true rfl)
        have hS := zS
        generalize H1 = H at hP hS ⊢
        have hP : va_P D tkCl [(h0, .inr (6, oX8 (tu (tu (tu (tu (tu (tu i0 0 size) 1 ru10.2.1) 2 ru10.2.2.1) 3 ru10.2.2.2.1) 4 ru10.2.2.2.2.1) 9 hasThings) (tuv (tuv (tuv v0 6 (.ref (r0 10))) 7 (.ref (r0 7))) 10 (.ref (r0 10))))), ((r0 7), .inr (2, oX2 r2 (tu (tu (tu i2 0 columns) 1 rows) 5 flags))), ((r1 0), .inr (1, oX1 (tu (tu i3 6 ru10.2.2.2.2.2.1) 7 ru10.2.2.2.2.2.2) v3)), ((r2 10), .inl (ar 2, 64, .inl stones)), ((r2 8), .inl (ar 0, 64, .inl heaps)), ((r2 9), .inl (ar 0, 3, .inl flagCell))] H := hP
        have hD : va_D A [(h0, .inr (6, oX8 (tu (tu (tu (tu (tu (tu i0 0 size) 1 ru10.2.1) 2 ru10.2.2.1) 3 ru10.2.2.2.1) 4 ru10.2.2.2.2.1) 9 hasThings) (tuv (tuv (tuv v0 6 (.ref (r0 10))) 7 (.ref (r0 7))) 10 (.ref (r0 10))))), ((r0 7), .inr (2, oX2 r2 (tu (tu (tu i2 0 columns) 1 rows) 5 flags))), ((r1 0), .inr (1, oX1 (tu (tu i3 6 ru10.2.2.2.2.2.1) 7 ru10.2.2.2.2.2.2) v3)), ((r2 10), .inl (ar 2, 64, .inl stones)), ((r2 8), .inl (ar 0, 64, .inl heaps)), ((r2 9), .inl (ar 0, 3, .inl flagCell))] := hD
        refine lv_istore (lv' := [(4, .int ru10.1), (3, .int s0), (0, .ref h0), (1, .int x1), (2, .int x2)]) hx hb dX8_thing_82 hl (Nat.le_of_ble_eq_true rfl) rfl (fun ls hl => ?_)
        refine lv_aload_n hx hb dX8_thing_84 rfl (lv_at hl 2 rfl) ?_
        refine va_get (D := D) (ci := 6) (v := .ref (r0 7)) (C := RX8) (T := TX8) (N := 11) hx hb hts in_X8 hown hK hP 0 rfl rfl 7 (by decide) (hts _ q598) (fun _ h9 => h9) rfl dX8_thing_85 ?_
        refine va_getN (D := D) (ci := 2) (v := .int columns) (C := RX2) (T := TX2) (N := 11) hx hb hts in_X2 hown hK hP 1 rfl rfl 0 (by decide) (hE.2.1.use q218 rfl rfl) (fun _ h9 => h9) rfl dX8_thing_88 ?_
        refine lv_aload_n hx hb dX8_thing_91 rfl (lv_at hl 2 rfl) ?_
        refine lv_iconst (v := 0) hx hb dX8_thing_92 (by decide) ?_
        refine lv_aload_n hx hb dX8_thing_93 rfl (lv_at hl 2 rfl) ?_
        refine va_get (D := D) (ci := 6) (v := .ref (r0 7)) (C := RX8) (T := TX8) (N := 11) hx hb hts in_X8 hown hK hP 0 rfl rfl 7 (by decide) (hts _ q598) (fun _ h9 => h9) rfl dX8_thing_94 ?_
        refine va_getN (D := D) (ci := 2) (v := .int rows) (C := RX2) (T := TX2) (N := 11) hx hb hts in_X2 hown hK hP 1 rfl rfl 1 (by decide) (hE.2.1.use q223 rfl rfl) (fun _ h9 => h9) rfl dX8_thing_97 ?_
        refine lv_iconst (v := 1) hx hb dX8_thing_100 (by decide) ?_
        refine lv_isub hx hb dX8_thing_101 ?_
        obtain ⟨u11, hGu11, hF⟩ := tk_kb hF
        refine tx_calli (tx_runU (As := [.int 0, .int (rows - 1)]) (rest := [.int columns]) ⟨hx, hb, hml, hown, hts⟩ (mX7_within_X8 (l := l) (D := D) (ar := ar) (ad := ad) (xs := xs) (sz := H.size) (h0 := h0) (r0 := r0) (i0 := (tu (tu (tu (tu (tu (tu i0 0 size) 1 ru10.2.1) 2 ru10.2.2.1) 3 ru10.2.2.2.1) 4 ru10.2.2.2.2.1) 9 hasThings)) (v0 := (tuv (tuv (tuv v0 6 (.ref (r0 10))) 7 (.ref (r0 7))) 10 (.ref (r0 10)))) (r1 := r1) (i1 := i1) (i2 := (tu (tu i3 6 ru10.2.2.2.2.2.1) 7 ru10.2.2.2.2.2.2)) (v2 := v3) (sort := ru10.2.1) (v_at := ru10.2.2.1) (v_value := ru10.2.2.2.2.1) (kind := ru10.2.2.2.2.2.1) (place := ru10.2.2.2.2.2.2) (p0 := 0) (p1 := rows - 1) (hF := hGu11)) (tk_cwP (C := "TideKeep$BeachReader") (owner := "TideKeep$Reader") (x := ⟨"TideKeep$BeachReader", "within", "(II)I"⟩) 2 hts (lw_meth q738) rfl rfl rfl (by decide +kernel) ⟨(Nat.le_of_ble_eq_true rfl), (Nat.le_of_ble_eq_true rfl)⟩ (hts _ q753) (hts _ q754) (va_Decl.of (x := ⟨"TideKeep$Reader", "within", "(II)I"⟩) (hts _ q733) (hts _ q738)) (hts _ q756) (hts _ q733) (hts _ q102)) ⟨tk_blind, va_recv hK hP (ci := 6) (q0 := 0) rfl rfl, fun U hU hW => ⟨rfl, tk_mk hP hD hS hA hE hR hX [2] [0, 6] rfl rfl rfl rfl U hU hW⟩⟩ rfl rfl hl.1 rfl (lv_room (Nat.le_of_ble_eq_true rfl)) dX8_thing_102 ⟨(Nat.le_of_ble_eq_true rfl), (Nat.le_of_ble_eq_true rfl)⟩) hS (fun q _ h => (va_free hD hS hA [2] rfl) q h) (va_free hD hS hA [2] rfl) (fun q _ h => (va_free hD hS hA [2] rfl) q h) (fun E9 ce q9 xu11 zt H1 zl zht zvm zw zB zz zk zS hce hcv hcl => ?_) (fun zr ru11 zt H1 zl zht zvm zw zB zz zk zS => ?_)
        · obtain ⟨zq, zE, zB⟩ := zB
          subst zq
          subst zE
          subst zw
          have hF := tk_ksx hF
          obtain ⟨hP, hD⟩ := tk_join hP hD zk [2] rfl rfl (va_free hD hS hA [2] rfl) (zht ▸ zB.1) zB.2 (Nat.le_of_ble_eq_true rfl)
          have hS := zS
          generalize H1 = H at hP hS hce ⊢
          have hP : va_P D tkCl [(h0, .inr (6, oX8 (tu (tu (tu (tu (tu (tu i0 0 size) 1 ru10.2.1) 2 ru10.2.2.1) 3 ru10.2.2.2.1) 4 ru10.2.2.2.2.1) 9 hasThings) (tuv (tuv (tuv v0 6 (.ref (r0 10))) 7 (.ref (r0 7))) 10 (.ref (r0 10))))), ((r0 7), .inr (2, oX2 r2 (tu (tu (tu i2 0 columns) 1 rows) 5 flags))), ((r1 0), .inr (1, oX1 (tu (tu i3 6 xu11.1) 7 xu11.2) v3)), ((r2 10), .inl (ar 2, 64, .inl stones)), ((r2 8), .inl (ar 0, 64, .inl heaps)), ((r2 9), .inl (ar 0, 3, .inl flagCell))] H := hP
          have hD : va_D A [(h0, .inr (6, oX8 (tu (tu (tu (tu (tu (tu i0 0 size) 1 ru10.2.1) 2 ru10.2.2.1) 3 ru10.2.2.2.1) 4 ru10.2.2.2.2.1) 9 hasThings) (tuv (tuv (tuv v0 6 (.ref (r0 10))) 7 (.ref (r0 7))) 10 (.ref (r0 10))))), ((r0 7), .inr (2, oX2 r2 (tu (tu (tu i2 0 columns) 1 rows) 5 flags))), ((r1 0), .inr (1, oX1 (tu (tu i3 6 xu11.1) 7 xu11.2) v3)), ((r2 10), .inl (ar 2, 64, .inl stones)), ((r2 8), .inl (ar 0, 64, .inl heaps)), ((r2 9), .inl (ar 0, 3, .inl flagCell))] := hD
          have eo := tk_kr hF
          subst eo
          exact tx_out (fun x9 hx9 => (htab x9 hx9).elim) hlocks hce hcv hcl (fun t ht hW => ⟨_, rfl, ⟨rfl, rfl, tk_pst ht hP hD⟩, hS.F ht⟩) hS.2.2 (Nat.le_of_ble_eq_true rfl) (Nat.le_of_ble_eq_true rfl)
        obtain ⟨zw, zw2⟩ := zw
        subst zw
        subst zw2
        have hF := tk_kss hF
        obtain ⟨hP, hD⟩ := tk_join hP hD zk [2] rfl rfl (va_free hD hS hA [2] rfl) (zht ▸ zB.1) zB.2 (Nat.le_of_ble_eq_true rfl)
        have hS := zS
        generalize H1 = H at hP hS ⊢
        have hP : va_P D tkCl [(h0, .inr (6, oX8 (tu (tu (tu (tu (tu (tu i0 0 size) 1 ru10.2.1) 2 ru10.2.2.1) 3 ru10.2.2.2.1) 4 ru10.2.2.2.2.1) 9 hasThings) (tuv (tuv (tuv v0 6 (.ref (r0 10))) 7 (.ref (r0 7))) 10 (.ref (r0 10))))), ((r0 7), .inr (2, oX2 r2 (tu (tu (tu i2 0 columns) 1 rows) 5 flags))), ((r1 0), .inr (1, oX1 (tu (tu i3 6 ru11.2.1) 7 ru11.2.2) v3)), ((r2 10), .inl (ar 2, 64, .inl stones)), ((r2 8), .inl (ar 0, 64, .inl heaps)), ((r2 9), .inl (ar 0, 3, .inl flagCell))] H := hP
        have hD : va_D A [(h0, .inr (6, oX8 (tu (tu (tu (tu (tu (tu i0 0 size) 1 ru10.2.1) 2 ru10.2.2.1) 3 ru10.2.2.2.1) 4 ru10.2.2.2.2.1) 9 hasThings) (tuv (tuv (tuv v0 6 (.ref (r0 10))) 7 (.ref (r0 7))) 10 (.ref (r0 10))))), ((r0 7), .inr (2, oX2 r2 (tu (tu (tu i2 0 columns) 1 rows) 5 flags))), ((r1 0), .inr (1, oX1 (tu (tu i3 6 ru11.2.1) 7 ru11.2.2) v3)), ((r2 10), .inl (ar 2, 64, .inl stones)), ((r2 8), .inl (ar 0, 64, .inl heaps)), ((r2 9), .inl (ar 0, 3, .inl flagCell))] := hD
        refine lv_imul hx hb dX8_thing_105 ?_
        refine lv_iload hx hb dX8_thing_106 (lv_at hl 0 rfl) ?_
        refine lv_iadd hx hb dX8_thing_108 ?_
        refine lv_istore (lv' := [(5, .int ((columns * ru11.1) + ru10.1)), (4, .int ru10.1), (3, .int s0), (0, .ref h0), (1, .int x1), (2, .int x2)]) hx hb dX8_thing_109 hl (Nat.le_of_ble_eq_true rfl) rfl (fun ls hl => ?_)
        refine lv_iload_n hx hb dX8_thing_111 rfl (lv_at hl 4 rfl) ?_
        refine lv_if_eq (tgt := 159) hx hb dX8_thing_112 (by decide) (fun c12 => ?_) (fun c12 => ?_)
        · have hF := tk_kt hF c12
          refine lv_iload_n hx hb dX8_thing_159 rfl (lv_at hl 5 rfl) ?_
          refine lv_if_eq (tgt := 200) hx hb dX8_thing_160 (by decide) (fun c13 => ?_) (fun c13 => ?_)
          · have hF := tk_kt hF c13
            refine lv_iconst (v := 0) hx hb dX8_thing_200 (by decide) ?_
            refine lv_istore (lv' := [(6, .int 0), (5, .int ((columns * ru11.1) + ru10.1)), (4, .int ru10.1), (3, .int s0), (0, .ref h0), (1, .int x1), (2, .int x2)]) hx hb dX8_thing_201 hl (Nat.le_of_ble_eq_true rfl) rfl (fun ls hl => ?_)
            exact ih203 ((columns * ru11.1) + ru10.1) 0 ru10.2.1 ru10.2.2.1 ru10.2.2.2.1 ru10.2.2.2.2.1 hasThings flags ru11.2.1 ru11.2.2 stones heaps flagCell _ _ _ hF hP hD hS (lv_sub hl [4, 1, 0] rfl)
          · have hF := tk_kf hF c13
            refine lv_aload_n hx hb dX8_thing_163 rfl (lv_at hl 3 rfl) ?_
            refine lv_aload_n hx hb dX8_thing_164 rfl (lv_at hl 3 rfl) ?_
            refine va_get (D := D) (ci := 6) (v := .ref (r0 7)) (C := RX8) (T := TX8) (N := 11) hx hb hts in_X8 hown hK hP 0 rfl rfl 7 (by decide) (hts _ q598) (fun _ h9 => h9) rfl dX8_thing_165 ?_
            refine va_getN (D := D) (ci := 2) (v := .ref (r2 10)) (C := RX2) (T := TX2) (N := 11) hx hb hts in_X2 hown hK hP 1 rfl rfl 10 (by decide) (hE.2.1.use q253 rfl rfl) (fun _ h9 => h9) rfl dX8_thing_168 ?_
            refine lv_iload hx hb dX8_thing_171 (lv_at hl 0 rfl) ?_
            obtain ⟨gd14, hF⟩ := tk_kg hF
            refine va_zald hx hb hK hP 3 2 rfl rfl gd14 dX8_thing_173 ?_
            refine lv_if_ne (tgt := 181) hx hb dX8_thing_174 (by decide) (fun c15 => ?_) (fun c15 => ?_)
            · have hF := tk_kf hF c15
              refine lv_iconst (v := 0) hx hb dX8_thing_181 (by decide) ?_
              exact ih182 ((columns * ru11.1) + ru10.1) 0 ru10.2.1 ru10.2.2.1 ru10.2.2.2.1 ru10.2.2.2.2.1 hasThings flags ru11.2.1 ru11.2.2 stones heaps flagCell _ _ _ hF hP hD hS (lv_sub hl [3, 0] rfl)
            · have hF := tk_kt hF c15
              refine lv_iconst (v := 1) hx hb dX8_thing_177 (by decide) ?_
              refine lv_goto (tgt := 182) hx hb dX8_thing_178 (by decide) ?_
              exact ih182 ((columns * ru11.1) + ru10.1) 1 ru10.2.1 ru10.2.2.1 ru10.2.2.2.1 ru10.2.2.2.2.1 hasThings flags ru11.2.1 ru11.2.2 stones heaps flagCell _ _ _ hF hP hD hS (lv_sub hl [3, 0] rfl)
        · have hF := tk_kf hF c12
          refine lv_aload_n hx hb dX8_thing_115 rfl (lv_at hl 3 rfl) ?_
          refine lv_aload_n hx hb dX8_thing_116 rfl (lv_at hl 3 rfl) ?_
          refine va_get (D := D) (ci := 6) (v := .ref (r0 7)) (C := RX8) (T := TX8) (N := 11) hx hb hts in_X8 hown hK hP 0 rfl rfl 7 (by decide) (hts _ q598) (fun _ h9 => h9) rfl dX8_thing_117 ?_
          refine va_getN (D := D) (ci := 2) (v := .ref (r2 8)) (C := RX2) (T := TX2) (N := 11) hx hb hts in_X2 hown hK hP 1 rfl rfl 8 (by decide) (hE.2.1.use q246 rfl rfl) (fun _ h9 => h9) rfl dX8_thing_120 ?_
          refine lv_iload hx hb dX8_thing_123 (lv_at hl 0 rfl) ?_
          obtain ⟨gd16, hF⟩ := tk_kg hF
          refine va_iald hx hb hK hP 4 0 rfl rfl gd16 dX8_thing_125 ?_
          refine lv_iload_n hx hb dX8_thing_126 rfl (lv_at hl 2 rfl) ?_
          refine lv_iadd hx hb dX8_thing_127 ?_
          refine lv_bipush (v := 59) hx hb dX8_thing_128 (by decide) ?_
          refine lv_icmp_gt (tgt := 137) hx hb dX8_thing_130 (by decide) (fun c17 => ?_) (fun c17 => ?_)
          · have hF := tk_kt hF c17
            refine lv_iconst (v := 0) hx hb dX8_thing_137 (by decide) ?_
            exact ih138 s0 ((columns * ru11.1) + ru10.1) 0 ru10.2.1 ru10.2.2.1 ru10.2.2.2.1 ru10.2.2.2.2.1 hasThings flags ru11.2.1 ru11.2.2 stones heaps flagCell _ _ _ hF hP hD hS (lv_sub hl [3, 2, 0] rfl)
          · have hF := tk_kf hF c17
            refine lv_iconst (v := 1) hx hb dX8_thing_133 (by decide) ?_
            refine lv_goto (tgt := 138) hx hb dX8_thing_134 (by decide) ?_
            exact ih138 s0 ((columns * ru11.1) + ru10.1) 1 ru10.2.1 ru10.2.2.1 ru10.2.2.2.1 ru10.2.2.2.2.1 hasThings flags ru11.2.1 ru11.2.2 stones heaps flagCell _ _ _ hF hP hD hS (lv_sub hl [3, 2, 0] rfl)
      · intro x3 x5 s1 sort v_at v_to v_value hasThings flags kind place stones heaps flagCell H locs ls hF hP hD hS hl
        have hF : tk_k (stX8_thing size tape columns rows) n (bX8_thing_4 size tape columns rows x3 x5 s1 sort v_at v_to v_value hasThings flags kind place stones heaps flagCell) = some o := hF
        unfold bX8_thing_4 at hF
        refine lv_iconst (v := 2) hx hb dX8_thing_138 (by decide) ?_
        obtain ⟨u18, hGu18, hF⟩ := tk_kb hF
        refine tx_callv (tx_runU (As := [.int s1, .int 2]) (rest := []) ⟨hx, hb, hml, hown, hts⟩ (mX7_ask_X8 (l := l) (D := D) (ar := ar) (ad := ad) (xs := xs) (sz := H.size) (h0 := h0) (r0 := r0) (i0 := (tu (tu (tu (tu (tu (tu i0 0 size) 1 sort) 2 v_at) 3 v_to) 4 v_value) 9 hasThings)) (v0 := (tuv (tuv (tuv v0 6 (.ref (r0 10))) 7 (.ref (r0 7))) 10 (.ref (r0 10)))) (r1 := r1) (i1 := i1) (i2 := (tu (tu i3 6 kind) 7 place)) (v2 := v3) (v_at := v_at) (kind := kind) (place := place) (p0 := s1) (p1 := 2) (hF := hGu18)) (tk_cwP (C := "TideKeep$BeachReader") (owner := "TideKeep$Reader") (x := ⟨"TideKeep$BeachReader", "ask", "(ZI)V"⟩) 2 hts (lw_meth q713) rfl rfl rfl (by decide +kernel) ⟨(Nat.le_of_ble_eq_true rfl), (Nat.le_of_ble_eq_true rfl)⟩ (hts _ q708) (hts _ q709) (va_Decl.of (x := ⟨"TideKeep$Reader", "ask", "(ZI)V"⟩) (hts _ q712) (hts _ q713)) (hts _ q711) (hts _ q712) (hts _ q102)) ⟨tk_blind, va_recv hK hP (ci := 6) (q0 := 0) rfl rfl, fun U hU hW => ⟨rfl, tk_mk hP hD hS hA hE hR hX [2] [0, 6] rfl rfl rfl rfl U hU hW⟩⟩ rfl rfl hl.1 rfl (lv_room (Nat.le_of_ble_eq_true rfl)) dX8_thing_139 ⟨(Nat.le_of_ble_eq_true rfl), (Nat.le_of_ble_eq_true rfl)⟩) hS (fun q _ h => (va_free hD hS hA [2] rfl) q h) (va_free hD hS hA [2] rfl) (fun q _ h => (va_free hD hS hA [2] rfl) q h) (fun E9 ce q9 xu18 zt H1 zl zht zvm zw zB zz zk zS hce hcv hcl => ?_) (fun ru18 zt H1 zl zht zvm zw zB zz zk zS => ?_)
        · obtain ⟨zq, zE, zB⟩ := zB
          subst zq
          subst zE
          subst zw
          have hF := tk_ksx hF
          obtain ⟨hP, hD⟩ := tk_join hP hD zk [2] rfl rfl (va_free hD hS hA [2] rfl) (zht ▸ zB.1) zB.2 (Nat.le_of_ble_eq_true rfl)
          have hS := zS
          generalize H1 = H at hP hS hce ⊢
          have hP : va_P D tkCl [(h0, .inr (6, oX8 (tu (tu (tu (tu (tu (tu i0 0 size) 1 sort) 2 v_at) 3 v_to) 4 v_value) 9 hasThings) (tuv (tuv (tuv v0 6 (.ref (r0 10))) 7 (.ref (r0 7))) 10 (.ref (r0 10))))), ((r0 7), .inr (2, oX2 r2 (tu (tu (tu i2 0 columns) 1 rows) 5 flags))), ((r1 0), .inr (1, oX1 (tu (tu i3 6 xu18.1) 7 xu18.2) v3)), ((r2 10), .inl (ar 2, 64, .inl stones)), ((r2 8), .inl (ar 0, 64, .inl heaps)), ((r2 9), .inl (ar 0, 3, .inl flagCell))] H := hP
          have hD : va_D A [(h0, .inr (6, oX8 (tu (tu (tu (tu (tu (tu i0 0 size) 1 sort) 2 v_at) 3 v_to) 4 v_value) 9 hasThings) (tuv (tuv (tuv v0 6 (.ref (r0 10))) 7 (.ref (r0 7))) 10 (.ref (r0 10))))), ((r0 7), .inr (2, oX2 r2 (tu (tu (tu i2 0 columns) 1 rows) 5 flags))), ((r1 0), .inr (1, oX1 (tu (tu i3 6 xu18.1) 7 xu18.2) v3)), ((r2 10), .inl (ar 2, 64, .inl stones)), ((r2 8), .inl (ar 0, 64, .inl heaps)), ((r2 9), .inl (ar 0, 3, .inl flagCell))] := hD
          have eo := tk_kr hF
          subst eo
          exact tx_out (fun x9 hx9 => (htab x9 hx9).elim) hlocks hce hcv hcl (fun t ht hW => ⟨_, rfl, ⟨rfl, rfl, tk_pst ht hP hD⟩, hS.F ht⟩) hS.2.2 (Nat.le_of_ble_eq_true rfl) (Nat.le_of_ble_eq_true rfl)
        subst zw
        have hF := tk_kss hF
        obtain ⟨hP, hD⟩ := tk_join hP hD zk [2] rfl rfl (va_free hD hS hA [2] rfl) (zht ▸ zB.1) zB.2 (Nat.le_of_ble_eq_true rfl)
        have hS := zS
        generalize H1 = H at hP hS ⊢
        have hP : va_P D tkCl [(h0, .inr (6, oX8 (tu (tu (tu (tu (tu (tu i0 0 size) 1 sort) 2 v_at) 3 v_to) 4 v_value) 9 hasThings) (tuv (tuv (tuv v0 6 (.ref (r0 10))) 7 (.ref (r0 7))) 10 (.ref (r0 10))))), ((r0 7), .inr (2, oX2 r2 (tu (tu (tu i2 0 columns) 1 rows) 5 flags))), ((r1 0), .inr (1, oX1 (tu (tu i3 6 ru18.1) 7 ru18.2) v3)), ((r2 10), .inl (ar 2, 64, .inl stones)), ((r2 8), .inl (ar 0, 64, .inl heaps)), ((r2 9), .inl (ar 0, 3, .inl flagCell))] H := hP
        have hD : va_D A [(h0, .inr (6, oX8 (tu (tu (tu (tu (tu (tu i0 0 size) 1 sort) 2 v_at) 3 v_to) 4 v_value) 9 hasThings) (tuv (tuv (tuv v0 6 (.ref (r0 10))) 7 (.ref (r0 7))) 10 (.ref (r0 10))))), ((r0 7), .inr (2, oX2 r2 (tu (tu (tu i2 0 columns) 1 rows) 5 flags))), ((r1 0), .inr (1, oX1 (tu (tu i3 6 ru18.1) 7 ru18.2) v3)), ((r2 10), .inl (ar 2, 64, .inl stones)), ((r2 8), .inl (ar 0, 64, .inl heaps)), ((r2 9), .inl (ar 0, 3, .inl flagCell))] := hD
        refine lv_aload_n hx hb dX8_thing_142 rfl (lv_at hl 0 rfl) ?_
        refine va_get (D := D) (ci := 6) (v := .ref (r0 7)) (C := RX8) (T := TX8) (N := 11) hx hb hts in_X8 hown hK hP 0 rfl rfl 7 (by decide) (hts _ q598) (fun _ h9 => h9) rfl dX8_thing_143 ?_
        refine va_getN (D := D) (ci := 2) (v := .ref (r2 8)) (C := RX2) (T := TX2) (N := 11) hx hb hts in_X2 hown hK hP 1 rfl rfl 8 (by decide) (hE.2.1.use q246 rfl rfl) (fun _ h9 => h9) rfl dX8_thing_146 ?_
        refine lv_iload hx hb dX8_thing_149 (lv_at hl 2 rfl) ?_
        refine lv_dup2_11 hx hb dX8_thing_151 rfl rfl ?_
        obtain ⟨gd19, hF⟩ := tk_kg hF
        refine va_iald hx hb hK hP 4 0 rfl rfl gd19 dX8_thing_152 ?_
        refine lv_iload_n hx hb dX8_thing_153 rfl (lv_at hl 1 rfl) ?_
        refine lv_iadd hx hb dX8_thing_154 ?_
        refine va_iast hx hb hK hP hD hS 4 0 rfl rfl gd19 dX8_thing_155 (fun H locs hP hD hS => ?_)
        have hP : va_P D tkCl [(h0, .inr (6, oX8 (tu (tu (tu (tu (tu (tu i0 0 size) 1 sort) 2 v_at) 3 v_to) 4 v_value) 9 hasThings) (tuv (tuv (tuv v0 6 (.ref (r0 10))) 7 (.ref (r0 7))) 10 (.ref (r0 10))))), ((r0 7), .inr (2, oX2 r2 (tu (tu (tu i2 0 columns) 1 rows) 5 flags))), ((r1 0), .inr (1, oX1 (tu (tu i3 6 ru18.1) 7 ru18.2) v3)), ((r2 10), .inl (ar 2, 64, .inl stones)), ((r2 8), .inl (ar 0, 64, .inl (upd heaps x5.toNatClampNeg ((heaps x5.toNatClampNeg) + x3)))), ((r2 9), .inl (ar 0, 3, .inl flagCell))] H := hP
        have hD : va_D A [(h0, .inr (6, oX8 (tu (tu (tu (tu (tu (tu i0 0 size) 1 sort) 2 v_at) 3 v_to) 4 v_value) 9 hasThings) (tuv (tuv (tuv v0 6 (.ref (r0 10))) 7 (.ref (r0 7))) 10 (.ref (r0 10))))), ((r0 7), .inr (2, oX2 r2 (tu (tu (tu i2 0 columns) 1 rows) 5 flags))), ((r1 0), .inr (1, oX1 (tu (tu i3 6 ru18.1) 7 ru18.2) v3)), ((r2 10), .inl (ar 2, 64, .inl stones)), ((r2 8), .inl (ar 0, 64, .inl (upd heaps x5.toNatClampNeg ((heaps x5.toNatClampNeg) + x3)))), ((r2 9), .inl (ar 0, 3, .inl flagCell))] := hD
        refine lv_goto (tgt := 276) hx hb dX8_thing_156 (by decide) ?_
        exact ih276 sort v_at v_to v_value hasThings flags ru18.1 ru18.2 stones (upd heaps x5.toNatClampNeg ((heaps x5.toNatClampNeg) + x3)) flagCell _ _ _ hF hP hD hS (lv_sub hl [0] rfl)
      · intro x5 s1 sort v_at v_to v_value hasThings flags kind place stones heaps flagCell H locs ls hF hP hD hS hl
        have hF : tk_k (stX8_thing size tape columns rows) n (bX8_thing_5 size tape columns rows x5 s1 sort v_at v_to v_value hasThings flags kind place stones heaps flagCell) = some o := hF
        unfold bX8_thing_5 at hF
        refine lv_iconst (v := 3) hx hb dX8_thing_182 (by decide) ?_
        obtain ⟨u20, hGu20, hF⟩ := tk_kb hF
        refine tx_callv (tx_runU (As := [.int s1, .int 3]) (rest := []) ⟨hx, hb, hml, hown, hts⟩ (mX7_ask_X8 (l := l) (D := D) (ar := ar) (ad := ad) (xs := xs) (sz := H.size) (h0 := h0) (r0 := r0) (i0 := (tu (tu (tu (tu (tu (tu i0 0 size) 1 sort) 2 v_at) 3 v_to) 4 v_value) 9 hasThings)) (v0 := (tuv (tuv (tuv v0 6 (.ref (r0 10))) 7 (.ref (r0 7))) 10 (.ref (r0 10)))) (r1 := r1) (i1 := i1) (i2 := (tu (tu i3 6 kind) 7 place)) (v2 := v3) (v_at := v_at) (kind := kind) (place := place) (p0 := s1) (p1 := 3) (hF := hGu20)) (tk_cwP (C := "TideKeep$BeachReader") (owner := "TideKeep$Reader") (x := ⟨"TideKeep$BeachReader", "ask", "(ZI)V"⟩) 2 hts (lw_meth q713) rfl rfl rfl (by decide +kernel) ⟨(Nat.le_of_ble_eq_true rfl), (Nat.le_of_ble_eq_true rfl)⟩ (hts _ q708) (hts _ q709) (va_Decl.of (x := ⟨"TideKeep$Reader", "ask", "(ZI)V"⟩) (hts _ q712) (hts _ q713)) (hts _ q711) (hts _ q712) (hts _ q102)) ⟨tk_blind, va_recv hK hP (ci := 6) (q0 := 0) rfl rfl, fun U hU hW => ⟨rfl, tk_mk hP hD hS hA hE hR hX [2] [0, 6] rfl rfl rfl rfl U hU hW⟩⟩ rfl rfl hl.1 rfl (lv_room (Nat.le_of_ble_eq_true rfl)) dX8_thing_183 ⟨(Nat.le_of_ble_eq_true rfl), (Nat.le_of_ble_eq_true rfl)⟩) hS (fun q _ h => (va_free hD hS hA [2] rfl) q h) (va_free hD hS hA [2] rfl) (fun q _ h => (va_free hD hS hA [2] rfl) q h) (fun E9 ce q9 xu20 zt H1 zl zht zvm zw zB zz zk zS hce hcv hcl => ?_) (fun ru20 zt H1 zl zht zvm zw zB zz zk zS => ?_)
        · obtain ⟨zq, zE, zB⟩ := zB
          subst zq
          subst zE
          subst zw
          have hF := tk_ksx hF
          obtain ⟨hP, hD⟩ := tk_join hP hD zk [2] rfl rfl (va_free hD hS hA [2] rfl) (zht ▸ zB.1) zB.2 (Nat.le_of_ble_eq_true rfl)
          have hS := zS
          generalize H1 = H at hP hS hce ⊢
          have hP : va_P D tkCl [(h0, .inr (6, oX8 (tu (tu (tu (tu (tu (tu i0 0 size) 1 sort) 2 v_at) 3 v_to) 4 v_value) 9 hasThings) (tuv (tuv (tuv v0 6 (.ref (r0 10))) 7 (.ref (r0 7))) 10 (.ref (r0 10))))), ((r0 7), .inr (2, oX2 r2 (tu (tu (tu i2 0 columns) 1 rows) 5 flags))), ((r1 0), .inr (1, oX1 (tu (tu i3 6 xu20.1) 7 xu20.2) v3)), ((r2 10), .inl (ar 2, 64, .inl stones)), ((r2 8), .inl (ar 0, 64, .inl heaps)), ((r2 9), .inl (ar 0, 3, .inl flagCell))] H := hP
          have hD : va_D A [(h0, .inr (6, oX8 (tu (tu (tu (tu (tu (tu i0 0 size) 1 sort) 2 v_at) 3 v_to) 4 v_value) 9 hasThings) (tuv (tuv (tuv v0 6 (.ref (r0 10))) 7 (.ref (r0 7))) 10 (.ref (r0 10))))), ((r0 7), .inr (2, oX2 r2 (tu (tu (tu i2 0 columns) 1 rows) 5 flags))), ((r1 0), .inr (1, oX1 (tu (tu i3 6 xu20.1) 7 xu20.2) v3)), ((r2 10), .inl (ar 2, 64, .inl stones)), ((r2 8), .inl (ar 0, 64, .inl heaps)), ((r2 9), .inl (ar 0, 3, .inl flagCell))] := hD
          have eo := tk_kr hF
          subst eo
          exact tx_out (fun x9 hx9 => (htab x9 hx9).elim) hlocks hce hcv hcl (fun t ht hW => ⟨_, rfl, ⟨rfl, rfl, tk_pst ht hP hD⟩, hS.F ht⟩) hS.2.2 (Nat.le_of_ble_eq_true rfl) (Nat.le_of_ble_eq_true rfl)
        subst zw
        have hF := tk_kss hF
        obtain ⟨hP, hD⟩ := tk_join hP hD zk [2] rfl rfl (va_free hD hS hA [2] rfl) (zht ▸ zB.1) zB.2 (Nat.le_of_ble_eq_true rfl)
        have hS := zS
        generalize H1 = H at hP hS ⊢
        have hP : va_P D tkCl [(h0, .inr (6, oX8 (tu (tu (tu (tu (tu (tu i0 0 size) 1 sort) 2 v_at) 3 v_to) 4 v_value) 9 hasThings) (tuv (tuv (tuv v0 6 (.ref (r0 10))) 7 (.ref (r0 7))) 10 (.ref (r0 10))))), ((r0 7), .inr (2, oX2 r2 (tu (tu (tu i2 0 columns) 1 rows) 5 flags))), ((r1 0), .inr (1, oX1 (tu (tu i3 6 ru20.1) 7 ru20.2) v3)), ((r2 10), .inl (ar 2, 64, .inl stones)), ((r2 8), .inl (ar 0, 64, .inl heaps)), ((r2 9), .inl (ar 0, 3, .inl flagCell))] H := hP
        have hD : va_D A [(h0, .inr (6, oX8 (tu (tu (tu (tu (tu (tu i0 0 size) 1 sort) 2 v_at) 3 v_to) 4 v_value) 9 hasThings) (tuv (tuv (tuv v0 6 (.ref (r0 10))) 7 (.ref (r0 7))) 10 (.ref (r0 10))))), ((r0 7), .inr (2, oX2 r2 (tu (tu (tu i2 0 columns) 1 rows) 5 flags))), ((r1 0), .inr (1, oX1 (tu (tu i3 6 ru20.1) 7 ru20.2) v3)), ((r2 10), .inl (ar 2, 64, .inl stones)), ((r2 8), .inl (ar 0, 64, .inl heaps)), ((r2 9), .inl (ar 0, 3, .inl flagCell))] := hD
        refine lv_aload_n hx hb dX8_thing_186 rfl (lv_at hl 0 rfl) ?_
        refine va_get (D := D) (ci := 6) (v := .ref (r0 7)) (C := RX8) (T := TX8) (N := 11) hx hb hts in_X8 hown hK hP 0 rfl rfl 7 (by decide) (hts _ q598) (fun _ h9 => h9) rfl dX8_thing_187 ?_
        refine va_getN (D := D) (ci := 2) (v := .ref (r2 10)) (C := RX2) (T := TX2) (N := 11) hx hb hts in_X2 hown hK hP 1 rfl rfl 10 (by decide) (hE.2.1.use q253 rfl rfl) (fun _ h9 => h9) rfl dX8_thing_190 ?_
        refine lv_iload hx hb dX8_thing_193 (lv_at hl 1 rfl) ?_
        refine lv_iconst (v := 1) hx hb dX8_thing_195 (by decide) ?_
        obtain ⟨gd21, hF⟩ := tk_kg hF
        refine va_zast hx hb hK hP hD hS 3 2 rfl rfl gd21 dX8_thing_196 (fun H locs hP hD hS => ?_)
        rw [tk_nz1] at hP hD
        have hP : va_P D tkCl [(h0, .inr (6, oX8 (tu (tu (tu (tu (tu (tu i0 0 size) 1 sort) 2 v_at) 3 v_to) 4 v_value) 9 hasThings) (tuv (tuv (tuv v0 6 (.ref (r0 10))) 7 (.ref (r0 7))) 10 (.ref (r0 10))))), ((r0 7), .inr (2, oX2 r2 (tu (tu (tu i2 0 columns) 1 rows) 5 flags))), ((r1 0), .inr (1, oX1 (tu (tu i3 6 ru20.1) 7 ru20.2) v3)), ((r2 10), .inl (ar 2, 64, .inl (upd stones x5.toNatClampNeg 1))), ((r2 8), .inl (ar 0, 64, .inl heaps)), ((r2 9), .inl (ar 0, 3, .inl flagCell))] H := hP
        have hD : va_D A [(h0, .inr (6, oX8 (tu (tu (tu (tu (tu (tu i0 0 size) 1 sort) 2 v_at) 3 v_to) 4 v_value) 9 hasThings) (tuv (tuv (tuv v0 6 (.ref (r0 10))) 7 (.ref (r0 7))) 10 (.ref (r0 10))))), ((r0 7), .inr (2, oX2 r2 (tu (tu (tu i2 0 columns) 1 rows) 5 flags))), ((r1 0), .inr (1, oX1 (tu (tu i3 6 ru20.1) 7 ru20.2) v3)), ((r2 10), .inl (ar 2, 64, .inl (upd stones x5.toNatClampNeg 1))), ((r2 8), .inl (ar 0, 64, .inl heaps)), ((r2 9), .inl (ar 0, 3, .inl flagCell))] := hD
        refine lv_goto (tgt := 276) hx hb dX8_thing_197 (by decide) ?_
        exact ih276 sort v_at v_to v_value hasThings flags ru20.1 ru20.2 (upd stones x5.toNatClampNeg 1) heaps flagCell _ _ _ hF hP hD hS (lv_sub hl [0] rfl)
      · intro x5 x6 sort v_at v_to v_value hasThings flags kind place stones heaps flagCell H locs ls hF hP hD hS hl
        have hF : tk_k (stX8_thing size tape columns rows) n (bX8_thing_6 size tape columns rows x5 x6 sort v_at v_to v_value hasThings flags kind place stones heaps flagCell) = some o := hF
        unfold bX8_thing_6 at hF
        refine lv_iload hx hb dX8_thing_203 (lv_at hl 2 rfl) ?_
        refine lv_aload_n hx hb dX8_thing_205 rfl (lv_at hl 0 rfl) ?_
        refine va_get (D := D) (ci := 6) (v := .ref (r0 7)) (C := RX8) (T := TX8) (N := 11) hx hb hts in_X8 hown hK hP 0 rfl rfl 7 (by decide) (hts _ q598) (fun _ h9 => h9) rfl dX8_thing_206 ?_
        refine va_getN (D := D) (ci := 2) (v := .int flags) (C := RX2) (T := TX2) (N := 11) hx hb hts in_X2 hown hK hP 1 rfl rfl 5 (by decide) (hE.2.1.use q237 rfl rfl) (fun _ h9 => h9) rfl dX8_thing_209 ?_
        refine lv_icmp_ge (tgt := 246) hx hb dX8_thing_212 (by decide) (fun c22 => ?_) (fun c22 => ?_)
        · have hF := tk_kt hF c22
          refine lv_aload_n hx hb dX8_thing_246 rfl (lv_at hl 0 rfl) ?_
          refine va_get (D := D) (ci := 6) (v := .ref (r0 7)) (C := RX8) (T := TX8) (N := 11) hx hb hts in_X8 hown hK hP 0 rfl rfl 7 (by decide) (hts _ q598) (fun _ h9 => h9) rfl dX8_thing_247 ?_
          refine va_getN (D := D) (ci := 2) (v := .ref (r2 9)) (C := RX2) (T := TX2) (N := 11) hx hb hts in_X2 hown hK hP 1 rfl rfl 9 (by decide) (hE.2.1.use q249 rfl rfl) (fun _ h9 => h9) rfl dX8_thing_250 ?_
          refine lv_aload_n hx hb dX8_thing_253 rfl (lv_at hl 0 rfl) ?_
          refine va_get (D := D) (ci := 6) (v := .ref (r0 7)) (C := RX8) (T := TX8) (N := 11) hx hb hts in_X8 hown hK hP 0 rfl rfl 7 (by decide) (hts _ q598) (fun _ h9 => h9) rfl dX8_thing_254 ?_
          refine va_getN (D := D) (ci := 2) (v := .int flags) (C := RX2) (T := TX2) (N := 11) hx hb hts in_X2 hown hK hP 1 rfl rfl 5 (by decide) (hE.2.1.use q237 rfl rfl) (fun _ h9 => h9) rfl dX8_thing_257 ?_
          refine lv_iload hx hb dX8_thing_260 (lv_at hl 1 rfl) ?_
          obtain ⟨gd23, hF⟩ := tk_kg hF
          refine va_iast hx hb hK hP hD hS 5 0 rfl rfl gd23 dX8_thing_262 (fun H locs hP hD hS => ?_)
          have hP : va_P D tkCl [(h0, .inr (6, oX8 (tu (tu (tu (tu (tu (tu i0 0 size) 1 sort) 2 v_at) 3 v_to) 4 v_value) 9 hasThings) (tuv (tuv (tuv v0 6 (.ref (r0 10))) 7 (.ref (r0 7))) 10 (.ref (r0 10))))), ((r0 7), .inr (2, oX2 r2 (tu (tu (tu i2 0 columns) 1 rows) 5 flags))), ((r1 0), .inr (1, oX1 (tu (tu i3 6 kind) 7 place) v3)), ((r2 10), .inl (ar 2, 64, .inl stones)), ((r2 8), .inl (ar 0, 64, .inl heaps)), ((r2 9), .inl (ar 0, 3, .inl (upd flagCell flags.toNatClampNeg x5)))] H := hP
          have hD : va_D A [(h0, .inr (6, oX8 (tu (tu (tu (tu (tu (tu i0 0 size) 1 sort) 2 v_at) 3 v_to) 4 v_value) 9 hasThings) (tuv (tuv (tuv v0 6 (.ref (r0 10))) 7 (.ref (r0 7))) 10 (.ref (r0 10))))), ((r0 7), .inr (2, oX2 r2 (tu (tu (tu i2 0 columns) 1 rows) 5 flags))), ((r1 0), .inr (1, oX1 (tu (tu i3 6 kind) 7 place) v3)), ((r2 10), .inl (ar 2, 64, .inl stones)), ((r2 8), .inl (ar 0, 64, .inl heaps)), ((r2 9), .inl (ar 0, 3, .inl (upd flagCell flags.toNatClampNeg x5)))] := hD
          refine lv_aload_n hx hb dX8_thing_263 rfl (lv_at hl 0 rfl) ?_
          refine va_get (D := D) (ci := 6) (v := .ref (r0 7)) (C := RX8) (T := TX8) (N := 11) hx hb hts in_X8 hown hK hP 0 rfl rfl 7 (by decide) (hts _ q598) (fun _ h9 => h9) rfl dX8_thing_264 ?_
          refine lv_dup hx hb dX8_thing_267 rfl ?_
          refine va_getN (D := D) (ci := 2) (v := .int flags) (C := RX2) (T := TX2) (N := 11) hx hb hts in_X2 hown hK hP 1 rfl rfl 5 (by decide) (hE.2.1.use q237 rfl rfl) (fun _ h9 => h9) rfl dX8_thing_268 ?_
          refine lv_iconst (v := 1) hx hb dX8_thing_271 (by decide) ?_
          refine lv_iadd hx hb dX8_thing_272 ?_
          refine va_putN (D := D) (ci := 2) (v := .int (flags + 1)) (ty := .int) (C := RX2) (T := TX2) (N := 11) hx hb hts in_X2 tyX2 tyX2_ok nmX2 hown hK hP hD hS 1 rfl rfl 5 (by decide) (hE.2.1.use q237 rfl rfl) (fun _ h9 => h9) rfl (by decide +kernel) rfl rfl (Nat.le_of_ble_eq_true rfl) dX8_thing_273 (fun H locs hP hD hS => ?_)
          have hP : va_P D tkCl [(h0, .inr (6, oX8 (tu (tu (tu (tu (tu (tu i0 0 size) 1 sort) 2 v_at) 3 v_to) 4 v_value) 9 hasThings) (tuv (tuv (tuv v0 6 (.ref (r0 10))) 7 (.ref (r0 7))) 10 (.ref (r0 10))))), ((r0 7), .inr (2, oX2 r2 (tu (tu (tu i2 0 columns) 1 rows) 5 (flags + 1)))), ((r1 0), .inr (1, oX1 (tu (tu i3 6 kind) 7 place) v3)), ((r2 10), .inl (ar 2, 64, .inl stones)), ((r2 8), .inl (ar 0, 64, .inl heaps)), ((r2 9), .inl (ar 0, 3, .inl (upd flagCell flags.toNatClampNeg x5)))] H := hP
          have hD : va_D A [(h0, .inr (6, oX8 (tu (tu (tu (tu (tu (tu i0 0 size) 1 sort) 2 v_at) 3 v_to) 4 v_value) 9 hasThings) (tuv (tuv (tuv v0 6 (.ref (r0 10))) 7 (.ref (r0 7))) 10 (.ref (r0 10))))), ((r0 7), .inr (2, oX2 r2 (tu (tu (tu i2 0 columns) 1 rows) 5 (flags + 1)))), ((r1 0), .inr (1, oX1 (tu (tu i3 6 kind) 7 place) v3)), ((r2 10), .inl (ar 2, 64, .inl stones)), ((r2 8), .inl (ar 0, 64, .inl heaps)), ((r2 9), .inl (ar 0, 3, .inl (upd flagCell flags.toNatClampNeg x5)))] := hD
          exact ih276 sort v_at v_to v_value hasThings (flags + 1) kind place stones heaps (upd flagCell flags.toNatClampNeg x5) _ _ _ hF hP hD hS (lv_sub hl [0] rfl)
        · have hF := tk_kf hF c22
          refine lv_aload_n hx hb dX8_thing_215 rfl (lv_at hl 0 rfl) ?_
          refine lv_aload_n hx hb dX8_thing_216 rfl (lv_at hl 0 rfl) ?_
          refine va_get (D := D) (ci := 6) (v := .ref (r0 7)) (C := RX8) (T := TX8) (N := 11) hx hb hts in_X8 hown hK hP 0 rfl rfl 7 (by decide) (hts _ q598) (fun _ h9 => h9) rfl dX8_thing_217 ?_
          refine va_getN (D := D) (ci := 2) (v := .ref (r2 9)) (C := RX2) (T := TX2) (N := 11) hx hb hts in_X2 hown hK hP 1 rfl rfl 9 (by decide) (hE.2.1.use q249 rfl rfl) (fun _ h9 => h9) rfl dX8_thing_220 ?_
          refine lv_iload hx hb dX8_thing_223 (lv_at hl 2 rfl) ?_
          obtain ⟨gd24, hF⟩ := tk_kg hF
          refine va_iald hx hb hK hP 5 0 rfl rfl gd24 dX8_thing_225 ?_
          refine lv_iload hx hb dX8_thing_226 (lv_at hl 1 rfl) ?_
          refine lv_icmp_eq (tgt := 235) hx hb dX8_thing_228 (by decide) (fun c25 => ?_) (fun c25 => ?_)
          · have hF := tk_kt hF c25
            refine lv_iconst (v := 0) hx hb dX8_thing_235 (by decide) ?_
            exact ih236 x5 x6 0 sort v_at v_to v_value hasThings flags kind place stones heaps flagCell _ _ _ hF hP hD hS (lv_sub hl [0, 1, 2] rfl)
          · have hF := tk_kf hF c25
            refine lv_iconst (v := 1) hx hb dX8_thing_231 (by decide) ?_
            refine lv_goto (tgt := 236) hx hb dX8_thing_232 (by decide) ?_
            exact ih236 x5 x6 1 sort v_at v_to v_value hasThings flags kind place stones heaps flagCell _ _ _ hF hP hD hS (lv_sub hl [0, 1, 2] rfl)
      · intro x5 x6 s1 sort v_at v_to v_value hasThings flags kind place stones heaps flagCell H locs ls hF hP hD hS hl
        have hF : tk_k (stX8_thing size tape columns rows) n (bX8_thing_7 size tape columns rows x5 x6 s1 sort v_at v_to v_value hasThings flags kind place stones heaps flagCell) = some o := hF
        unfold bX8_thing_7 at hF
        refine lv_iconst (v := 3) hx hb dX8_thing_236 (by decide) ?_
        obtain ⟨u26, hGu26, hF⟩ := tk_kb hF
        refine tx_callv (tx_runU (As := [.int s1, .int 3]) (rest := []) ⟨hx, hb, hml, hown, hts⟩ (mX7_ask_X8 (l := l) (D := D) (ar := ar) (ad := ad) (xs := xs) (sz := H.size) (h0 := h0) (r0 := r0) (i0 := (tu (tu (tu (tu (tu (tu i0 0 size) 1 sort) 2 v_at) 3 v_to) 4 v_value) 9 hasThings)) (v0 := (tuv (tuv (tuv v0 6 (.ref (r0 10))) 7 (.ref (r0 7))) 10 (.ref (r0 10)))) (r1 := r1) (i1 := i1) (i2 := (tu (tu i3 6 kind) 7 place)) (v2 := v3) (v_at := v_at) (kind := kind) (place := place) (p0 := s1) (p1 := 3) (hF := hGu26)) (tk_cwP (C := "TideKeep$BeachReader") (owner := "TideKeep$Reader") (x := ⟨"TideKeep$BeachReader", "ask", "(ZI)V"⟩) 2 hts (lw_meth q713) rfl rfl rfl (by decide +kernel) ⟨(Nat.le_of_ble_eq_true rfl), (Nat.le_of_ble_eq_true rfl)⟩ (hts _ q708) (hts _ q709) (va_Decl.of (x := ⟨"TideKeep$Reader", "ask", "(ZI)V"⟩) (hts _ q712) (hts _ q713)) (hts _ q711) (hts _ q712) (hts _ q102)) ⟨tk_blind, va_recv hK hP (ci := 6) (q0 := 0) rfl rfl, fun U hU hW => ⟨rfl, tk_mk hP hD hS hA hE hR hX [2] [0, 6] rfl rfl rfl rfl U hU hW⟩⟩ rfl rfl hl.1 rfl (lv_room (Nat.le_of_ble_eq_true rfl)) dX8_thing_237 ⟨(Nat.le_of_ble_eq_true rfl), (Nat.le_of_ble_eq_true rfl)⟩) hS (fun q _ h => (va_free hD hS hA [2] rfl) q h) (va_free hD hS hA [2] rfl) (fun q _ h => (va_free hD hS hA [2] rfl) q h) (fun E9 ce q9 xu26 zt H1 zl zht zvm zw zB zz zk zS hce hcv hcl => ?_) (fun ru26 zt H1 zl zht zvm zw zB zz zk zS => ?_)
        · obtain ⟨zq, zE, zB⟩ := zB
          subst zq
          subst zE
          subst zw
          have hF := tk_ksx hF
          obtain ⟨hP, hD⟩ := tk_join hP hD zk [2] rfl rfl (va_free hD hS hA [2] rfl) (zht ▸ zB.1) zB.2 (Nat.le_of_ble_eq_true rfl)
          have hS := zS
          generalize H1 = H at hP hS hce ⊢
          have hP : va_P D tkCl [(h0, .inr (6, oX8 (tu (tu (tu (tu (tu (tu i0 0 size) 1 sort) 2 v_at) 3 v_to) 4 v_value) 9 hasThings) (tuv (tuv (tuv v0 6 (.ref (r0 10))) 7 (.ref (r0 7))) 10 (.ref (r0 10))))), ((r0 7), .inr (2, oX2 r2 (tu (tu (tu i2 0 columns) 1 rows) 5 flags))), ((r1 0), .inr (1, oX1 (tu (tu i3 6 xu26.1) 7 xu26.2) v3)), ((r2 10), .inl (ar 2, 64, .inl stones)), ((r2 8), .inl (ar 0, 64, .inl heaps)), ((r2 9), .inl (ar 0, 3, .inl flagCell))] H := hP
          have hD : va_D A [(h0, .inr (6, oX8 (tu (tu (tu (tu (tu (tu i0 0 size) 1 sort) 2 v_at) 3 v_to) 4 v_value) 9 hasThings) (tuv (tuv (tuv v0 6 (.ref (r0 10))) 7 (.ref (r0 7))) 10 (.ref (r0 10))))), ((r0 7), .inr (2, oX2 r2 (tu (tu (tu i2 0 columns) 1 rows) 5 flags))), ((r1 0), .inr (1, oX1 (tu (tu i3 6 xu26.1) 7 xu26.2) v3)), ((r2 10), .inl (ar 2, 64, .inl stones)), ((r2 8), .inl (ar 0, 64, .inl heaps)), ((r2 9), .inl (ar 0, 3, .inl flagCell))] := hD
          have eo := tk_kr hF
          subst eo
          exact tx_out (fun x9 hx9 => (htab x9 hx9).elim) hlocks hce hcv hcl (fun t ht hW => ⟨_, rfl, ⟨rfl, rfl, tk_pst ht hP hD⟩, hS.F ht⟩) hS.2.2 (Nat.le_of_ble_eq_true rfl) (Nat.le_of_ble_eq_true rfl)
        subst zw
        have hF := tk_kss hF
        obtain ⟨hP, hD⟩ := tk_join hP hD zk [2] rfl rfl (va_free hD hS hA [2] rfl) (zht ▸ zB.1) zB.2 (Nat.le_of_ble_eq_true rfl)
        have hS := zS
        generalize H1 = H at hP hS ⊢
        have hP : va_P D tkCl [(h0, .inr (6, oX8 (tu (tu (tu (tu (tu (tu i0 0 size) 1 sort) 2 v_at) 3 v_to) 4 v_value) 9 hasThings) (tuv (tuv (tuv v0 6 (.ref (r0 10))) 7 (.ref (r0 7))) 10 (.ref (r0 10))))), ((r0 7), .inr (2, oX2 r2 (tu (tu (tu i2 0 columns) 1 rows) 5 flags))), ((r1 0), .inr (1, oX1 (tu (tu i3 6 ru26.1) 7 ru26.2) v3)), ((r2 10), .inl (ar 2, 64, .inl stones)), ((r2 8), .inl (ar 0, 64, .inl heaps)), ((r2 9), .inl (ar 0, 3, .inl flagCell))] H := hP
        have hD : va_D A [(h0, .inr (6, oX8 (tu (tu (tu (tu (tu (tu i0 0 size) 1 sort) 2 v_at) 3 v_to) 4 v_value) 9 hasThings) (tuv (tuv (tuv v0 6 (.ref (r0 10))) 7 (.ref (r0 7))) 10 (.ref (r0 10))))), ((r0 7), .inr (2, oX2 r2 (tu (tu (tu i2 0 columns) 1 rows) 5 flags))), ((r1 0), .inr (1, oX1 (tu (tu i3 6 ru26.1) 7 ru26.2) v3)), ((r2 10), .inl (ar 2, 64, .inl stones)), ((r2 8), .inl (ar 0, 64, .inl heaps)), ((r2 9), .inl (ar 0, 3, .inl flagCell))] := hD
        refine lv_iinc (v := x6 + 1) (lv' := [(6, .int (x6 + 1)), (0, .ref h0), (5, .int x5)]) hx hb dX8_thing_240 hl (k := 2) rfl (congrArg (fun z => x6 + z) (show Int32.ofInt 1 = 1 by decide)) (Nat.le_of_ble_eq_true rfl) rfl (fun ls hl => ?_)
        refine lv_goto (tgt := 203) hx hb dX8_thing_243 (by decide) ?_
        exact ih203 x5 (x6 + 1) sort v_at v_to v_value hasThings flags ru26.1 ru26.2 stones heaps flagCell _ _ _ hF hP hD hS (lv_sub hl [1, 2, 0] rfl)
      · intro sort v_at v_to v_value hasThings flags kind place stones heaps flagCell H locs ls hF hP hD hS hl
        have hF : tk_k (stX8_thing size tape columns rows) n (bX8_thing_8 size tape columns rows sort v_at v_to v_value hasThings flags kind place stones heaps flagCell) = some o := hF
        unfold bX8_thing_8 at hF
        refine lv_aload_n hx hb dX8_thing_276 rfl (lv_at hl 0 rfl) ?_
        obtain ⟨u27, hGu27, hF⟩ := tk_kb hF
        refine va_callv (va_runU (As := []) (rest := []) ⟨hx, hb, hml, hown, hts⟩ (mX7_goOn_X8 (l := l) (D := D) (ar := ar) (ad := ad) (xs := xs) (sz := H.size) (h0 := h0) (r0 := r0) (i0 := (tu (tu (tu (tu (tu (tu i0 0 size) 1 sort) 2 v_at) 3 v_to) 4 v_value) 9 hasThings)) (v0 := (tuv (tuv (tuv v0 6 (.ref (r0 10))) 7 (.ref (r0 7))) 10 (.ref (r0 10)))) (r1 := r1) (i1 := i1) (size := size) (tape := tape) (sort := sort) (v_at := v_at) (v_to := v_to) (v_value := v_value) (hF := hGu27)) (tk_cwP (C := "TideKeep$BeachReader") (owner := "TideKeep$Reader") (x := ⟨"TideKeep$BeachReader", "goOn", "()V"⟩) 0 hts (lw_meth q570) rfl rfl rfl (by decide +kernel) ⟨(Nat.le_of_ble_eq_true rfl), (Nat.le_of_ble_eq_true rfl)⟩ (hts _ q749) (hts _ q750) (va_Decl.of (x := ⟨"TideKeep$Reader", "goOn", "()V"⟩) (hts _ q565) (hts _ q570)) (hts _ q752) (hts _ q565) (hts _ q102)) ⟨tk_blind, va_recv hK hP (ci := 6) (q0 := 0) rfl rfl, fun U hU hW => ⟨rfl, tk_mk hP hD hS hA hE hR hX [0] [6, 7] rfl rfl rfl rfl U hU hW⟩⟩ rfl rfl hl.1 rfl (lv_room (Nat.le_of_ble_eq_true rfl)) dX8_thing_277 ⟨(Nat.le_of_ble_eq_true rfl), (Nat.le_of_ble_eq_true rfl)⟩) hS (fun q _ h => (va_free hD hS hA [0] rfl) q h) (va_free hD hS hA [0] rfl) (fun zu zt H1 zl zht zvm zw zB zz zk zS => ?_)
        obtain ⟨hP, hD⟩ := tk_join hP hD zk [0] rfl rfl (va_free hD hS hA [0] rfl) (zht ▸ zB.1) zB.2 (Nat.le_of_ble_eq_true rfl)
        have hS := zS
        generalize H1 = H at hP hS ⊢
        have hP : va_P D tkCl [(h0, .inr (6, oX8 (tu (tu (tu (tu (tu (tu i0 0 size) 1 u27.1) 2 u27.2.1) 3 u27.2.2.1) 4 u27.2.2.2) 9 hasThings) (tuv (tuv (tuv v0 6 (.ref (r0 10))) 7 (.ref (r0 7))) 10 (.ref (r0 10))))), ((r0 7), .inr (2, oX2 r2 (tu (tu (tu i2 0 columns) 1 rows) 5 flags))), ((r1 0), .inr (1, oX1 (tu (tu i3 6 kind) 7 place) v3)), ((r2 10), .inl (ar 2, 64, .inl stones)), ((r2 8), .inl (ar 0, 64, .inl heaps)), ((r2 9), .inl (ar 0, 3, .inl flagCell))] H := hP
        have hD : va_D A [(h0, .inr (6, oX8 (tu (tu (tu (tu (tu (tu i0 0 size) 1 u27.1) 2 u27.2.1) 3 u27.2.2.1) 4 u27.2.2.2) 9 hasThings) (tuv (tuv (tuv v0 6 (.ref (r0 10))) 7 (.ref (r0 7))) 10 (.ref (r0 10))))), ((r0 7), .inr (2, oX2 r2 (tu (tu (tu i2 0 columns) 1 rows) 5 flags))), ((r1 0), .inr (1, oX1 (tu (tu i3 6 kind) 7 place) v3)), ((r2 10), .inl (ar 2, 64, .inl stones)), ((r2 8), .inl (ar 0, 64, .inl heaps)), ((r2 9), .inl (ar 0, 3, .inl flagCell))] := hD
        have eo := tk_kr hF
        subst eo
        refine tx_ret ?_
        exact W.vret hx hb hr (fun t ht hW => ⟨⟨_, rfl, rfl, tk_pst ht hP hD⟩, hS.F ht⟩) hS.2.2 dX8_thing_280
  obtain ⟨ih34, ih39, ih67, ih138, ih182, ih203, ih236, ih276⟩ := key n0
  clear key
  unfold bX8_thing_0 at hF
  have hF : tk_k (stX8_thing size tape columns rows) n0 _ = some o := hF
  refine lv_aload_n hx hb dX8_thing_0 rfl (lv_at hl 0 rfl) ?_
  refine va_ldcS hx hb hown (hE.2.2.2.1 39 _ rfl).1 dX8_thing_1 ?_
  obtain ⟨u1, hGu1, hF⟩ := tk_kb hF
  refine va_calli (va_runU (As := [.ref (ad 0 39)]) (rest := []) ⟨hx, hb, hml, hown, hts⟩ (mX7_is_X8 (l := l) (D := D) (ar := ar) (ad := ad) (xs := xs) (sz := s.heap.size) (h0 := h0) (r0 := r0) (i0 := (tu (tu (tu (tu (tu (tu i0 0 size) 1 sort) 2 v_at) 3 v_to) 4 v_value) 9 hasThings)) (v0 := (tuv (tuv (tuv v0 6 (.ref (r0 10))) 7 (.ref (r0 7))) 10 (.ref (r0 10)))) (r1 := r1) (i1 := i1) (size := size) (sort := sort) (v_at := v_at) (v_to := v_to) (tape := tape) (p0 := 39) (hk_p0 := (by decide)) (hF := hGu1)) (tk_cwP (C := "TideKeep$BeachReader") (owner := "TideKeep$Reader") (x := ⟨"TideKeep$BeachReader", "is", "(Ljava/lang/String;)Z"⟩) 1 hts (lw_meth q655) rfl rfl rfl (by decide +kernel) ⟨(Nat.le_of_ble_eq_true rfl), (Nat.le_of_ble_eq_true rfl)⟩ (hts _ q650) (hts _ q651) (va_Decl.of (x := ⟨"TideKeep$Reader", "is", "(Ljava/lang/String;)Z"⟩) (hts _ q654) (hts _ q655)) (hts _ q653) (hts _ q654) (hts _ q102)) ⟨tk_blind, va_recv hK hP (ci := 6) (q0 := 0) rfl rfl, fun U hU hW => ⟨rfl, tk_mk hP hD hS hA hE hR hX [] [0, 6, 7] rfl rfl rfl rfl U hU hW⟩⟩ rfl rfl hl.1 rfl (lv_room (Nat.le_of_ble_eq_true rfl)) dX8_thing_3 ⟨(Nat.le_of_ble_eq_true rfl), (Nat.le_of_ble_eq_true rfl)⟩) hS (fun q _ h => (va_free hD hS hA [] rfl) q h) (va_free hD hS hA [] rfl) (fun zr zu zt H1 zl zht zvm zw zB zz zk zS => ?_)
  obtain ⟨hP, hD⟩ := tk_join hP hD zk [] rfl rfl (va_free hD hS hA [] rfl) (zht ▸ zB.1) zB.2 (Nat.le_of_ble_eq_true rfl)
  have hS := zS
  have zw := Eq.symm zw
  subst zw
  generalize H1 = H at hP hS ⊢
  have hP : va_P D tkCl [(h0, .inr (6, oX8 (tu (tu (tu (tu (tu (tu i0 0 size) 1 sort) 2 v_at) 3 v_to) 4 v_value) 9 hasThings) (tuv (tuv (tuv v0 6 (.ref (r0 10))) 7 (.ref (r0 7))) 10 (.ref (r0 10))))), ((r0 7), .inr (2, oX2 r2 (tu (tu (tu i2 0 columns) 1 rows) 5 flags))), ((r1 0), .inr (1, oX1 (tu (tu i3 6 kind) 7 place) v3)), ((r2 10), .inl (ar 2, 64, .inl stones)), ((r2 8), .inl (ar 0, 64, .inl heaps)), ((r2 9), .inl (ar 0, 3, .inl flagCell))] H := hP
  have hD : va_D A [(h0, .inr (6, oX8 (tu (tu (tu (tu (tu (tu i0 0 size) 1 sort) 2 v_at) 3 v_to) 4 v_value) 9 hasThings) (tuv (tuv (tuv v0 6 (.ref (r0 10))) 7 (.ref (r0 7))) 10 (.ref (r0 10))))), ((r0 7), .inr (2, oX2 r2 (tu (tu (tu i2 0 columns) 1 rows) 5 flags))), ((r1 0), .inr (1, oX1 (tu (tu i3 6 kind) 7 place) v3)), ((r2 10), .inl (ar 2, 64, .inl stones)), ((r2 8), .inl (ar 0, 64, .inl heaps)), ((r2 9), .inl (ar 0, 3, .inl flagCell))] := hD
  refine lv_istore_n (lv' := [(1, .int u1), (0, .ref h0)]) hx hb dX8_thing_6 rfl hl (Nat.le_of_ble_eq_true rfl) rfl (fun ls hl => ?_)
  refine lv_aload_n hx hb dX8_thing_7 rfl (lv_at hl 1 rfl) ?_
  refine va_ldcS hx hb hown (hE.2.2.2.1 40 _ rfl).1 dX8_thing_8 ?_
  obtain ⟨u2, hGu2, hF⟩ := tk_kb hF
  refine va_calli (va_runU (As := [.ref (ad 0 40)]) (rest := []) ⟨hx, hb, hml, hown, hts⟩ (mX7_is_X8 (l := l) (D := D) (ar := ar) (ad := ad) (xs := xs) (sz := H.size) (h0 := h0) (r0 := r0) (i0 := (tu (tu (tu (tu (tu (tu i0 0 size) 1 sort) 2 v_at) 3 v_to) 4 v_value) 9 hasThings)) (v0 := (tuv (tuv (tuv v0 6 (.ref (r0 10))) 7 (.ref (r0 7))) 10 (.ref (r0 10)))) (r1 := r1) (i1 := i1) (size := size) (sort := sort) (v_at := v_at) (v_to := v_to) (tape := tape) (p0 := 40) (hk_p0 := (by decide)) (hF := hGu2)) (tk_cwP (C := "TideKeep$BeachReader") (owner := "TideKeep$Reader") (x := ⟨"TideKeep$BeachReader", "is", "(Ljava/lang/String;)Z"⟩) 1 hts (lw_meth q655) rfl rfl rfl (by decide +kernel) ⟨(Nat.le_of_ble_eq_true rfl), (Nat.le_of_ble_eq_true rfl)⟩ (hts _ q650) (hts _ q651) (va_Decl.of (x := ⟨"TideKeep$Reader", "is", "(Ljava/lang/String;)Z"⟩) (hts _ q654) (hts _ q655)) (hts _ q653) (hts _ q654) (hts _ q102)) ⟨tk_blind, va_recv hK hP (ci := 6) (q0 := 0) rfl rfl, fun U hU hW => ⟨rfl, tk_mk hP hD hS hA hE hR hX [] [0, 6, 7] rfl rfl rfl rfl U hU hW⟩⟩ rfl rfl hl.1 rfl (lv_room (Nat.le_of_ble_eq_true rfl)) dX8_thing_10 ⟨(Nat.le_of_ble_eq_true rfl), (Nat.le_of_ble_eq_true rfl)⟩) hS (fun q _ h => (va_free hD hS hA [] rfl) q h) (va_free hD hS hA [] rfl) (fun zr zu zt H1 zl zht zvm zw zB zz zk zS => ?_)
  obtain ⟨hP, hD⟩ := tk_join hP hD zk [] rfl rfl (va_free hD hS hA [] rfl) (zht ▸ zB.1) zB.2 (Nat.le_of_ble_eq_true rfl)
  have hS := zS
  have zw := Eq.symm zw
  subst zw
  generalize H1 = H at hP hS ⊢
  have hP : va_P D tkCl [(h0, .inr (6, oX8 (tu (tu (tu (tu (tu (tu i0 0 size) 1 sort) 2 v_at) 3 v_to) 4 v_value) 9 hasThings) (tuv (tuv (tuv v0 6 (.ref (r0 10))) 7 (.ref (r0 7))) 10 (.ref (r0 10))))), ((r0 7), .inr (2, oX2 r2 (tu (tu (tu i2 0 columns) 1 rows) 5 flags))), ((r1 0), .inr (1, oX1 (tu (tu i3 6 kind) 7 place) v3)), ((r2 10), .inl (ar 2, 64, .inl stones)), ((r2 8), .inl (ar 0, 64, .inl heaps)), ((r2 9), .inl (ar 0, 3, .inl flagCell))] H := hP
  have hD : va_D A [(h0, .inr (6, oX8 (tu (tu (tu (tu (tu (tu i0 0 size) 1 sort) 2 v_at) 3 v_to) 4 v_value) 9 hasThings) (tuv (tuv (tuv v0 6 (.ref (r0 10))) 7 (.ref (r0 7))) 10 (.ref (r0 10))))), ((r0 7), .inr (2, oX2 r2 (tu (tu (tu i2 0 columns) 1 rows) 5 flags))), ((r1 0), .inr (1, oX1 (tu (tu i3 6 kind) 7 place) v3)), ((r2 10), .inl (ar 2, 64, .inl stones)), ((r2 8), .inl (ar 0, 64, .inl heaps)), ((r2 9), .inl (ar 0, 3, .inl flagCell))] := hD
  refine lv_istore_n (lv' := [(2, .int u2), (1, .int u1), (0, .ref h0)]) hx hb dX8_thing_13 rfl hl (Nat.le_of_ble_eq_true rfl) rfl (fun ls hl => ?_)
  refine lv_aload_n hx hb dX8_thing_14 rfl (lv_at hl 2 rfl) ?_
  refine lv_iload_n hx hb dX8_thing_15 rfl (lv_at hl 1 rfl) ?_
  refine lv_if_ne (tgt := 34) hx hb dX8_thing_16 (by decide) (fun c3 => ?_) (fun c3 => ?_)
  · have hF := tk_kf hF c3
    exact ih34 u1 u2 sort v_at v_to v_value hasThings flags kind place stones heaps flagCell _ _ _ hF hP hD hS (lv_sub hl [2, 1, 0] rfl)
  · have hF := tk_kt hF c3
    refine lv_iload_n hx hb dX8_thing_19 rfl (lv_at hl 0 rfl) ?_
    refine lv_if_ne (tgt := 34) hx hb dX8_thing_20 (by decide) (fun c4 => ?_) (fun c4 => ?_)
    · have hF := tk_kf hF c4
      exact ih34 u1 u2 sort v_at v_to v_value hasThings flags kind place stones heaps flagCell _ _ _ hF hP hD hS (lv_sub hl [2, 1, 0] rfl)
    · have hF := tk_kt hF c4
      refine lv_aload_n hx hb dX8_thing_23 rfl (lv_at hl 2 rfl) ?_
      refine va_get (D := D) (ci := 6) (v := .ref (r0 7)) (C := RX8) (T := TX8) (N := 11) hx hb hts in_X8 hown hK hP 0 rfl rfl 7 (by decide) (hts _ q598) (fun _ h9 => h9) rfl dX8_thing_24 ?_
      refine va_getN (D := D) (ci := 2) (v := .int flags) (C := RX2) (T := TX2) (N := 11) hx hb hts in_X2 hown hK hP 1 rfl rfl 5 (by decide) (hE.2.1.use q237 rfl rfl) (fun _ h9 => h9) rfl dX8_thing_27 ?_
      refine lv_iconst (v := 3) hx hb dX8_thing_30 (by decide) ?_
      refine lv_icmp_ge (tgt := 38) hx hb dX8_thing_31 (by decide) (fun c5 => ?_) (fun c5 => ?_)
      · have hF := tk_kt hF c5
        refine lv_iconst (v := 0) hx hb dX8_thing_38 (by decide) ?_
        exact ih39 u1 u2 0 sort v_at v_to v_value hasThings flags kind place stones heaps flagCell _ _ _ hF hP hD hS (lv_sub hl [2, 1, 0] rfl)
      · have hF := tk_kf hF c5
        exact ih34 u1 u2 sort v_at v_to v_value hasThings flags kind place stones heaps flagCell _ _ _ hF hP hD hS (lv_sub hl [2, 1, 0] rfl)
set_option maxHeartbeats 4000000 in
theorem mX8_clause (l : Launch) (D : va_G) (ar : Nat → ClassId) (ad : Nat → Nat → Nat) (xs : va_W) (sz : Nat) (h0 : Nat) (i0 : Nat → Int32) (v0 : Nat → Value) (r0 r1 : Nat → Nat) (i1 i2 : Nat → Int32) (v2 : Nat → Value) (r3 : Nat → Nat) (i3 : Nat → Int32) (size : Int32) (tape : Nat → Int32) (sort v_at v_to v_value told hasThings kind place columns rows best top loss flags : Int32) (stones heaps flagCell numbers : Nat → Int32) (o : (Int32 × Int32 × Int32 × Int32 × Int32 × Int32 × Int32 × Int32 × Int32 × Int32 × Int32 × Int32 × Int32 × Int32 × (Nat → Int32) × (Nat → Int32) × (Nat → Int32) × (Nat → Int32)) ⊕ (Int32 × Int32 × Int32 × Int32 × Int32 × Int32 × Int32 × Int32 × Int32 × Int32 × Int32 × Int32 × Int32 × Int32 × (Nat → Int32) × (Nat → Int32) × (Nat → Int32) × (Nat → Int32))) (hF : fX8_clause size tape sort v_at v_to v_value told hasThings kind place columns rows best top loss flags stones heaps flagCell numbers = some o) : tx_Met l yX8_clause (ws_ yX8_clause cX8_clause 3 none) ({ frames := 6, cells := 0, slots := 0, locals := 133 }) (va_Pc [.ref h0] (tk_Pre D ar ad [(h0, .inr (6, oX8 (tu (tu (tu (tu (tu (tu (tu i0 0 size) 1 sort) 2 v_at) 3 v_to) 4 v_value) 5 told) 9 hasThings) (tuv (tuv (tuv (tuv v0 6 (.ref (r0 10))) 7 (.ref (r0 7))) 8 (.ref (r0 8))) 10 (.ref (r0 10))))), ((r1 0), .inr (1, oX1 (tu (tu i2 6 kind) 7 place) v2)), ((r0 7), .inr (2, oX2 r3 (tu (tu (tu (tu (tu (tu i3 0 columns) 1 rows) 2 best) 3 top) 4 loss) 5 flags))), ((r3 10), .inl (ar 2, 64, .inl stones)), ((r3 8), .inl (ar 0, 64, .inl heaps)), ((r3 9), .inl (ar 0, 3, .inl flagCell)), ((r3 7), .inl (ar 0, 6, .inl numbers))] [((r0 10), .inr (0, oX0 r1 i1)), ((r1 1), .inl (ar 1, 900, .inl tape)), ((r0 8), .inl (ar 5, 6, .inr (.inr (.inr (.inr (tk_kd ad))))))] xs sz)) (va_Qv (fun z : Int32 × Int32 × Int32 × Int32 × Int32 × Int32 × Int32 × Int32 × Int32 × Int32 × Int32 × Int32 × Int32 × Int32 × (Nat → Int32) × (Nat → Int32) × (Nat → Int32) × (Nat → Int32) => o = .inl z) (fun z t => tk_Post D (va_A [(h0, .inr (6, oX8 (tu (tu (tu (tu (tu (tu (tu i0 0 size) 1 sort) 2 v_at) 3 v_to) 4 v_value) 5 told) 9 hasThings) (tuv (tuv (tuv (tuv v0 6 (.ref (r0 10))) 7 (.ref (r0 7))) 8 (.ref (r0 8))) 10 (.ref (r0 10))))), ((r1 0), .inr (1, oX1 (tu (tu i2 6 kind) 7 place) v2)), ((r0 7), .inr (2, oX2 r3 (tu (tu (tu (tu (tu (tu i3 0 columns) 1 rows) 2 best) 3 top) 4 loss) 5 flags))), ((r3 10), .inl (ar 2, 64, .inl stones)), ((r3 8), .inl (ar 0, 64, .inl heaps)), ((r3 9), .inl (ar 0, 3, .inl flagCell)), ((r3 7), .inl (ar 0, 6, .inl numbers))] sz) [(h0, .inr (6, oX8 (tu (tu (tu (tu (tu (tu (tu i0 0 size) 1 z.1) 2 z.2.1) 3 z.2.2.1) 4 z.2.2.2.1) 5 z.2.2.2.2.1) 9 z.2.2.2.2.2.1) (tuv (tuv (tuv (tuv v0 6 (.ref (r0 10))) 7 (.ref (r0 7))) 8 (.ref (r0 8))) 10 (.ref (r0 10))))), ((r1 0), .inr (1, oX1 (tu (tu i2 6 z.2.2.2.2.2.2.1) 7 z.2.2.2.2.2.2.2.1) v2)), ((r0 7), .inr (2, oX2 r3 (tu (tu (tu (tu (tu (tu i3 0 z.2.2.2.2.2.2.2.2.1) 1 z.2.2.2.2.2.2.2.2.2.1) 2 z.2.2.2.2.2.2.2.2.2.2.1) 3 z.2.2.2.2.2.2.2.2.2.2.2.1) 4 z.2.2.2.2.2.2.2.2.2.2.2.2.1) 5 z.2.2.2.2.2.2.2.2.2.2.2.2.2.1))), ((r3 10), .inl (ar 2, 64, .inl z.2.2.2.2.2.2.2.2.2.2.2.2.2.2.1)), ((r3 8), .inl (ar 0, 64, .inl z.2.2.2.2.2.2.2.2.2.2.2.2.2.2.2.1)), ((r3 9), .inl (ar 0, 3, .inl z.2.2.2.2.2.2.2.2.2.2.2.2.2.2.2.2.1)), ((r3 7), .inl (ar 0, 6, .inl z.2.2.2.2.2.2.2.2.2.2.2.2.2.2.2.2.2))] t) (va_A [(h0, .inr (6, oX8 (tu (tu (tu (tu (tu (tu (tu i0 0 size) 1 sort) 2 v_at) 3 v_to) 4 v_value) 5 told) 9 hasThings) (tuv (tuv (tuv (tuv v0 6 (.ref (r0 10))) 7 (.ref (r0 7))) 8 (.ref (r0 8))) 10 (.ref (r0 10))))), ((r1 0), .inr (1, oX1 (tu (tu i2 6 kind) 7 place) v2)), ((r0 7), .inr (2, oX2 r3 (tu (tu (tu (tu (tu (tu i3 0 columns) 1 rows) 2 best) 3 top) 4 loss) 5 flags))), ((r3 10), .inl (ar 2, 64, .inl stones)), ((r3 8), .inl (ar 0, 64, .inl heaps)), ((r3 9), .inl (ar 0, 3, .inl flagCell)), ((r3 7), .inl (ar 0, 6, .inl numbers))] sz)) (tx_X (fun z : Int32 × Int32 × Int32 × Int32 × Int32 × Int32 × Int32 × Int32 × Int32 × Int32 × Int32 × Int32 × Int32 × Int32 × (Nat → Int32) × (Nat → Int32) × (Nat → Int32) × (Nat → Int32) => o = .inr z) (fun q9 E9 z t => q9 = (r1 0) ∧ E9 = "TideKeep$Wrong" ∧ tk_Post D (va_A [(h0, .inr (6, oX8 (tu (tu (tu (tu (tu (tu (tu i0 0 size) 1 sort) 2 v_at) 3 v_to) 4 v_value) 5 told) 9 hasThings) (tuv (tuv (tuv (tuv v0 6 (.ref (r0 10))) 7 (.ref (r0 7))) 8 (.ref (r0 8))) 10 (.ref (r0 10))))), ((r1 0), .inr (1, oX1 (tu (tu i2 6 kind) 7 place) v2)), ((r0 7), .inr (2, oX2 r3 (tu (tu (tu (tu (tu (tu i3 0 columns) 1 rows) 2 best) 3 top) 4 loss) 5 flags))), ((r3 10), .inl (ar 2, 64, .inl stones)), ((r3 8), .inl (ar 0, 64, .inl heaps)), ((r3 9), .inl (ar 0, 3, .inl flagCell)), ((r3 7), .inl (ar 0, 6, .inl numbers))] sz) [(h0, .inr (6, oX8 (tu (tu (tu (tu (tu (tu (tu i0 0 size) 1 z.1) 2 z.2.1) 3 z.2.2.1) 4 z.2.2.2.1) 5 z.2.2.2.2.1) 9 z.2.2.2.2.2.1) (tuv (tuv (tuv (tuv v0 6 (.ref (r0 10))) 7 (.ref (r0 7))) 8 (.ref (r0 8))) 10 (.ref (r0 10))))), ((r1 0), .inr (1, oX1 (tu (tu i2 6 z.2.2.2.2.2.2.1) 7 z.2.2.2.2.2.2.2.1) v2)), ((r0 7), .inr (2, oX2 r3 (tu (tu (tu (tu (tu (tu i3 0 z.2.2.2.2.2.2.2.2.1) 1 z.2.2.2.2.2.2.2.2.2.1) 2 z.2.2.2.2.2.2.2.2.2.2.1) 3 z.2.2.2.2.2.2.2.2.2.2.2.1) 4 z.2.2.2.2.2.2.2.2.2.2.2.2.1) 5 z.2.2.2.2.2.2.2.2.2.2.2.2.2.1))), ((r3 10), .inl (ar 2, 64, .inl z.2.2.2.2.2.2.2.2.2.2.2.2.2.2.1)), ((r3 8), .inl (ar 0, 64, .inl z.2.2.2.2.2.2.2.2.2.2.2.2.2.2.2.1)), ((r3 9), .inl (ar 0, 3, .inl z.2.2.2.2.2.2.2.2.2.2.2.2.2.2.2.2.1)), ((r3 7), .inl (ar 0, 6, .inl z.2.2.2.2.2.2.2.2.2.2.2.2.2.2.2.2.2))] t) (va_A [(h0, .inr (6, oX8 (tu (tu (tu (tu (tu (tu (tu i0 0 size) 1 sort) 2 v_at) 3 v_to) 4 v_value) 5 told) 9 hasThings) (tuv (tuv (tuv (tuv v0 6 (.ref (r0 10))) 7 (.ref (r0 7))) 8 (.ref (r0 8))) 10 (.ref (r0 10))))), ((r1 0), .inr (1, oX1 (tu (tu i2 6 kind) 7 place) v2)), ((r0 7), .inr (2, oX2 r3 (tu (tu (tu (tu (tu (tu i3 0 columns) 1 rows) 2 best) 3 top) 4 loss) 5 flags))), ((r3 10), .inl (ar 2, 64, .inl stones)), ((r3 8), .inl (ar 0, 64, .inl heaps)), ((r3 9), .inl (ar 0, 3, .inl flagCell)), ((r3 7), .inl (ar 0, 6, .inl numbers))] sz)) 0 0 (va_A [(h0, .inr (6, oX8 (tu (tu (tu (tu (tu (tu (tu i0 0 size) 1 sort) 2 v_at) 3 v_to) 4 v_value) 5 told) 9 hasThings) (tuv (tuv (tuv (tuv v0 6 (.ref (r0 10))) 7 (.ref (r0 7))) 8 (.ref (r0 8))) 10 (.ref (r0 10))))), ((r1 0), .inr (1, oX1 (tu (tu i2 6 kind) 7 place) v2)), ((r0 7), .inr (2, oX2 r3 (tu (tu (tu (tu (tu (tu i3 0 columns) 1 rows) 2 best) 3 top) 4 loss) 5 flags))), ((r3 10), .inl (ar 2, 64, .inl stones)), ((r3 8), .inl (ar 0, 64, .inl heaps)), ((r3 9), .inl (ar 0, 3, .inl flagCell)), ((r3 7), .inl (ar 0, 6, .inl numbers))] sz) := by
  refine tx_ofW (cc := cX8_clause) (maxL := 3) (ret := none) (by decide) rfl ?_
  intro p e s m args below meth c s₁ B hml htab hv
  obtain ⟨rfl, hsz, hP, hD0, hR, hX, hE⟩ := hv
  have hx := B.exec
  have hb := B.bytes
  have hr := B.returns
  have hts := atoms_spec (ws := (ws_ yX8_clause cX8_clause 3 none)) B.pre
  have hts : ∀ w ∈ lw_all, w.before _ s = true := fun w h => hts w (List.mem_cons_of_mem _ h)
  have hown : s.vm.findClass RX8 = some m.cls := findClass_of_methodNamed B.named
  have hlocks := B.notSynchronized
  subst hsz
  have hD := hD0.self (sz := s.heap.size)
  generalize hAe : va_A [(h0, .inr (6, oX8 (tu (tu (tu (tu (tu (tu (tu i0 0 size) 1 sort) 2 v_at) 3 v_to) 4 v_value) 5 told) 9 hasThings) (tuv (tuv (tuv (tuv v0 6 (.ref (r0 10))) 7 (.ref (r0 7))) 8 (.ref (r0 8))) 10 (.ref (r0 10))))), ((r1 0), .inr (1, oX1 (tu (tu i2 6 kind) 7 place) v2)), ((r0 7), .inr (2, oX2 r3 (tu (tu (tu (tu (tu (tu i3 0 columns) 1 rows) 2 best) 3 top) 4 loss) 5 flags))), ((r3 10), .inl (ar 2, 64, .inl stones)), ((r3 8), .inl (ar 0, 64, .inl heaps)), ((r3 9), .inl (ar 0, 3, .inl flagCell)), ((r3 7), .inl (ar 0, 6, .inl numbers))] s.heap.size = A at hD hR hX hE ⊢
  have hA : ∀ q : Nat, s.heap.size ≤ q → A q := fun q h => by rw [← hAe]; exact Or.inr h
  have hS : va_S A s.heap s.heap [] := va_S.rf
  have hK := hE.1
  have hl := lv_entry ([.ref h0]) (n := 3) (Nat.le_of_ble_eq_true rfl)
  rw [lg_entry_eq]
  generalize (lg_sl ([.ref h0]) ++ List.replicate (3 - (lg_sl ([.ref h0])).length) Slot.unset).toArray = ls at hl ⊢
  have hl : lv_has ls 3 [(0, .ref h0)] := hl
  have hP : va_P D tkCl [(h0, .inr (6, oX8 (tu (tu (tu (tu (tu (tu (tu i0 0 size) 1 sort) 2 v_at) 3 v_to) 4 v_value) 5 told) 9 hasThings) (tuv (tuv (tuv (tuv v0 6 (.ref (r0 10))) 7 (.ref (r0 7))) 8 (.ref (r0 8))) 10 (.ref (r0 10))))), ((r1 0), .inr (1, oX1 (tu (tu i2 6 kind) 7 place) v2)), ((r0 7), .inr (2, oX2 r3 (tu (tu (tu (tu (tu (tu i3 0 columns) 1 rows) 2 best) 3 top) 4 loss) 5 flags))), ((r3 10), .inl (ar 2, 64, .inl stones)), ((r3 8), .inl (ar 0, 64, .inl heaps)), ((r3 9), .inl (ar 0, 3, .inl flagCell)), ((r3 7), .inl (ar 0, 6, .inl numbers))] s.heap := hP
  obtain ⟨n0, hF⟩ : ∃ n, tk_k (stX8_clause size tape) n (bX8_clause_0 size tape sort v_at v_to v_value told hasThings kind place columns rows best top loss flags stones heaps flagCell numbers) = some o := tk_fin_it hF
  have key : ∀ n : Nat, (∀ (s1 sort v_at v_to v_value told hasThings kind place columns rows best top loss flags : Int32) (stones heaps flagCell numbers : Nat → Int32) (H : Heap) (locs : List Loc) (ls : Array Slot), tk_it (stX8_clause size tape) n (1, (s1, 0, 0, 0, sort, v_at, v_to, v_value, told, hasThings, kind, place, columns, rows, best, top, loss, flags, stones, heaps, flagCell, numbers)) = some o → va_P D tkCl [(h0, .inr (6, oX8 (tu (tu (tu (tu (tu (tu (tu i0 0 size) 1 sort) 2 v_at) 3 v_to) 4 v_value) 5 told) 9 hasThings) (tuv (tuv (tuv (tuv v0 6 (.ref (r0 10))) 7 (.ref (r0 7))) 8 (.ref (r0 8))) 10 (.ref (r0 10))))), ((r1 0), .inr (1, oX1 (tu (tu i2 6 kind) 7 place) v2)), ((r0 7), .inr (2, oX2 r3 (tu (tu (tu (tu (tu (tu i3 0 columns) 1 rows) 2 best) 3 top) 4 loss) 5 flags))), ((r3 10), .inl (ar 2, 64, .inl stones)), ((r3 8), .inl (ar 0, 64, .inl heaps)), ((r3 9), .inl (ar 0, 3, .inl flagCell)), ((r3 7), .inl (ar 0, 6, .inl numbers))] H → va_D A [(h0, .inr (6, oX8 (tu (tu (tu (tu (tu (tu (tu i0 0 size) 1 sort) 2 v_at) 3 v_to) 4 v_value) 5 told) 9 hasThings) (tuv (tuv (tuv (tuv v0 6 (.ref (r0 10))) 7 (.ref (r0 7))) 8 (.ref (r0 8))) 10 (.ref (r0 10))))), ((r1 0), .inr (1, oX1 (tu (tu i2 6 kind) 7 place) v2)), ((r0 7), .inr (2, oX2 r3 (tu (tu (tu (tu (tu (tu i3 0 columns) 1 rows) 2 best) 3 top) 4 loss) 5 flags))), ((r3 10), .inl (ar 2, 64, .inl stones)), ((r3 8), .inl (ar 0, 64, .inl heaps)), ((r3 9), .inl (ar 0, 3, .inl flagCell)), ((r3 7), .inl (ar 0, 6, .inl numbers))] → va_S A s.heap H locs → lv_has ls 3 [(0, .ref h0)] → W p l e (headSpec (ws_ yX8_clause cX8_clause 3 none) ({ frames := 6, cells := 0, slots := 0, locals := 133 })).room s m ([.ref h0] : List Value).toArray below meth c H locs 0 0 (tx_MQ below (va_Qv (fun z : Int32 × Int32 × Int32 × Int32 × Int32 × Int32 × Int32 × Int32 × Int32 × Int32 × Int32 × Int32 × Int32 × Int32 × (Nat → Int32) × (Nat → Int32) × (Nat → Int32) × (Nat → Int32) => o = .inl z) (fun z t => tk_Post D A [(h0, .inr (6, oX8 (tu (tu (tu (tu (tu (tu (tu i0 0 size) 1 z.1) 2 z.2.1) 3 z.2.2.1) 4 z.2.2.2.1) 5 z.2.2.2.2.1) 9 z.2.2.2.2.2.1) (tuv (tuv (tuv (tuv v0 6 (.ref (r0 10))) 7 (.ref (r0 7))) 8 (.ref (r0 8))) 10 (.ref (r0 10))))), ((r1 0), .inr (1, oX1 (tu (tu i2 6 z.2.2.2.2.2.2.1) 7 z.2.2.2.2.2.2.2.1) v2)), ((r0 7), .inr (2, oX2 r3 (tu (tu (tu (tu (tu (tu i3 0 z.2.2.2.2.2.2.2.2.1) 1 z.2.2.2.2.2.2.2.2.2.1) 2 z.2.2.2.2.2.2.2.2.2.2.1) 3 z.2.2.2.2.2.2.2.2.2.2.2.1) 4 z.2.2.2.2.2.2.2.2.2.2.2.2.1) 5 z.2.2.2.2.2.2.2.2.2.2.2.2.2.1))), ((r3 10), .inl (ar 2, 64, .inl z.2.2.2.2.2.2.2.2.2.2.2.2.2.2.1)), ((r3 8), .inl (ar 0, 64, .inl z.2.2.2.2.2.2.2.2.2.2.2.2.2.2.2.1)), ((r3 9), .inl (ar 0, 3, .inl z.2.2.2.2.2.2.2.2.2.2.2.2.2.2.2.2.1)), ((r3 7), .inl (ar 0, 6, .inl z.2.2.2.2.2.2.2.2.2.2.2.2.2.2.2.2.2))] t) A) (tx_X (fun z : Int32 × Int32 × Int32 × Int32 × Int32 × Int32 × Int32 × Int32 × Int32 × Int32 × Int32 × Int32 × Int32 × Int32 × (Nat → Int32) × (Nat → Int32) × (Nat → Int32) × (Nat → Int32) => o = .inr z) (fun q9 E9 z t => q9 = (r1 0) ∧ E9 = "TideKeep$Wrong" ∧ tk_Post D A [(h0, .inr (6, oX8 (tu (tu (tu (tu (tu (tu (tu i0 0 size) 1 z.1) 2 z.2.1) 3 z.2.2.1) 4 z.2.2.2.1) 5 z.2.2.2.2.1) 9 z.2.2.2.2.2.1) (tuv (tuv (tuv (tuv v0 6 (.ref (r0 10))) 7 (.ref (r0 7))) 8 (.ref (r0 8))) 10 (.ref (r0 10))))), ((r1 0), .inr (1, oX1 (tu (tu i2 6 z.2.2.2.2.2.2.1) 7 z.2.2.2.2.2.2.2.1) v2)), ((r0 7), .inr (2, oX2 r3 (tu (tu (tu (tu (tu (tu i3 0 z.2.2.2.2.2.2.2.2.1) 1 z.2.2.2.2.2.2.2.2.2.1) 2 z.2.2.2.2.2.2.2.2.2.2.1) 3 z.2.2.2.2.2.2.2.2.2.2.2.1) 4 z.2.2.2.2.2.2.2.2.2.2.2.2.1) 5 z.2.2.2.2.2.2.2.2.2.2.2.2.2.1))), ((r3 10), .inl (ar 2, 64, .inl z.2.2.2.2.2.2.2.2.2.2.2.2.2.2.1)), ((r3 8), .inl (ar 0, 64, .inl z.2.2.2.2.2.2.2.2.2.2.2.2.2.2.2.1)), ((r3 9), .inl (ar 0, 3, .inl z.2.2.2.2.2.2.2.2.2.2.2.2.2.2.2.2.1)), ((r3 7), .inl (ar 0, 6, .inl z.2.2.2.2.2.2.2.2.2.2.2.2.2.2.2.2.2))] t) A) ([.ref h0] : List Value).toArray s 0 0 A) (F0 m 24 ls [.int s1, .ref h0])) ∧ (∀ (s1 sort v_at v_to v_value told hasThings kind place columns rows best top loss flags : Int32) (stones heaps flagCell numbers : Nat → Int32) (H : Heap) (locs : List Loc) (ls : Array Slot), tk_it (stX8_clause size tape) n (2, (s1, 0, 0, 0, sort, v_at, v_to, v_value, told, hasThings, kind, place, columns, rows, best, top, loss, flags, stones, heaps, flagCell, numbers)) = some o → va_P D tkCl [(h0, .inr (6, oX8 (tu (tu (tu (tu (tu (tu (tu i0 0 size) 1 sort) 2 v_at) 3 v_to) 4 v_value) 5 told) 9 hasThings) (tuv (tuv (tuv (tuv v0 6 (.ref (r0 10))) 7 (.ref (r0 7))) 8 (.ref (r0 8))) 10 (.ref (r0 10))))), ((r1 0), .inr (1, oX1 (tu (tu i2 6 kind) 7 place) v2)), ((r0 7), .inr (2, oX2 r3 (tu (tu (tu (tu (tu (tu i3 0 columns) 1 rows) 2 best) 3 top) 4 loss) 5 flags))), ((r3 10), .inl (ar 2, 64, .inl stones)), ((r3 8), .inl (ar 0, 64, .inl heaps)), ((r3 9), .inl (ar 0, 3, .inl flagCell)), ((r3 7), .inl (ar 0, 6, .inl numbers))] H → va_D A [(h0, .inr (6, oX8 (tu (tu (tu (tu (tu (tu (tu i0 0 size) 1 sort) 2 v_at) 3 v_to) 4 v_value) 5 told) 9 hasThings) (tuv (tuv (tuv (tuv v0 6 (.ref (r0 10))) 7 (.ref (r0 7))) 8 (.ref (r0 8))) 10 (.ref (r0 10))))), ((r1 0), .inr (1, oX1 (tu (tu i2 6 kind) 7 place) v2)), ((r0 7), .inr (2, oX2 r3 (tu (tu (tu (tu (tu (tu i3 0 columns) 1 rows) 2 best) 3 top) 4 loss) 5 flags))), ((r3 10), .inl (ar 2, 64, .inl stones)), ((r3 8), .inl (ar 0, 64, .inl heaps)), ((r3 9), .inl (ar 0, 3, .inl flagCell)), ((r3 7), .inl (ar 0, 6, .inl numbers))] → va_S A s.heap H locs → lv_has ls 3 [(0, .ref h0)] → W p l e (headSpec (ws_ yX8_clause cX8_clause 3 none) ({ frames := 6, cells := 0, slots := 0, locals := 133 })).room s m ([.ref h0] : List Value).toArray below meth c H locs 0 0 (tx_MQ below (va_Qv (fun z : Int32 × Int32 × Int32 × Int32 × Int32 × Int32 × Int32 × Int32 × Int32 × Int32 × Int32 × Int32 × Int32 × Int32 × (Nat → Int32) × (Nat → Int32) × (Nat → Int32) × (Nat → Int32) => o = .inl z) (fun z t => tk_Post D A [(h0, .inr (6, oX8 (tu (tu (tu (tu (tu (tu (tu i0 0 size) 1 z.1) 2 z.2.1) 3 z.2.2.1) 4 z.2.2.2.1) 5 z.2.2.2.2.1) 9 z.2.2.2.2.2.1) (tuv (tuv (tuv (tuv v0 6 (.ref (r0 10))) 7 (.ref (r0 7))) 8 (.ref (r0 8))) 10 (.ref (r0 10))))), ((r1 0), .inr (1, oX1 (tu (tu i2 6 z.2.2.2.2.2.2.1) 7 z.2.2.2.2.2.2.2.1) v2)), ((r0 7), .inr (2, oX2 r3 (tu (tu (tu (tu (tu (tu i3 0 z.2.2.2.2.2.2.2.2.1) 1 z.2.2.2.2.2.2.2.2.2.1) 2 z.2.2.2.2.2.2.2.2.2.2.1) 3 z.2.2.2.2.2.2.2.2.2.2.2.1) 4 z.2.2.2.2.2.2.2.2.2.2.2.2.1) 5 z.2.2.2.2.2.2.2.2.2.2.2.2.2.1))), ((r3 10), .inl (ar 2, 64, .inl z.2.2.2.2.2.2.2.2.2.2.2.2.2.2.1)), ((r3 8), .inl (ar 0, 64, .inl z.2.2.2.2.2.2.2.2.2.2.2.2.2.2.2.1)), ((r3 9), .inl (ar 0, 3, .inl z.2.2.2.2.2.2.2.2.2.2.2.2.2.2.2.2.1)), ((r3 7), .inl (ar 0, 6, .inl z.2.2.2.2.2.2.2.2.2.2.2.2.2.2.2.2.2))] t) A) (tx_X (fun z : Int32 × Int32 × Int32 × Int32 × Int32 × Int32 × Int32 × Int32 × Int32 × Int32 × Int32 × Int32 × Int32 × Int32 × (Nat → Int32) × (Nat → Int32) × (Nat → Int32) × (Nat → Int32) => o = .inr z) (fun q9 E9 z t => q9 = (r1 0) ∧ E9 = "TideKeep$Wrong" ∧ tk_Post D A [(h0, .inr (6, oX8 (tu (tu (tu (tu (tu (tu (tu i0 0 size) 1 z.1) 2 z.2.1) 3 z.2.2.1) 4 z.2.2.2.1) 5 z.2.2.2.2.1) 9 z.2.2.2.2.2.1) (tuv (tuv (tuv (tuv v0 6 (.ref (r0 10))) 7 (.ref (r0 7))) 8 (.ref (r0 8))) 10 (.ref (r0 10))))), ((r1 0), .inr (1, oX1 (tu (tu i2 6 z.2.2.2.2.2.2.1) 7 z.2.2.2.2.2.2.2.1) v2)), ((r0 7), .inr (2, oX2 r3 (tu (tu (tu (tu (tu (tu i3 0 z.2.2.2.2.2.2.2.2.1) 1 z.2.2.2.2.2.2.2.2.2.1) 2 z.2.2.2.2.2.2.2.2.2.2.1) 3 z.2.2.2.2.2.2.2.2.2.2.2.1) 4 z.2.2.2.2.2.2.2.2.2.2.2.2.1) 5 z.2.2.2.2.2.2.2.2.2.2.2.2.2.1))), ((r3 10), .inl (ar 2, 64, .inl z.2.2.2.2.2.2.2.2.2.2.2.2.2.2.1)), ((r3 8), .inl (ar 0, 64, .inl z.2.2.2.2.2.2.2.2.2.2.2.2.2.2.2.1)), ((r3 9), .inl (ar 0, 3, .inl z.2.2.2.2.2.2.2.2.2.2.2.2.2.2.2.2.1)), ((r3 7), .inl (ar 0, 6, .inl z.2.2.2.2.2.2.2.2.2.2.2.2.2.2.2.2.2))] t) A) ([.ref h0] : List Value).toArray s 0 0 A) (F0 m 41 ls [.int s1, .ref h0])) ∧ (∀ (sort v_at v_to v_value told hasThings kind place columns rows best top loss flags : Int32) (stones heaps flagCell numbers : Nat → Int32) (H : Heap) (locs : List Loc) (ls : Array Slot), tk_it (stX8_clause size tape) n (3, (0, 0, 0, 0, sort, v_at, v_to, v_value, told, hasThings, kind, place, columns, rows, best, top, loss, flags, stones, heaps, flagCell, numbers)) = some o → va_P D tkCl [(h0, .inr (6, oX8 (tu (tu (tu (tu (tu (tu (tu i0 0 size) 1 sort) 2 v_at) 3 v_to) 4 v_value) 5 told) 9 hasThings) (tuv (tuv (tuv (tuv v0 6 (.ref (r0 10))) 7 (.ref (r0 7))) 8 (.ref (r0 8))) 10 (.ref (r0 10))))), ((r1 0), .inr (1, oX1 (tu (tu i2 6 kind) 7 place) v2)), ((r0 7), .inr (2, oX2 r3 (tu (tu (tu (tu (tu (tu i3 0 columns) 1 rows) 2 best) 3 top) 4 loss) 5 flags))), ((r3 10), .inl (ar 2, 64, .inl stones)), ((r3 8), .inl (ar 0, 64, .inl heaps)), ((r3 9), .inl (ar 0, 3, .inl flagCell)), ((r3 7), .inl (ar 0, 6, .inl numbers))] H → va_D A [(h0, .inr (6, oX8 (tu (tu (tu (tu (tu (tu (tu i0 0 size) 1 sort) 2 v_at) 3 v_to) 4 v_value) 5 told) 9 hasThings) (tuv (tuv (tuv (tuv v0 6 (.ref (r0 10))) 7 (.ref (r0 7))) 8 (.ref (r0 8))) 10 (.ref (r0 10))))), ((r1 0), .inr (1, oX1 (tu (tu i2 6 kind) 7 place) v2)), ((r0 7), .inr (2, oX2 r3 (tu (tu (tu (tu (tu (tu i3 0 columns) 1 rows) 2 best) 3 top) 4 loss) 5 flags))), ((r3 10), .inl (ar 2, 64, .inl stones)), ((r3 8), .inl (ar 0, 64, .inl heaps)), ((r3 9), .inl (ar 0, 3, .inl flagCell)), ((r3 7), .inl (ar 0, 6, .inl numbers))] → va_S A s.heap H locs → lv_has ls 3 [(0, .ref h0)] → W p l e (headSpec (ws_ yX8_clause cX8_clause 3 none) ({ frames := 6, cells := 0, slots := 0, locals := 133 })).room s m ([.ref h0] : List Value).toArray below meth c H locs 0 0 (tx_MQ below (va_Qv (fun z : Int32 × Int32 × Int32 × Int32 × Int32 × Int32 × Int32 × Int32 × Int32 × Int32 × Int32 × Int32 × Int32 × Int32 × (Nat → Int32) × (Nat → Int32) × (Nat → Int32) × (Nat → Int32) => o = .inl z) (fun z t => tk_Post D A [(h0, .inr (6, oX8 (tu (tu (tu (tu (tu (tu (tu i0 0 size) 1 z.1) 2 z.2.1) 3 z.2.2.1) 4 z.2.2.2.1) 5 z.2.2.2.2.1) 9 z.2.2.2.2.2.1) (tuv (tuv (tuv (tuv v0 6 (.ref (r0 10))) 7 (.ref (r0 7))) 8 (.ref (r0 8))) 10 (.ref (r0 10))))), ((r1 0), .inr (1, oX1 (tu (tu i2 6 z.2.2.2.2.2.2.1) 7 z.2.2.2.2.2.2.2.1) v2)), ((r0 7), .inr (2, oX2 r3 (tu (tu (tu (tu (tu (tu i3 0 z.2.2.2.2.2.2.2.2.1) 1 z.2.2.2.2.2.2.2.2.2.1) 2 z.2.2.2.2.2.2.2.2.2.2.1) 3 z.2.2.2.2.2.2.2.2.2.2.2.1) 4 z.2.2.2.2.2.2.2.2.2.2.2.2.1) 5 z.2.2.2.2.2.2.2.2.2.2.2.2.2.1))), ((r3 10), .inl (ar 2, 64, .inl z.2.2.2.2.2.2.2.2.2.2.2.2.2.2.1)), ((r3 8), .inl (ar 0, 64, .inl z.2.2.2.2.2.2.2.2.2.2.2.2.2.2.2.1)), ((r3 9), .inl (ar 0, 3, .inl z.2.2.2.2.2.2.2.2.2.2.2.2.2.2.2.2.1)), ((r3 7), .inl (ar 0, 6, .inl z.2.2.2.2.2.2.2.2.2.2.2.2.2.2.2.2.2))] t) A) (tx_X (fun z : Int32 × Int32 × Int32 × Int32 × Int32 × Int32 × Int32 × Int32 × Int32 × Int32 × Int32 × Int32 × Int32 × Int32 × (Nat → Int32) × (Nat → Int32) × (Nat → Int32) × (Nat → Int32) => o = .inr z) (fun q9 E9 z t => q9 = (r1 0) ∧ E9 = "TideKeep$Wrong" ∧ tk_Post D A [(h0, .inr (6, oX8 (tu (tu (tu (tu (tu (tu (tu i0 0 size) 1 z.1) 2 z.2.1) 3 z.2.2.1) 4 z.2.2.2.1) 5 z.2.2.2.2.1) 9 z.2.2.2.2.2.1) (tuv (tuv (tuv (tuv v0 6 (.ref (r0 10))) 7 (.ref (r0 7))) 8 (.ref (r0 8))) 10 (.ref (r0 10))))), ((r1 0), .inr (1, oX1 (tu (tu i2 6 z.2.2.2.2.2.2.1) 7 z.2.2.2.2.2.2.2.1) v2)), ((r0 7), .inr (2, oX2 r3 (tu (tu (tu (tu (tu (tu i3 0 z.2.2.2.2.2.2.2.2.1) 1 z.2.2.2.2.2.2.2.2.2.1) 2 z.2.2.2.2.2.2.2.2.2.2.1) 3 z.2.2.2.2.2.2.2.2.2.2.2.1) 4 z.2.2.2.2.2.2.2.2.2.2.2.2.1) 5 z.2.2.2.2.2.2.2.2.2.2.2.2.2.1))), ((r3 10), .inl (ar 2, 64, .inl z.2.2.2.2.2.2.2.2.2.2.2.2.2.2.1)), ((r3 8), .inl (ar 0, 64, .inl z.2.2.2.2.2.2.2.2.2.2.2.2.2.2.2.1)), ((r3 9), .inl (ar 0, 3, .inl z.2.2.2.2.2.2.2.2.2.2.2.2.2.2.2.2.1)), ((r3 7), .inl (ar 0, 6, .inl z.2.2.2.2.2.2.2.2.2.2.2.2.2.2.2.2.2))] t) A) ([.ref h0] : List Value).toArray s 0 0 A) (F0 m 112 ls [])) ∧ (∀ (x1 x2 sort v_at v_to v_value told hasThings kind place columns rows best top loss flags : Int32) (stones heaps flagCell numbers : Nat → Int32) (H : Heap) (locs : List Loc) (ls : Array Slot), tk_it (stX8_clause size tape) n (4, (0, x1, x2, 0, sort, v_at, v_to, v_value, told, hasThings, kind, place, columns, rows, best, top, loss, flags, stones, heaps, flagCell, numbers)) = some o → va_P D tkCl [(h0, .inr (6, oX8 (tu (tu (tu (tu (tu (tu (tu i0 0 size) 1 sort) 2 v_at) 3 v_to) 4 v_value) 5 told) 9 hasThings) (tuv (tuv (tuv (tuv v0 6 (.ref (r0 10))) 7 (.ref (r0 7))) 8 (.ref (r0 8))) 10 (.ref (r0 10))))), ((r1 0), .inr (1, oX1 (tu (tu i2 6 kind) 7 place) v2)), ((r0 7), .inr (2, oX2 r3 (tu (tu (tu (tu (tu (tu i3 0 columns) 1 rows) 2 best) 3 top) 4 loss) 5 flags))), ((r3 10), .inl (ar 2, 64, .inl stones)), ((r3 8), .inl (ar 0, 64, .inl heaps)), ((r3 9), .inl (ar 0, 3, .inl flagCell)), ((r3 7), .inl (ar 0, 6, .inl numbers))] H → va_D A [(h0, .inr (6, oX8 (tu (tu (tu (tu (tu (tu (tu i0 0 size) 1 sort) 2 v_at) 3 v_to) 4 v_value) 5 told) 9 hasThings) (tuv (tuv (tuv (tuv v0 6 (.ref (r0 10))) 7 (.ref (r0 7))) 8 (.ref (r0 8))) 10 (.ref (r0 10))))), ((r1 0), .inr (1, oX1 (tu (tu i2 6 kind) 7 place) v2)), ((r0 7), .inr (2, oX2 r3 (tu (tu (tu (tu (tu (tu i3 0 columns) 1 rows) 2 best) 3 top) 4 loss) 5 flags))), ((r3 10), .inl (ar 2, 64, .inl stones)), ((r3 8), .inl (ar 0, 64, .inl heaps)), ((r3 9), .inl (ar 0, 3, .inl flagCell)), ((r3 7), .inl (ar 0, 6, .inl numbers))] → va_S A s.heap H locs → lv_has ls 3 [(0, .ref h0), (1, .int x1), (2, .int x2)] → W p l e (headSpec (ws_ yX8_clause cX8_clause 3 none) ({ frames := 6, cells := 0, slots := 0, locals := 133 })).room s m ([.ref h0] : List Value).toArray below meth c H locs 0 0 (tx_MQ below (va_Qv (fun z : Int32 × Int32 × Int32 × Int32 × Int32 × Int32 × Int32 × Int32 × Int32 × Int32 × Int32 × Int32 × Int32 × Int32 × (Nat → Int32) × (Nat → Int32) × (Nat → Int32) × (Nat → Int32) => o = .inl z) (fun z t => tk_Post D A [(h0, .inr (6, oX8 (tu (tu (tu (tu (tu (tu (tu i0 0 size) 1 z.1) 2 z.2.1) 3 z.2.2.1) 4 z.2.2.2.1) 5 z.2.2.2.2.1) 9 z.2.2.2.2.2.1) (tuv (tuv (tuv (tuv v0 6 (.ref (r0 10))) 7 (.ref (r0 7))) 8 (.ref (r0 8))) 10 (.ref (r0 10))))), ((r1 0), .inr (1, oX1 (tu (tu i2 6 z.2.2.2.2.2.2.1) 7 z.2.2.2.2.2.2.2.1) v2)), ((r0 7), .inr (2, oX2 r3 (tu (tu (tu (tu (tu (tu i3 0 z.2.2.2.2.2.2.2.2.1) 1 z.2.2.2.2.2.2.2.2.2.1) 2 z.2.2.2.2.2.2.2.2.2.2.1) 3 z.2.2.2.2.2.2.2.2.2.2.2.1) 4 z.2.2.2.2.2.2.2.2.2.2.2.2.1) 5 z.2.2.2.2.2.2.2.2.2.2.2.2.2.1))), ((r3 10), .inl (ar 2, 64, .inl z.2.2.2.2.2.2.2.2.2.2.2.2.2.2.1)), ((r3 8), .inl (ar 0, 64, .inl z.2.2.2.2.2.2.2.2.2.2.2.2.2.2.2.1)), ((r3 9), .inl (ar 0, 3, .inl z.2.2.2.2.2.2.2.2.2.2.2.2.2.2.2.2.1)), ((r3 7), .inl (ar 0, 6, .inl z.2.2.2.2.2.2.2.2.2.2.2.2.2.2.2.2.2))] t) A) (tx_X (fun z : Int32 × Int32 × Int32 × Int32 × Int32 × Int32 × Int32 × Int32 × Int32 × Int32 × Int32 × Int32 × Int32 × Int32 × (Nat → Int32) × (Nat → Int32) × (Nat → Int32) × (Nat → Int32) => o = .inr z) (fun q9 E9 z t => q9 = (r1 0) ∧ E9 = "TideKeep$Wrong" ∧ tk_Post D A [(h0, .inr (6, oX8 (tu (tu (tu (tu (tu (tu (tu i0 0 size) 1 z.1) 2 z.2.1) 3 z.2.2.1) 4 z.2.2.2.1) 5 z.2.2.2.2.1) 9 z.2.2.2.2.2.1) (tuv (tuv (tuv (tuv v0 6 (.ref (r0 10))) 7 (.ref (r0 7))) 8 (.ref (r0 8))) 10 (.ref (r0 10))))), ((r1 0), .inr (1, oX1 (tu (tu i2 6 z.2.2.2.2.2.2.1) 7 z.2.2.2.2.2.2.2.1) v2)), ((r0 7), .inr (2, oX2 r3 (tu (tu (tu (tu (tu (tu i3 0 z.2.2.2.2.2.2.2.2.1) 1 z.2.2.2.2.2.2.2.2.2.1) 2 z.2.2.2.2.2.2.2.2.2.2.1) 3 z.2.2.2.2.2.2.2.2.2.2.2.1) 4 z.2.2.2.2.2.2.2.2.2.2.2.2.1) 5 z.2.2.2.2.2.2.2.2.2.2.2.2.2.1))), ((r3 10), .inl (ar 2, 64, .inl z.2.2.2.2.2.2.2.2.2.2.2.2.2.2.1)), ((r3 8), .inl (ar 0, 64, .inl z.2.2.2.2.2.2.2.2.2.2.2.2.2.2.2.1)), ((r3 9), .inl (ar 0, 3, .inl z.2.2.2.2.2.2.2.2.2.2.2.2.2.2.2.2.1)), ((r3 7), .inl (ar 0, 6, .inl z.2.2.2.2.2.2.2.2.2.2.2.2.2.2.2.2.2))] t) A) ([.ref h0] : List Value).toArray s 0 0 A) (F0 m 179 ls [])) ∧ (∀ (x2 s0 sort v_at v_to v_value told hasThings kind place columns rows best top loss flags : Int32) (stones heaps flagCell numbers : Nat → Int32) (H : Heap) (locs : List Loc) (ls : Array Slot), tk_it (stX8_clause size tape) n (5, (0, 0, x2, s0, sort, v_at, v_to, v_value, told, hasThings, kind, place, columns, rows, best, top, loss, flags, stones, heaps, flagCell, numbers)) = some o → va_P D tkCl [(h0, .inr (6, oX8 (tu (tu (tu (tu (tu (tu (tu i0 0 size) 1 sort) 2 v_at) 3 v_to) 4 v_value) 5 told) 9 hasThings) (tuv (tuv (tuv (tuv v0 6 (.ref (r0 10))) 7 (.ref (r0 7))) 8 (.ref (r0 8))) 10 (.ref (r0 10))))), ((r1 0), .inr (1, oX1 (tu (tu i2 6 kind) 7 place) v2)), ((r0 7), .inr (2, oX2 r3 (tu (tu (tu (tu (tu (tu i3 0 columns) 1 rows) 2 best) 3 top) 4 loss) 5 flags))), ((r3 10), .inl (ar 2, 64, .inl stones)), ((r3 8), .inl (ar 0, 64, .inl heaps)), ((r3 9), .inl (ar 0, 3, .inl flagCell)), ((r3 7), .inl (ar 0, 6, .inl numbers))] H → va_D A [(h0, .inr (6, oX8 (tu (tu (tu (tu (tu (tu (tu i0 0 size) 1 sort) 2 v_at) 3 v_to) 4 v_value) 5 told) 9 hasThings) (tuv (tuv (tuv (tuv v0 6 (.ref (r0 10))) 7 (.ref (r0 7))) 8 (.ref (r0 8))) 10 (.ref (r0 10))))), ((r1 0), .inr (1, oX1 (tu (tu i2 6 kind) 7 place) v2)), ((r0 7), .inr (2, oX2 r3 (tu (tu (tu (tu (tu (tu i3 0 columns) 1 rows) 2 best) 3 top) 4 loss) 5 flags))), ((r3 10), .inl (ar 2, 64, .inl stones)), ((r3 8), .inl (ar 0, 64, .inl heaps)), ((r3 9), .inl (ar 0, 3, .inl flagCell)), ((r3 7), .inl (ar 0, 6, .inl numbers))] → va_S A s.heap H locs → lv_has ls 3 [(0, .ref h0), (2, .int x2)] → W p l e (headSpec (ws_ yX8_clause cX8_clause 3 none) ({ frames := 6, cells := 0, slots := 0, locals := 133 })).room s m ([.ref h0] : List Value).toArray below meth c H locs 0 0 (tx_MQ below (va_Qv (fun z : Int32 × Int32 × Int32 × Int32 × Int32 × Int32 × Int32 × Int32 × Int32 × Int32 × Int32 × Int32 × Int32 × Int32 × (Nat → Int32) × (Nat → Int32) × (Nat → Int32) × (Nat → Int32) => o = .inl z) (fun z t => tk_Post D A [(h0, .inr (6, oX8 (tu (tu (tu (tu (tu (tu (tu i0 0 size) 1 z.1) 2 z.2.1) 3 z.2.2.1) 4 z.2.2.2.1) 5 z.2.2.2.2.1) 9 z.2.2.2.2.2.1) (tuv (tuv (tuv (tuv v0 6 (.ref (r0 10))) 7 (.ref (r0 7))) 8 (.ref (r0 8))) 10 (.ref (r0 10))))), ((r1 0), .inr (1, oX1 (tu (tu i2 6 z.2.2.2.2.2.2.1) 7 z.2.2.2.2.2.2.2.1) v2)), ((r0 7), .inr (2, oX2 r3 (tu (tu (tu (tu (tu (tu i3 0 z.2.2.2.2.2.2.2.2.1) 1 z.2.2.2.2.2.2.2.2.2.1) 2 z.2.2.2.2.2.2.2.2.2.2.1) 3 z.2.2.2.2.2.2.2.2.2.2.2.1) 4 z.2.2.2.2.2.2.2.2.2.2.2.2.1) 5 z.2.2.2.2.2.2.2.2.2.2.2.2.2.1))), ((r3 10), .inl (ar 2, 64, .inl z.2.2.2.2.2.2.2.2.2.2.2.2.2.2.1)), ((r3 8), .inl (ar 0, 64, .inl z.2.2.2.2.2.2.2.2.2.2.2.2.2.2.2.1)), ((r3 9), .inl (ar 0, 3, .inl z.2.2.2.2.2.2.2.2.2.2.2.2.2.2.2.2.1)), ((r3 7), .inl (ar 0, 6, .inl z.2.2.2.2.2.2.2.2.2.2.2.2.2.2.2.2.2))] t) A) (tx_X (fun z : Int32 × Int32 × Int32 × Int32 × Int32 × Int32 × Int32 × Int32 × Int32 × Int32 × Int32 × Int32 × Int32 × Int32 × (Nat → Int32) × (Nat → Int32) × (Nat → Int32) × (Nat → Int32) => o = .inr z) (fun q9 E9 z t => q9 = (r1 0) ∧ E9 = "TideKeep$Wrong" ∧ tk_Post D A [(h0, .inr (6, oX8 (tu (tu (tu (tu (tu (tu (tu i0 0 size) 1 z.1) 2 z.2.1) 3 z.2.2.1) 4 z.2.2.2.1) 5 z.2.2.2.2.1) 9 z.2.2.2.2.2.1) (tuv (tuv (tuv (tuv v0 6 (.ref (r0 10))) 7 (.ref (r0 7))) 8 (.ref (r0 8))) 10 (.ref (r0 10))))), ((r1 0), .inr (1, oX1 (tu (tu i2 6 z.2.2.2.2.2.2.1) 7 z.2.2.2.2.2.2.2.1) v2)), ((r0 7), .inr (2, oX2 r3 (tu (tu (tu (tu (tu (tu i3 0 z.2.2.2.2.2.2.2.2.1) 1 z.2.2.2.2.2.2.2.2.2.1) 2 z.2.2.2.2.2.2.2.2.2.2.1) 3 z.2.2.2.2.2.2.2.2.2.2.2.1) 4 z.2.2.2.2.2.2.2.2.2.2.2.2.1) 5 z.2.2.2.2.2.2.2.2.2.2.2.2.2.1))), ((r3 10), .inl (ar 2, 64, .inl z.2.2.2.2.2.2.2.2.2.2.2.2.2.2.1)), ((r3 8), .inl (ar 0, 64, .inl z.2.2.2.2.2.2.2.2.2.2.2.2.2.2.2.1)), ((r3 9), .inl (ar 0, 3, .inl z.2.2.2.2.2.2.2.2.2.2.2.2.2.2.2.2.1)), ((r3 7), .inl (ar 0, 6, .inl z.2.2.2.2.2.2.2.2.2.2.2.2.2.2.2.2.2))] t) A) ([.ref h0] : List Value).toArray s 0 0 A) (F0 m 209 ls [.int s0])) ∧ (∀ (x1 s1 sort v_at v_to v_value told hasThings kind place columns rows best top loss flags : Int32) (stones heaps flagCell numbers : Nat → Int32) (H : Heap) (locs : List Loc) (ls : Array Slot), tk_it (stX8_clause size tape) n (6, (s1, x1, 0, 0, sort, v_at, v_to, v_value, told, hasThings, kind, place, columns, rows, best, top, loss, flags, stones, heaps, flagCell, numbers)) = some o → va_P D tkCl [(h0, .inr (6, oX8 (tu (tu (tu (tu (tu (tu (tu i0 0 size) 1 sort) 2 v_at) 3 v_to) 4 v_value) 5 told) 9 hasThings) (tuv (tuv (tuv (tuv v0 6 (.ref (r0 10))) 7 (.ref (r0 7))) 8 (.ref (r0 8))) 10 (.ref (r0 10))))), ((r1 0), .inr (1, oX1 (tu (tu i2 6 kind) 7 place) v2)), ((r0 7), .inr (2, oX2 r3 (tu (tu (tu (tu (tu (tu i3 0 columns) 1 rows) 2 best) 3 top) 4 loss) 5 flags))), ((r3 10), .inl (ar 2, 64, .inl stones)), ((r3 8), .inl (ar 0, 64, .inl heaps)), ((r3 9), .inl (ar 0, 3, .inl flagCell)), ((r3 7), .inl (ar 0, 6, .inl numbers))] H → va_D A [(h0, .inr (6, oX8 (tu (tu (tu (tu (tu (tu (tu i0 0 size) 1 sort) 2 v_at) 3 v_to) 4 v_value) 5 told) 9 hasThings) (tuv (tuv (tuv (tuv v0 6 (.ref (r0 10))) 7 (.ref (r0 7))) 8 (.ref (r0 8))) 10 (.ref (r0 10))))), ((r1 0), .inr (1, oX1 (tu (tu i2 6 kind) 7 place) v2)), ((r0 7), .inr (2, oX2 r3 (tu (tu (tu (tu (tu (tu i3 0 columns) 1 rows) 2 best) 3 top) 4 loss) 5 flags))), ((r3 10), .inl (ar 2, 64, .inl stones)), ((r3 8), .inl (ar 0, 64, .inl heaps)), ((r3 9), .inl (ar 0, 3, .inl flagCell)), ((r3 7), .inl (ar 0, 6, .inl numbers))] → va_S A s.heap H locs → lv_has ls 3 [(0, .ref h0), (1, .int x1)] → W p l e (headSpec (ws_ yX8_clause cX8_clause 3 none) ({ frames := 6, cells := 0, slots := 0, locals := 133 })).room s m ([.ref h0] : List Value).toArray below meth c H locs 0 0 (tx_MQ below (va_Qv (fun z : Int32 × Int32 × Int32 × Int32 × Int32 × Int32 × Int32 × Int32 × Int32 × Int32 × Int32 × Int32 × Int32 × Int32 × (Nat → Int32) × (Nat → Int32) × (Nat → Int32) × (Nat → Int32) => o = .inl z) (fun z t => tk_Post D A [(h0, .inr (6, oX8 (tu (tu (tu (tu (tu (tu (tu i0 0 size) 1 z.1) 2 z.2.1) 3 z.2.2.1) 4 z.2.2.2.1) 5 z.2.2.2.2.1) 9 z.2.2.2.2.2.1) (tuv (tuv (tuv (tuv v0 6 (.ref (r0 10))) 7 (.ref (r0 7))) 8 (.ref (r0 8))) 10 (.ref (r0 10))))), ((r1 0), .inr (1, oX1 (tu (tu i2 6 z.2.2.2.2.2.2.1) 7 z.2.2.2.2.2.2.2.1) v2)), ((r0 7), .inr (2, oX2 r3 (tu (tu (tu (tu (tu (tu i3 0 z.2.2.2.2.2.2.2.2.1) 1 z.2.2.2.2.2.2.2.2.2.1) 2 z.2.2.2.2.2.2.2.2.2.2.1) 3 z.2.2.2.2.2.2.2.2.2.2.2.1) 4 z.2.2.2.2.2.2.2.2.2.2.2.2.1) 5 z.2.2.2.2.2.2.2.2.2.2.2.2.2.1))), ((r3 10), .inl (ar 2, 64, .inl z.2.2.2.2.2.2.2.2.2.2.2.2.2.2.1)), ((r3 8), .inl (ar 0, 64, .inl z.2.2.2.2.2.2.2.2.2.2.2.2.2.2.2.1)), ((r3 9), .inl (ar 0, 3, .inl z.2.2.2.2.2.2.2.2.2.2.2.2.2.2.2.2.1)), ((r3 7), .inl (ar 0, 6, .inl z.2.2.2.2.2.2.2.2.2.2.2.2.2.2.2.2.2))] t) A) (tx_X (fun z : Int32 × Int32 × Int32 × Int32 × Int32 × Int32 × Int32 × Int32 × Int32 × Int32 × Int32 × Int32 × Int32 × Int32 × (Nat → Int32) × (Nat → Int32) × (Nat → Int32) × (Nat → Int32) => o = .inr z) (fun q9 E9 z t => q9 = (r1 0) ∧ E9 = "TideKeep$Wrong" ∧ tk_Post D A [(h0, .inr (6, oX8 (tu (tu (tu (tu (tu (tu (tu i0 0 size) 1 z.1) 2 z.2.1) 3 z.2.2.1) 4 z.2.2.2.1) 5 z.2.2.2.2.1) 9 z.2.2.2.2.2.1) (tuv (tuv (tuv (tuv v0 6 (.ref (r0 10))) 7 (.ref (r0 7))) 8 (.ref (r0 8))) 10 (.ref (r0 10))))), ((r1 0), .inr (1, oX1 (tu (tu i2 6 z.2.2.2.2.2.2.1) 7 z.2.2.2.2.2.2.2.1) v2)), ((r0 7), .inr (2, oX2 r3 (tu (tu (tu (tu (tu (tu i3 0 z.2.2.2.2.2.2.2.2.1) 1 z.2.2.2.2.2.2.2.2.2.1) 2 z.2.2.2.2.2.2.2.2.2.2.1) 3 z.2.2.2.2.2.2.2.2.2.2.2.1) 4 z.2.2.2.2.2.2.2.2.2.2.2.2.1) 5 z.2.2.2.2.2.2.2.2.2.2.2.2.2.1))), ((r3 10), .inl (ar 2, 64, .inl z.2.2.2.2.2.2.2.2.2.2.2.2.2.2.1)), ((r3 8), .inl (ar 0, 64, .inl z.2.2.2.2.2.2.2.2.2.2.2.2.2.2.2.1)), ((r3 9), .inl (ar 0, 3, .inl z.2.2.2.2.2.2.2.2.2.2.2.2.2.2.2.2.1)), ((r3 7), .inl (ar 0, 6, .inl z.2.2.2.2.2.2.2.2.2.2.2.2.2.2.2.2.2))] t) A) ([.ref h0] : List Value).toArray s 0 0 A) (F0 m 227 ls [.int s1, .ref h0])) := by
    intro n
    induction n with
    | zero => exact ⟨(by intros; rename_i hF _ _ _ _; cases hF), (by intros; rename_i hF _ _ _ _; cases hF), (by intros; rename_i hF _ _ _ _; cases hF), (by intros; rename_i hF _ _ _ _; cases hF), (by intros; rename_i hF _ _ _ _; cases hF), (by intros; rename_i hF _ _ _ _; cases hF)⟩
    | succ n ih =>
      obtain ⟨ih24, ih41, ih112, ih179, ih209, ih227⟩ := ih
      refine ⟨?_, ?_, ?_, ?_, ?_, ?_⟩
      · intro s1 sort v_at v_to v_value told hasThings kind place columns rows best top loss flags stones heaps flagCell numbers H locs ls hF hP hD hS hl
        have hF : tk_k (stX8_clause size tape) n (bX8_clause_1 size tape s1 sort v_at v_to v_value told hasThings kind place columns rows best top loss flags stones heaps flagCell numbers) = some o := hF
        unfold bX8_clause_1 at hF
        refine lv_iconst (v := 3) hx hb dX8_clause_24 (by decide) ?_
        obtain ⟨u16, hGu16, hF⟩ := tk_kb hF
        refine tx_callv (tx_runU (As := [.int s1, .int 3]) (rest := []) ⟨hx, hb, hml, hown, hts⟩ (mX7_ask_X8 (l := l) (D := D) (ar := ar) (ad := ad) (xs := xs) (sz := H.size) (h0 := h0) (r0 := r0) (i0 := (tu (tu (tu (tu (tu (tu (tu i0 0 size) 1 sort) 2 v_at) 3 v_to) 4 v_value) 5 told) 9 hasThings)) (v0 := (tuv (tuv (tuv (tuv v0 6 (.ref (r0 10))) 7 (.ref (r0 7))) 8 (.ref (r0 8))) 10 (.ref (r0 10)))) (r1 := r1) (i1 := i1) (i2 := (tu (tu i2 6 kind) 7 place)) (v2 := v2) (v_at := v_at) (kind := kind) (place := place) (p0 := s1) (p1 := 3) (hF := hGu16)) (tk_cwP (C := "TideKeep$BeachReader") (owner := "TideKeep$Reader") (x := ⟨"TideKeep$BeachReader", "ask", "(ZI)V"⟩) 2 hts (lw_meth q713) rfl rfl rfl (by decide +kernel) ⟨(Nat.le_of_ble_eq_true rfl), (Nat.le_of_ble_eq_true rfl)⟩ (hts _ q708) (hts _ q709) (va_Decl.of (x := ⟨"TideKeep$Reader", "ask", "(ZI)V"⟩) (hts _ q712) (hts _ q713)) (hts _ q711) (hts _ q712) (hts _ q102)) ⟨tk_blind, va_recv hK hP (ci := 6) (q0 := 0) rfl rfl, fun U hU hW => ⟨rfl, tk_mk hP hD hS hA hE hR hX [1] [0, 7] rfl rfl rfl rfl U hU hW⟩⟩ rfl rfl hl.1 rfl (lv_room (Nat.le_of_ble_eq_true rfl)) dX8_clause_25 ⟨(Nat.le_of_ble_eq_true rfl), (Nat.le_of_ble_eq_true rfl)⟩) hS (fun q _ h => (va_free hD hS hA [1] rfl) q h) (va_free hD hS hA [1] rfl) (fun q _ h => (va_free hD hS hA [1] rfl) q h) (fun E9 ce q9 xu16 zt H1 zl zht zvm zw zB zz zk zS hce hcv hcl => ?_) (fun ru16 zt H1 zl zht zvm zw zB zz zk zS => ?_)
        · obtain ⟨zq, zE, zB⟩ := zB
          subst zq
          subst zE
          subst zw
          have hF := tk_ksx hF
          obtain ⟨hP, hD⟩ := tk_join hP hD zk [1] rfl rfl (va_free hD hS hA [1] rfl) (zht ▸ zB.1) zB.2 (Nat.le_of_ble_eq_true rfl)
          have hS := zS
          generalize H1 = H at hP hS hce ⊢
          have hP : va_P D tkCl [(h0, .inr (6, oX8 (tu (tu (tu (tu (tu (tu (tu i0 0 size) 1 sort) 2 v_at) 3 v_to) 4 v_value) 5 told) 9 hasThings) (tuv (tuv (tuv (tuv v0 6 (.ref (r0 10))) 7 (.ref (r0 7))) 8 (.ref (r0 8))) 10 (.ref (r0 10))))), ((r1 0), .inr (1, oX1 (tu (tu i2 6 xu16.1) 7 xu16.2) v2)), ((r0 7), .inr (2, oX2 r3 (tu (tu (tu (tu (tu (tu i3 0 columns) 1 rows) 2 best) 3 top) 4 loss) 5 flags))), ((r3 10), .inl (ar 2, 64, .inl stones)), ((r3 8), .inl (ar 0, 64, .inl heaps)), ((r3 9), .inl (ar 0, 3, .inl flagCell)), ((r3 7), .inl (ar 0, 6, .inl numbers))] H := hP
          have hD : va_D A [(h0, .inr (6, oX8 (tu (tu (tu (tu (tu (tu (tu i0 0 size) 1 sort) 2 v_at) 3 v_to) 4 v_value) 5 told) 9 hasThings) (tuv (tuv (tuv (tuv v0 6 (.ref (r0 10))) 7 (.ref (r0 7))) 8 (.ref (r0 8))) 10 (.ref (r0 10))))), ((r1 0), .inr (1, oX1 (tu (tu i2 6 xu16.1) 7 xu16.2) v2)), ((r0 7), .inr (2, oX2 r3 (tu (tu (tu (tu (tu (tu i3 0 columns) 1 rows) 2 best) 3 top) 4 loss) 5 flags))), ((r3 10), .inl (ar 2, 64, .inl stones)), ((r3 8), .inl (ar 0, 64, .inl heaps)), ((r3 9), .inl (ar 0, 3, .inl flagCell)), ((r3 7), .inl (ar 0, 6, .inl numbers))] := hD
          have eo := tk_kr hF
          subst eo
          exact tx_out (fun x9 hx9 => (htab x9 hx9).elim) hlocks hce hcv hcl (fun t ht hW => ⟨_, rfl, ⟨rfl, rfl, tk_pst ht hP hD⟩, hS.F ht⟩) hS.2.2 (Nat.le_of_ble_eq_true rfl) (Nat.le_of_ble_eq_true rfl)
        subst zw
        have hF := tk_kss hF
        obtain ⟨hP, hD⟩ := tk_join hP hD zk [1] rfl rfl (va_free hD hS hA [1] rfl) (zht ▸ zB.1) zB.2 (Nat.le_of_ble_eq_true rfl)
        have hS := zS
        generalize H1 = H at hP hS ⊢
        have hP : va_P D tkCl [(h0, .inr (6, oX8 (tu (tu (tu (tu (tu (tu (tu i0 0 size) 1 sort) 2 v_at) 3 v_to) 4 v_value) 5 told) 9 hasThings) (tuv (tuv (tuv (tuv v0 6 (.ref (r0 10))) 7 (.ref (r0 7))) 8 (.ref (r0 8))) 10 (.ref (r0 10))))), ((r1 0), .inr (1, oX1 (tu (tu i2 6 ru16.1) 7 ru16.2) v2)), ((r0 7), .inr (2, oX2 r3 (tu (tu (tu (tu (tu (tu i3 0 columns) 1 rows) 2 best) 3 top) 4 loss) 5 flags))), ((r3 10), .inl (ar 2, 64, .inl stones)), ((r3 8), .inl (ar 0, 64, .inl heaps)), ((r3 9), .inl (ar 0, 3, .inl flagCell)), ((r3 7), .inl (ar 0, 6, .inl numbers))] H := hP
        have hD : va_D A [(h0, .inr (6, oX8 (tu (tu (tu (tu (tu (tu (tu i0 0 size) 1 sort) 2 v_at) 3 v_to) 4 v_value) 5 told) 9 hasThings) (tuv (tuv (tuv (tuv v0 6 (.ref (r0 10))) 7 (.ref (r0 7))) 8 (.ref (r0 8))) 10 (.ref (r0 10))))), ((r1 0), .inr (1, oX1 (tu (tu i2 6 ru16.1) 7 ru16.2) v2)), ((r0 7), .inr (2, oX2 r3 (tu (tu (tu (tu (tu (tu i3 0 columns) 1 rows) 2 best) 3 top) 4 loss) 5 flags))), ((r3 10), .inl (ar 2, 64, .inl stones)), ((r3 8), .inl (ar 0, 64, .inl heaps)), ((r3 9), .inl (ar 0, 3, .inl flagCell)), ((r3 7), .inl (ar 0, 6, .inl numbers))] := hD
        refine lv_aload_n hx hb dX8_clause_28 rfl (lv_at hl 0 rfl) ?_
        refine lv_aload_n hx hb dX8_clause_29 rfl (lv_at hl 0 rfl) ?_
        refine va_get (D := D) (ci := 6) (v := .int hasThings) (C := RX8) (T := TX8) (N := 11) hx hb hts in_X8 hown hK hP 0 rfl rfl 9 (by decide) (hts _ q600) (fun _ h9 => h9) rfl dX8_clause_30 ?_
        refine lv_if_ne (tgt := 40) hx hb dX8_clause_33 (by decide) (fun c17 => ?_) (fun c17 => ?_)
        · have hF := tk_kf hF c17
          refine lv_iconst (v := 0) hx hb dX8_clause_40 (by decide) ?_
          exact ih41 0 sort v_at v_to v_value told hasThings ru16.1 ru16.2 columns rows best top loss flags stones heaps flagCell numbers _ _ _ hF hP hD hS (lv_sub hl [0] rfl)
        · have hF := tk_kt hF c17
          refine lv_iconst (v := 1) hx hb dX8_clause_36 (by decide) ?_
          refine lv_goto (tgt := 41) hx hb dX8_clause_37 (by decide) ?_
          exact ih41 1 sort v_at v_to v_value told hasThings ru16.1 ru16.2 columns rows best top loss flags stones heaps flagCell numbers _ _ _ hF hP hD hS (lv_sub hl [0] rfl)
      · intro s1 sort v_at v_to v_value told hasThings kind place columns rows best top loss flags stones heaps flagCell numbers H locs ls hF hP hD hS hl
        have hF : tk_k (stX8_clause size tape) n (bX8_clause_2 size tape s1 sort v_at v_to v_value told hasThings kind place columns rows best top loss flags stones heaps flagCell numbers) = some o := hF
        unfold bX8_clause_2 at hF
        refine lv_iconst (v := 5) hx hb dX8_clause_41 (by decide) ?_
        obtain ⟨u18, hGu18, hF⟩ := tk_kb hF
        refine tx_callv (tx_runU (As := [.int s1, .int 5]) (rest := []) ⟨hx, hb, hml, hown, hts⟩ (mX7_ask_X8 (l := l) (D := D) (ar := ar) (ad := ad) (xs := xs) (sz := H.size) (h0 := h0) (r0 := r0) (i0 := (tu (tu (tu (tu (tu (tu (tu i0 0 size) 1 sort) 2 v_at) 3 v_to) 4 v_value) 5 told) 9 hasThings)) (v0 := (tuv (tuv (tuv (tuv v0 6 (.ref (r0 10))) 7 (.ref (r0 7))) 8 (.ref (r0 8))) 10 (.ref (r0 10)))) (r1 := r1) (i1 := i1) (i2 := (tu (tu i2 6 kind) 7 place)) (v2 := v2) (v_at := v_at) (kind := kind) (place := place) (p0 := s1) (p1 := 5) (hF := hGu18)) (tk_cwP (C := "TideKeep$BeachReader") (owner := "TideKeep$Reader") (x := ⟨"TideKeep$BeachReader", "ask", "(ZI)V"⟩) 2 hts (lw_meth q713) rfl rfl rfl (by decide +kernel) ⟨(Nat.le_of_ble_eq_true rfl), (Nat.le_of_ble_eq_true rfl)⟩ (hts _ q708) (hts _ q709) (va_Decl.of (x := ⟨"TideKeep$Reader", "ask", "(ZI)V"⟩) (hts _ q712) (hts _ q713)) (hts _ q711) (hts _ q712) (hts _ q102)) ⟨tk_blind, va_recv hK hP (ci := 6) (q0 := 0) rfl rfl, fun U hU hW => ⟨rfl, tk_mk hP hD hS hA hE hR hX [1] [0, 7] rfl rfl rfl rfl U hU hW⟩⟩ rfl rfl hl.1 rfl (lv_room (Nat.le_of_ble_eq_true rfl)) dX8_clause_42 ⟨(Nat.le_of_ble_eq_true rfl), (Nat.le_of_ble_eq_true rfl)⟩) hS (fun q _ h => (va_free hD hS hA [1] rfl) q h) (va_free hD hS hA [1] rfl) (fun q _ h => (va_free hD hS hA [1] rfl) q h) (fun E9 ce q9 xu18 zt H1 zl zht zvm zw zB zz zk zS hce hcv hcl => ?_) (fun ru18 zt H1 zl zht zvm zw zB zz zk zS => ?_)
        · obtain ⟨zq, zE, zB⟩ := zB
          subst zq
          subst zE
          subst zw
          have hF := tk_ksx hF
          obtain ⟨hP, hD⟩ := tk_join hP hD zk [1] rfl rfl (va_free hD hS hA [1] rfl) (zht ▸ zB.1) zB.2 (Nat.le_of_ble_eq_true rfl)
          have hS := zS
          generalize H1 = H at hP hS hce ⊢
          have hP : va_P D tkCl [(h0, .inr (6, oX8 (tu (tu (tu (tu (tu (tu (tu i0 0 size) 1 sort) 2 v_at) 3 v_to) 4 v_value) 5 told) 9 hasThings) (tuv (tuv (tuv (tuv v0 6 (.ref (r0 10))) 7 (.ref (r0 7))) 8 (.ref (r0 8))) 10 (.ref (r0 10))))), ((r1 0), .inr (1, oX1 (tu (tu i2 6 xu18.1) 7 xu18.2) v2)), ((r0 7), .inr (2, oX2 r3 (tu (tu (tu (tu (tu (tu i3 0 columns) 1 rows) 2 best) 3 top) 4 loss) 5 flags))), ((r3 10), .inl (ar 2, 64, .inl stones)), ((r3 8), .inl (ar 0, 64, .inl heaps)), ((r3 9), .inl (ar 0, 3, .inl flagCell)), ((r3 7), .inl (ar 0, 6, .inl numbers))] H := hP
          have hD : va_D A [(h0, .inr (6, oX8 (tu (tu (tu (tu (tu (tu (tu i0 0 size) 1 sort) 2 v_at) 3 v_to) 4 v_value) 5 told) 9 hasThings) (tuv (tuv (tuv (tuv v0 6 (.ref (r0 10))) 7 (.ref (r0 7))) 8 (.ref (r0 8))) 10 (.ref (r0 10))))), ((r1 0), .inr (1, oX1 (tu (tu i2 6 xu18.1) 7 xu18.2) v2)), ((r0 7), .inr (2, oX2 r3 (tu (tu (tu (tu (tu (tu i3 0 columns) 1 rows) 2 best) 3 top) 4 loss) 5 flags))), ((r3 10), .inl (ar 2, 64, .inl stones)), ((r3 8), .inl (ar 0, 64, .inl heaps)), ((r3 9), .inl (ar 0, 3, .inl flagCell)), ((r3 7), .inl (ar 0, 6, .inl numbers))] := hD
          have eo := tk_kr hF
          subst eo
          exact tx_out (fun x9 hx9 => (htab x9 hx9).elim) hlocks hce hcv hcl (fun t ht hW => ⟨_, rfl, ⟨rfl, rfl, tk_pst ht hP hD⟩, hS.F ht⟩) hS.2.2 (Nat.le_of_ble_eq_true rfl) (Nat.le_of_ble_eq_true rfl)
        subst zw
        have hF := tk_kss hF
        obtain ⟨hP, hD⟩ := tk_join hP hD zk [1] rfl rfl (va_free hD hS hA [1] rfl) (zht ▸ zB.1) zB.2 (Nat.le_of_ble_eq_true rfl)
        have hS := zS
        generalize H1 = H at hP hS ⊢
        have hP : va_P D tkCl [(h0, .inr (6, oX8 (tu (tu (tu (tu (tu (tu (tu i0 0 size) 1 sort) 2 v_at) 3 v_to) 4 v_value) 5 told) 9 hasThings) (tuv (tuv (tuv (tuv v0 6 (.ref (r0 10))) 7 (.ref (r0 7))) 8 (.ref (r0 8))) 10 (.ref (r0 10))))), ((r1 0), .inr (1, oX1 (tu (tu i2 6 ru18.1) 7 ru18.2) v2)), ((r0 7), .inr (2, oX2 r3 (tu (tu (tu (tu (tu (tu i3 0 columns) 1 rows) 2 best) 3 top) 4 loss) 5 flags))), ((r3 10), .inl (ar 2, 64, .inl stones)), ((r3 8), .inl (ar 0, 64, .inl heaps)), ((r3 9), .inl (ar 0, 3, .inl flagCell)), ((r3 7), .inl (ar 0, 6, .inl numbers))] H := hP
        have hD : va_D A [(h0, .inr (6, oX8 (tu (tu (tu (tu (tu (tu (tu i0 0 size) 1 sort) 2 v_at) 3 v_to) 4 v_value) 5 told) 9 hasThings) (tuv (tuv (tuv (tuv v0 6 (.ref (r0 10))) 7 (.ref (r0 7))) 8 (.ref (r0 8))) 10 (.ref (r0 10))))), ((r1 0), .inr (1, oX1 (tu (tu i2 6 ru18.1) 7 ru18.2) v2)), ((r0 7), .inr (2, oX2 r3 (tu (tu (tu (tu (tu (tu i3 0 columns) 1 rows) 2 best) 3 top) 4 loss) 5 flags))), ((r3 10), .inl (ar 2, 64, .inl stones)), ((r3 8), .inl (ar 0, 64, .inl heaps)), ((r3 9), .inl (ar 0, 3, .inl flagCell)), ((r3 7), .inl (ar 0, 6, .inl numbers))] := hD
        refine lv_aload_n hx hb dX8_clause_45 rfl (lv_at hl 0 rfl) ?_
        refine va_ldcS hx hb hown (hE.2.2.2.1 38 _ rfl).1 dX8_clause_46 ?_
        refine lv_bipush (v := 20) hx hb dX8_clause_48 (by decide) ?_
        obtain ⟨u19, hGu19, hF⟩ := tk_kb hF
        refine tx_calli (tx_runU (As := [.ref (ad 0 38), .int 20]) (rest := []) ⟨hx, hb, hml, hown, hts⟩ (mX7_begins_X8 (l := l) (D := D) (ar := ar) (ad := ad) (xs := xs) (sz := H.size) (h0 := h0) (r0 := r0) (i0 := (tu (tu (tu (tu (tu (tu (tu i0 0 size) 1 sort) 2 v_at) 3 v_to) 4 v_value) 5 told) 9 hasThings)) (v0 := (tuv (tuv (tuv (tuv v0 6 (.ref (r0 10))) 7 (.ref (r0 7))) 8 (.ref (r0 8))) 10 (.ref (r0 10)))) (r1 := r1) (i1 := i1) (i2 := (tu (tu i2 6 ru18.1) 7 ru18.2)) (v2 := v2) (size := size) (tape := tape) (sort := sort) (v_at := v_at) (v_to := v_to) (v_value := v_value) (told := told) (kind := ru18.1) (place := ru18.2) (p0 := 38) (hk_p0 := (by decide)) (p1 := 20) (hF := hGu19)) (tk_cwP (C := "TideKeep$BeachReader") (owner := "TideKeep$Reader") (x := ⟨"TideKeep$BeachReader", "begins", "(Ljava/lang/String;I)Z"⟩) 2 hts (lw_meth q723) rfl rfl rfl (by decide +kernel) ⟨(Nat.le_of_ble_eq_true rfl), (Nat.le_of_ble_eq_true rfl)⟩ (hts _ q718) (hts _ q719) (va_Decl.of (x := ⟨"TideKeep$Reader", "begins", "(Ljava/lang/String;I)Z"⟩) (hts _ q722) (hts _ q723)) (hts _ q721) (hts _ q722) (hts _ q102)) ⟨tk_blind, va_recv hK hP (ci := 6) (q0 := 0) rfl rfl, fun U hU hW => ⟨rfl, tk_mk hP hD hS hA hE hR hX [0, 1] [7, 8] rfl rfl rfl rfl U hU hW⟩⟩ rfl rfl hl.1 rfl (lv_room (Nat.le_of_ble_eq_true rfl)) dX8_clause_50 ⟨(Nat.le_of_ble_eq_true rfl), (Nat.le_of_ble_eq_true rfl)⟩) hS (fun q _ h => (va_free hD hS hA [0, 1] rfl) q h) (va_free hD hS hA [0, 1] rfl) (fun q _ h => (va_free hD hS hA [0, 1] rfl) q h) (fun E9 ce q9 xu19 zt H1 zl zht zvm zw zB zz zk zS hce hcv hcl => ?_) (fun zr ru19 zt H1 zl zht zvm zw zB zz zk zS => ?_)
        · obtain ⟨zq, zE, zB⟩ := zB
          subst zq
          subst zE
          subst zw
          have hF := tk_ksx hF
          obtain ⟨hP, hD⟩ := tk_join hP hD zk [0, 1] rfl rfl (va_free hD hS hA [0, 1] rfl) (zht ▸ zB.1) zB.2 (Nat.le_of_ble_eq_true rfl)
          have hS := zS
          generalize H1 = H at hP hS hce ⊢
          have hP : va_P D tkCl [(h0, .inr (6, oX8 (tu (tu (tu (tu (tu (tu (tu i0 0 size) 1 xu19.1) 2 xu19.2.1) 3 xu19.2.2.1) 4 xu19.2.2.2.1) 5 xu19.2.2.2.2.1) 9 hasThings) (tuv (tuv (tuv (tuv v0 6 (.ref (r0 10))) 7 (.ref (r0 7))) 8 (.ref (r0 8))) 10 (.ref (r0 10))))), ((r1 0), .inr (1, oX1 (tu (tu i2 6 xu19.2.2.2.2.2.1) 7 xu19.2.2.2.2.2.2) v2)), ((r0 7), .inr (2, oX2 r3 (tu (tu (tu (tu (tu (tu i3 0 columns) 1 rows) 2 best) 3 top) 4 loss) 5 flags))), ((r3 10), .inl (ar 2, 64, .inl stones)), ((r3 8), .inl (ar 0, 64, .inl heaps)), ((r3 9), .inl (ar 0, 3, .inl flagCell)), ((r3 7), .inl (ar 0, 6, .inl numbers))] H := hP
          have hD : va_D A [(h0, .inr (6, oX8 (tu (tu (tu (tu (tu (tu (tu i0 0 size) 1 xu19.1) 2 xu19.2.1) 3 xu19.2.2.1) 4 xu19.2.2.2.1) 5 xu19.2.2.2.2.1) 9 hasThings) (tuv (tuv (tuv (tuv v0 6 (.ref (r0 10))) 7 (.ref (r0 7))) 8 (.ref (r0 8))) 10 (.ref (r0 10))))), ((r1 0), .inr (1, oX1 (tu (tu i2 6 xu19.2.2.2.2.2.1) 7 xu19.2.2.2.2.2.2) v2)), ((r0 7), .inr (2, oX2 r3 (tu (tu (tu (tu (tu (tu i3 0 columns) 1 rows) 2 best) 3 top) 4 loss) 5 flags))), ((r3 10), .inl (ar 2, 64, .inl stones)), ((r3 8), .inl (ar 0, 64, .inl heaps)), ((r3 9), .inl (ar 0, 3, .inl flagCell)), ((r3 7), .inl (ar 0, 6, .inl numbers))] := hD
          have eo := tk_kr hF
          subst eo
          exact tx_out (fun x9 hx9 => (htab x9 hx9).elim) hlocks hce hcv hcl (fun t ht hW => ⟨_, rfl, ⟨rfl, rfl, tk_pst ht hP hD⟩, hS.F ht⟩) hS.2.2 (Nat.le_of_ble_eq_true rfl) (Nat.le_of_ble_eq_true rfl)
        obtain ⟨zw, zw2⟩ := zw
        subst zw
        subst zw2
        have hF := tk_kss hF
        obtain ⟨hP, hD⟩ := tk_join hP hD zk [0, 1] rfl rfl (va_free hD hS hA [0, 1] rfl) (zht ▸ zB.1) zB.2 (Nat.le_of_ble_eq_true rfl)
        have hS := zS
        generalize H1 = H at hP hS ⊢
        have hP : va_P D tkCl [(h0, .inr (6, oX8 (tu (tu (tu (tu (tu (tu (tu i0 0 size) 1 ru19.2.1) 2 ru19.2.2.1) 3 ru19.2.2.2.1) 4 ru19.2.2.2.2.1) 5 ru19.2.2.2.2.2.1) 9 hasThings) (tuv (tuv (tuv (tuv v0 6 (.ref (r0 10))) 7 (.ref (r0 7))) 8 (.ref (r0 8))) 10 (.ref (r0 10))))), ((r1 0), .inr (1, oX1 (tu (tu i2 6 ru19.2.2.2.2.2.2.1) 7 ru19.2.2.2.2.2.2.2) v2)), ((r0 7), .inr (2, oX2 r3 (tu (tu (tu (tu (tu (tu i3 0 columns) 1 rows) 2 best) 3 top) 4 loss) 5 flags))), ((r3 10), .inl (ar 2, 64, .inl stones)), ((r3 8), .inl (ar 0, 64, .inl heaps)), ((r3 9), .inl (ar 0, 3, .inl flagCell)), ((r3 7), .inl (ar 0, 6, .inl numbers))] H := hP
        have hD : va_D A [(h0, .inr (6, oX8 (tu (tu (tu (tu (tu (tu (tu i0 0 size) 1 ru19.2.1) 2 ru19.2.2.1) 3 ru19.2.2.2.1) 4 ru19.2.2.2.2.1) 5 ru19.2.2.2.2.2.1) 9 hasThings) (tuv (tuv (tuv (tuv v0 6 (.ref (r0 10))) 7 (.ref (r0 7))) 8 (.ref (r0 8))) 10 (.ref (r0 10))))), ((r1 0), .inr (1, oX1 (tu (tu i2 6 ru19.2.2.2.2.2.2.1) 7 ru19.2.2.2.2.2.2.2) v2)), ((r0 7), .inr (2, oX2 r3 (tu (tu (tu (tu (tu (tu i3 0 columns) 1 rows) 2 best) 3 top) 4 loss) 5 flags))), ((r3 10), .inl (ar 2, 64, .inl stones)), ((r3 8), .inl (ar 0, 64, .inl heaps)), ((r3 9), .inl (ar 0, 3, .inl flagCell)), ((r3 7), .inl (ar 0, 6, .inl numbers))] := hD
        refine lv_pop hx hb dX8_clause_53 rfl ?_
        refine lv_aload_n hx hb dX8_clause_54 rfl (lv_at hl 0 rfl) ?_
        refine va_get (D := D) (ci := 6) (v := .ref (r0 7)) (C := RX8) (T := TX8) (N := 11) hx hb hts in_X8 hown hK hP 0 rfl rfl 7 (by decide) (hts _ q598) (fun _ h9 => h9) rfl dX8_clause_55 ?_
        refine lv_aload_n hx hb dX8_clause_58 rfl (lv_at hl 0 rfl) ?_
        refine lv_iconst (v := 1) hx hb dX8_clause_59 (by decide) ?_
        refine lv_bipush (v := 8) hx hb dX8_clause_60 (by decide) ?_
        obtain ⟨u20, hGu20, hF⟩ := tk_kb hF
        refine tx_calli (tx_runU (As := [.int 1, .int 8]) (rest := [.ref (r0 7)]) ⟨hx, hb, hml, hown, hts⟩ (mX7_number_X8 (l := l) (D := D) (ar := ar) (ad := ad) (xs := xs) (sz := H.size) (h0 := h0) (r0 := r0) (i0 := (tu (tu (tu (tu (tu (tu (tu i0 0 size) 1 ru19.2.1) 2 ru19.2.2.1) 3 ru19.2.2.2.1) 4 ru19.2.2.2.2.1) 5 ru19.2.2.2.2.2.1) 9 hasThings)) (v0 := (tuv (tuv (tuv (tuv v0 6 (.ref (r0 10))) 7 (.ref (r0 7))) 8 (.ref (r0 8))) 10 (.ref (r0 10)))) (r1 := r1) (i1 := i1) (i2 := (tu (tu i2 6 ru19.2.2.2.2.2.2.1) 7 ru19.2.2.2.2.2.2.2)) (v2 := v2) (size := size) (tape := tape) (sort := ru19.2.1) (v_at := ru19.2.2.1) (v_to := ru19.2.2.2.1) (v_value := ru19.2.2.2.2.1) (kind := ru19.2.2.2.2.2.2.1) (place := ru19.2.2.2.2.2.2.2) (p0 := 1) (p1 := 8) (hF := hGu20)) (tk_cwP (C := "TideKeep$BeachReader") (owner := "TideKeep$Reader") (x := ⟨"TideKeep$BeachReader", "number", "(II)I"⟩) 2 hts (lw_meth q731) rfl rfl rfl (by decide +kernel) ⟨(Nat.le_of_ble_eq_true rfl), (Nat.le_of_ble_eq_true rfl)⟩ (hts _ q726) (hts _ q727) (va_Decl.of (x := ⟨"TideKeep$Reader", "number", "(II)I"⟩) (hts _ q730) (hts _ q731)) (hts _ q729) (hts _ q730) (hts _ q102)) ⟨tk_blind, va_recv hK hP (ci := 6) (q0 := 0) rfl rfl, fun U hU hW => ⟨rfl, tk_mk hP hD hS hA hE hR hX [0, 1] [7, 8] rfl rfl rfl rfl U hU hW⟩⟩ rfl rfl hl.1 rfl (lv_room (Nat.le_of_ble_eq_true rfl)) dX8_clause_62 ⟨(Nat.le_of_ble_eq_true rfl), (Nat.le_of_ble_eq_true rfl)⟩) hS (fun q _ h => (va_free hD hS hA [0, 1] rfl) q h) (va_free hD hS hA [0, 1] rfl) (fun q _ h => (va_free hD hS hA [0, 1] rfl) q h) (fun E9 ce q9 xu20 zt H1 zl zht zvm zw zB zz zk zS hce hcv hcl => ?_) (fun zr ru20 zt H1 zl zht zvm zw zB zz zk zS => ?_)
        · obtain ⟨zq, zE, zB⟩ := zB
          subst zq
          subst zE
          subst zw
          have hF := tk_ksx hF
          obtain ⟨hP, hD⟩ := tk_join hP hD zk [0, 1] rfl rfl (va_free hD hS hA [0, 1] rfl) (zht ▸ zB.1) zB.2 (Nat.le_of_ble_eq_true rfl)
          have hS := zS
          generalize H1 = H at hP hS hce ⊢
          have hP : va_P D tkCl [(h0, .inr (6, oX8 (tu (tu (tu (tu (tu (tu (tu i0 0 size) 1 xu20.1) 2 xu20.2.1) 3 xu20.2.2.1) 4 xu20.2.2.2.1) 5 ru19.2.2.2.2.2.1) 9 hasThings) (tuv (tuv (tuv (tuv v0 6 (.ref (r0 10))) 7 (.ref (r0 7))) 8 (.ref (r0 8))) 10 (.ref (r0 10))))), ((r1 0), .inr (1, oX1 (tu (tu i2 6 xu20.2.2.2.2.1) 7 xu20.2.2.2.2.2) v2)), ((r0 7), .inr (2, oX2 r3 (tu (tu (tu (tu (tu (tu i3 0 columns) 1 rows) 2 best) 3 top) 4 loss) 5 flags))), ((r3 10), .inl (ar 2, 64, .inl stones)), ((r3 8), .inl (ar 0, 64, .inl heaps)), ((r3 9), .inl (ar 0, 3, .inl flagCell)), ((r3 7), .inl (ar 0, 6, .inl numbers))] H := hP
          have hD : va_D A [(h0, .inr (6, oX8 (tu (tu (tu (tu (tu (tu (tu i0 0 size) 1 xu20.1) 2 xu20.2.1) 3 xu20.2.2.1) 4 xu20.2.2.2.1) 5 ru19.2.2.2.2.2.1) 9 hasThings) (tuv (tuv (tuv (tuv v0 6 (.ref (r0 10))) 7 (.ref (r0 7))) 8 (.ref (r0 8))) 10 (.ref (r0 10))))), ((r1 0), .inr (1, oX1 (tu (tu i2 6 xu20.2.2.2.2.1) 7 xu20.2.2.2.2.2) v2)), ((r0 7), .inr (2, oX2 r3 (tu (tu (tu (tu (tu (tu i3 0 columns) 1 rows) 2 best) 3 top) 4 loss) 5 flags))), ((r3 10), .inl (ar 2, 64, .inl stones)), ((r3 8), .inl (ar 0, 64, .inl heaps)), ((r3 9), .inl (ar 0, 3, .inl flagCell)), ((r3 7), .inl (ar 0, 6, .inl numbers))] := hD
          have eo := tk_kr hF
          subst eo
          exact tx_out (fun x9 hx9 => (htab x9 hx9).elim) hlocks hce hcv hcl (fun t ht hW => ⟨_, rfl, ⟨rfl, rfl, tk_pst ht hP hD⟩, hS.F ht⟩) hS.2.2 (Nat.le_of_ble_eq_true rfl) (Nat.le_of_ble_eq_true rfl)
        obtain ⟨zw, zw2⟩ := zw
        subst zw
        subst zw2
        have hF := tk_kss hF
        obtain ⟨hP, hD⟩ := tk_join hP hD zk [0, 1] rfl rfl (va_free hD hS hA [0, 1] rfl) (zht ▸ zB.1) zB.2 (Nat.le_of_ble_eq_true rfl)
        have hS := zS
        generalize H1 = H at hP hS ⊢
        have hP : va_P D tkCl [(h0, .inr (6, oX8 (tu (tu (tu (tu (tu (tu (tu i0 0 size) 1 ru20.2.1) 2 ru20.2.2.1) 3 ru20.2.2.2.1) 4 ru20.2.2.2.2.1) 5 ru19.2.2.2.2.2.1) 9 hasThings) (tuv (tuv (tuv (tuv v0 6 (.ref (r0 10))) 7 (.ref (r0 7))) 8 (.ref (r0 8))) 10 (.ref (r0 10))))), ((r1 0), .inr (1, oX1 (tu (tu i2 6 ru20.2.2.2.2.2.1) 7 ru20.2.2.2.2.2.2) v2)), ((r0 7), .inr (2, oX2 r3 (tu (tu (tu (tu (tu (tu i3 0 columns) 1 rows) 2 best) 3 top) 4 loss) 5 flags))), ((r3 10), .inl (ar 2, 64, .inl stones)), ((r3 8), .inl (ar 0, 64, .inl heaps)), ((r3 9), .inl (ar 0, 3, .inl flagCell)), ((r3 7), .inl (ar 0, 6, .inl numbers))] H := hP
        have hD : va_D A [(h0, .inr (6, oX8 (tu (tu (tu (tu (tu (tu (tu i0 0 size) 1 ru20.2.1) 2 ru20.2.2.1) 3 ru20.2.2.2.1) 4 ru20.2.2.2.2.1) 5 ru19.2.2.2.2.2.1) 9 hasThings) (tuv (tuv (tuv (tuv v0 6 (.ref (r0 10))) 7 (.ref (r0 7))) 8 (.ref (r0 8))) 10 (.ref (r0 10))))), ((r1 0), .inr (1, oX1 (tu (tu i2 6 ru20.2.2.2.2.2.1) 7 ru20.2.2.2.2.2.2) v2)), ((r0 7), .inr (2, oX2 r3 (tu (tu (tu (tu (tu (tu i3 0 columns) 1 rows) 2 best) 3 top) 4 loss) 5 flags))), ((r3 10), .inl (ar 2, 64, .inl stones)), ((r3 8), .inl (ar 0, 64, .inl heaps)), ((r3 9), .inl (ar 0, 3, .inl flagCell)), ((r3 7), .inl (ar 0, 6, .inl numbers))] := hD
        refine va_putN (D := D) (ci := 2) (v := .int ru20.1) (ty := .int) (C := RX2) (T := TX2) (N := 11) hx hb hts in_X2 tyX2 tyX2_ok nmX2 hown hK hP hD hS 2 rfl rfl 0 (by decide) (hE.2.1.use q218 rfl rfl) (fun _ h9 => h9) rfl (by decide +kernel) rfl rfl (Nat.le_of_ble_eq_true rfl) dX8_clause_65 (fun H locs hP hD hS => ?_)
        have hP : va_P D tkCl [(h0, .inr (6, oX8 (tu (tu (tu (tu (tu (tu (tu i0 0 size) 1 ru20.2.1) 2 ru20.2.2.1) 3 ru20.2.2.2.1) 4 ru20.2.2.2.2.1) 5 ru19.2.2.2.2.2.1) 9 hasThings) (tuv (tuv (tuv (tuv v0 6 (.ref (r0 10))) 7 (.ref (r0 7))) 8 (.ref (r0 8))) 10 (.ref (r0 10))))), ((r1 0), .inr (1, oX1 (tu (tu i2 6 ru20.2.2.2.2.2.1) 7 ru20.2.2.2.2.2.2) v2)), ((r0 7), .inr (2, oX2 r3 (tu (tu (tu (tu (tu (tu i3 0 ru20.1) 1 rows) 2 best) 3 top) 4 loss) 5 flags))), ((r3 10), .inl (ar 2, 64, .inl stones)), ((r3 8), .inl (ar 0, 64, .inl heaps)), ((r3 9), .inl (ar 0, 3, .inl flagCell)), ((r3 7), .inl (ar 0, 6, .inl numbers))] H := hP
        have hD : va_D A [(h0, .inr (6, oX8 (tu (tu (tu (tu (tu (tu (tu i0 0 size) 1 ru20.2.1) 2 ru20.2.2.1) 3 ru20.2.2.2.1) 4 ru20.2.2.2.2.1) 5 ru19.2.2.2.2.2.1) 9 hasThings) (tuv (tuv (tuv (tuv v0 6 (.ref (r0 10))) 7 (.ref (r0 7))) 8 (.ref (r0 8))) 10 (.ref (r0 10))))), ((r1 0), .inr (1, oX1 (tu (tu i2 6 ru20.2.2.2.2.2.1) 7 ru20.2.2.2.2.2.2) v2)), ((r0 7), .inr (2, oX2 r3 (tu (tu (tu (tu (tu (tu i3 0 ru20.1) 1 rows) 2 best) 3 top) 4 loss) 5 flags))), ((r3 10), .inl (ar 2, 64, .inl stones)), ((r3 8), .inl (ar 0, 64, .inl heaps)), ((r3 9), .inl (ar 0, 3, .inl flagCell)), ((r3 7), .inl (ar 0, 6, .inl numbers))] := hD
        refine lv_aload_n hx hb dX8_clause_68 rfl (lv_at hl 0 rfl) ?_
        refine va_get (D := D) (ci := 6) (v := .ref (r0 7)) (C := RX8) (T := TX8) (N := 11) hx hb hts in_X8 hown hK hP 0 rfl rfl 7 (by decide) (hts _ q598) (fun _ h9 => h9) rfl dX8_clause_69 ?_
        refine lv_aload_n hx hb dX8_clause_72 rfl (lv_at hl 0 rfl) ?_
        refine lv_iconst (v := 1) hx hb dX8_clause_73 (by decide) ?_
        refine lv_bipush (v := 8) hx hb dX8_clause_74 (by decide) ?_
        obtain ⟨u21, hGu21, hF⟩ := tk_kb hF
        refine tx_calli (tx_runU (As := [.int 1, .int 8]) (rest := [.ref (r0 7)]) ⟨hx, hb, hml, hown, hts⟩ (mX7_number_X8 (l := l) (D := D) (ar := ar) (ad := ad) (xs := xs) (sz := H.size) (h0 := h0) (r0 := r0) (i0 := (tu (tu (tu (tu (tu (tu (tu i0 0 size) 1 ru20.2.1) 2 ru20.2.2.1) 3 ru20.2.2.2.1) 4 ru20.2.2.2.2.1) 5 ru19.2.2.2.2.2.1) 9 hasThings)) (v0 := (tuv (tuv (tuv (tuv v0 6 (.ref (r0 10))) 7 (.ref (r0 7))) 8 (.ref (r0 8))) 10 (.ref (r0 10)))) (r1 := r1) (i1 := i1) (i2 := (tu (tu i2 6 ru20.2.2.2.2.2.1) 7 ru20.2.2.2.2.2.2)) (v2 := v2) (size := size) (tape := tape) (sort := ru20.2.1) (v_at := ru20.2.2.1) (v_to := ru20.2.2.2.1) (v_value := ru20.2.2.2.2.1) (kind := ru20.2.2.2.2.2.1) (place := ru20.2.2.2.2.2.2) (p0 := 1) (p1 := 8) (hF := hGu21)) (tk_cwP (C := "TideKeep$BeachReader") (owner := "TideKeep$Reader") (x := ⟨"TideKeep$BeachReader", "number", "(II)I"⟩) 2 hts (lw_meth q731) rfl rfl rfl (by decide +kernel) ⟨(Nat.le_of_ble_eq_true rfl), (Nat.le_of_ble_eq_true rfl)⟩ (hts _ q726) (hts _ q727) (va_Decl.of (x := ⟨"TideKeep$Reader", "number", "(II)I"⟩) (hts _ q730) (hts _ q731)) (hts _ q729) (hts _ q730) (hts _ q102)) ⟨tk_blind, va_recv hK hP (ci := 6) (q0 := 0) rfl rfl, fun U hU hW => ⟨rfl, tk_mk hP hD hS hA hE hR hX [0, 1] [7, 8] rfl rfl rfl rfl U hU hW⟩⟩ rfl rfl hl.1 rfl (lv_room (Nat.le_of_ble_eq_true rfl)) dX8_clause_76 ⟨(Nat.le_of_ble_eq_true rfl), (Nat.le_of_ble_eq_true rfl)⟩) hS (fun q _ h => (va_free hD hS hA [0, 1] rfl) q h) (va_free hD hS hA [0, 1] rfl) (fun q _ h => (va_free hD hS hA [0, 1] rfl) q h) (fun E9 ce q9 xu21 zt H1 zl zht zvm zw zB zz zk zS hce hcv hcl => ?_) (fun zr ru21 zt H1 zl zht zvm zw zB zz zk zS => ?_)
        · obtain ⟨zq, zE, zB⟩ := zB
          subst zq
          subst zE
          subst zw
          have hF := tk_ksx hF
          obtain ⟨hP, hD⟩ := tk_join hP hD zk [0, 1] rfl rfl (va_free hD hS hA [0, 1] rfl) (zht ▸ zB.1) zB.2 (Nat.le_of_ble_eq_true rfl)
          have hS := zS
          generalize H1 = H at hP hS hce ⊢
          have hP : va_P D tkCl [(h0, .inr (6, oX8 (tu (tu (tu (tu (tu (tu (tu i0 0 size) 1 xu21.1) 2 xu21.2.1) 3 xu21.2.2.1) 4 xu21.2.2.2.1) 5 ru19.2.2.2.2.2.1) 9 hasThings) (tuv (tuv (tuv (tuv v0 6 (.ref (r0 10))) 7 (.ref (r0 7))) 8 (.ref (r0 8))) 10 (.ref (r0 10))))), ((r1 0), .inr (1, oX1 (tu (tu i2 6 xu21.2.2.2.2.1) 7 xu21.2.2.2.2.2) v2)), ((r0 7), .inr (2, oX2 r3 (tu (tu (tu (tu (tu (tu i3 0 ru20.1) 1 rows) 2 best) 3 top) 4 loss) 5 flags))), ((r3 10), .inl (ar 2, 64, .inl stones)), ((r3 8), .inl (ar 0, 64, .inl heaps)), ((r3 9), .inl (ar 0, 3, .inl flagCell)), ((r3 7), .inl (ar 0, 6, .inl numbers))] H := hP
          have hD : va_D A [(h0, .inr (6, oX8 (tu (tu (tu (tu (tu (tu (tu i0 0 size) 1 xu21.1) 2 xu21.2.1) 3 xu21.2.2.1) 4 xu21.2.2.2.1) 5 ru19.2.2.2.2.2.1) 9 hasThings) (tuv (tuv (tuv (tuv v0 6 (.ref (r0 10))) 7 (.ref (r0 7))) 8 (.ref (r0 8))) 10 (.ref (r0 10))))), ((r1 0), .inr (1, oX1 (tu (tu i2 6 xu21.2.2.2.2.1) 7 xu21.2.2.2.2.2) v2)), ((r0 7), .inr (2, oX2 r3 (tu (tu (tu (tu (tu (tu i3 0 ru20.1) 1 rows) 2 best) 3 top) 4 loss) 5 flags))), ((r3 10), .inl (ar 2, 64, .inl stones)), ((r3 8), .inl (ar 0, 64, .inl heaps)), ((r3 9), .inl (ar 0, 3, .inl flagCell)), ((r3 7), .inl (ar 0, 6, .inl numbers))] := hD
          have eo := tk_kr hF
          subst eo
          exact tx_out (fun x9 hx9 => (htab x9 hx9).elim) hlocks hce hcv hcl (fun t ht hW => ⟨_, rfl, ⟨rfl, rfl, tk_pst ht hP hD⟩, hS.F ht⟩) hS.2.2 (Nat.le_of_ble_eq_true rfl) (Nat.le_of_ble_eq_true rfl)
        obtain ⟨zw, zw2⟩ := zw
        subst zw
        subst zw2
        have hF := tk_kss hF
        obtain ⟨hP, hD⟩ := tk_join hP hD zk [0, 1] rfl rfl (va_free hD hS hA [0, 1] rfl) (zht ▸ zB.1) zB.2 (Nat.le_of_ble_eq_true rfl)
        have hS := zS
        generalize H1 = H at hP hS ⊢
        have hP : va_P D tkCl [(h0, .inr (6, oX8 (tu (tu (tu (tu (tu (tu (tu i0 0 size) 1 ru21.2.1) 2 ru21.2.2.1) 3 ru21.2.2.2.1) 4 ru21.2.2.2.2.1) 5 ru19.2.2.2.2.2.1) 9 hasThings) (tuv (tuv (tuv (tuv v0 6 (.ref (r0 10))) 7 (.ref (r0 7))) 8 (.ref (r0 8))) 10 (.ref (r0 10))))), ((r1 0), .inr (1, oX1 (tu (tu i2 6 ru21.2.2.2.2.2.1) 7 ru21.2.2.2.2.2.2) v2)), ((r0 7), .inr (2, oX2 r3 (tu (tu (tu (tu (tu (tu i3 0 ru20.1) 1 rows) 2 best) 3 top) 4 loss) 5 flags))), ((r3 10), .inl (ar 2, 64, .inl stones)), ((r3 8), .inl (ar 0, 64, .inl heaps)), ((r3 9), .inl (ar 0, 3, .inl flagCell)), ((r3 7), .inl (ar 0, 6, .inl numbers))] H := hP
        have hD : va_D A [(h0, .inr (6, oX8 (tu (tu (tu (tu (tu (tu (tu i0 0 size) 1 ru21.2.1) 2 ru21.2.2.1) 3 ru21.2.2.2.1) 4 ru21.2.2.2.2.1) 5 ru19.2.2.2.2.2.1) 9 hasThings) (tuv (tuv (tuv (tuv v0 6 (.ref (r0 10))) 7 (.ref (r0 7))) 8 (.ref (r0 8))) 10 (.ref (r0 10))))), ((r1 0), .inr (1, oX1 (tu (tu i2 6 ru21.2.2.2.2.2.1) 7 ru21.2.2.2.2.2.2) v2)), ((r0 7), .inr (2, oX2 r3 (tu (tu (tu (tu (tu (tu i3 0 ru20.1) 1 rows) 2 best) 3 top) 4 loss) 5 flags))), ((r3 10), .inl (ar 2, 64, .inl stones)), ((r3 8), .inl (ar 0, 64, .inl heaps)), ((r3 9), .inl (ar 0, 3, .inl flagCell)), ((r3 7), .inl (ar 0, 6, .inl numbers))] := hD
        refine va_putN (D := D) (ci := 2) (v := .int ru21.1) (ty := .int) (C := RX2) (T := TX2) (N := 11) hx hb hts in_X2 tyX2 tyX2_ok nmX2 hown hK hP hD hS 2 rfl rfl 1 (by decide) (hE.2.1.use q223 rfl rfl) (fun _ h9 => h9) rfl (by decide +kernel) rfl rfl (Nat.le_of_ble_eq_true rfl) dX8_clause_79 (fun H locs hP hD hS => ?_)
        have hP : va_P D tkCl [(h0, .inr (6, oX8 (tu (tu (tu (tu (tu (tu (tu i0 0 size) 1 ru21.2.1) 2 ru21.2.2.1) 3 ru21.2.2.2.1) 4 ru21.2.2.2.2.1) 5 ru19.2.2.2.2.2.1) 9 hasThings) (tuv (tuv (tuv (tuv v0 6 (.ref (r0 10))) 7 (.ref (r0 7))) 8 (.ref (r0 8))) 10 (.ref (r0 10))))), ((r1 0), .inr (1, oX1 (tu (tu i2 6 ru21.2.2.2.2.2.1) 7 ru21.2.2.2.2.2.2) v2)), ((r0 7), .inr (2, oX2 r3 (tu (tu (tu (tu (tu (tu i3 0 ru20.1) 1 ru21.1) 2 best) 3 top) 4 loss) 5 flags))), ((r3 10), .inl (ar 2, 64, .inl stones)), ((r3 8), .inl (ar 0, 64, .inl heaps)), ((r3 9), .inl (ar 0, 3, .inl flagCell)), ((r3 7), .inl (ar 0, 6, .inl numbers))] H := hP
        have hD : va_D A [(h0, .inr (6, oX8 (tu (tu (tu (tu (tu (tu (tu i0 0 size) 1 ru21.2.1) 2 ru21.2.2.1) 3 ru21.2.2.2.1) 4 ru21.2.2.2.2.1) 5 ru19.2.2.2.2.2.1) 9 hasThings) (tuv (tuv (tuv (tuv v0 6 (.ref (r0 10))) 7 (.ref (r0 7))) 8 (.ref (r0 8))) 10 (.ref (r0 10))))), ((r1 0), .inr (1, oX1 (tu (tu i2 6 ru21.2.2.2.2.2.1) 7 ru21.2.2.2.2.2.2) v2)), ((r0 7), .inr (2, oX2 r3 (tu (tu (tu (tu (tu (tu i3 0 ru20.1) 1 ru21.1) 2 best) 3 top) 4 loss) 5 flags))), ((r3 10), .inl (ar 2, 64, .inl stones)), ((r3 8), .inl (ar 0, 64, .inl heaps)), ((r3 9), .inl (ar 0, 3, .inl flagCell)), ((r3 7), .inl (ar 0, 6, .inl numbers))] := hD
        refine lv_goto (tgt := 277) hx hb dX8_clause_82 (by decide) ?_
        have eo := tk_kr hF
        subst eo
        refine tx_ret ?_
        exact W.vret hx hb hr (fun t ht hW => ⟨⟨_, rfl, rfl, tk_pst ht hP hD⟩, hS.F ht⟩) hS.2.2 dX8_clause_277
      · intro sort v_at v_to v_value told hasThings kind place columns rows best top loss flags stones heaps flagCell numbers H locs ls hF hP hD hS hl
        have hF : tk_k (stX8_clause size tape) n (bX8_clause_3 size tape sort v_at v_to v_value told hasThings kind place columns rows best top loss flags stones heaps flagCell numbers) = some o := hF
        unfold bX8_clause_3 at hF
        refine lv_aload_n hx hb dX8_clause_112 rfl (lv_at hl 0 rfl) ?_
        obtain ⟨u22, hGu22, hF⟩ := tk_kb hF
        refine tx_callv (tx_runV (As := []) (rest := []) ⟨hx, hb, hml, hown, hts⟩ (mX8_thing (l := l) (D := D) (ar := ar) (ad := ad) (xs := xs) (sz := H.size) (h0 := h0) (r0 := r0) (i0 := (tu (tu (tu (tu (tu (tu (tu i0 0 size) 1 sort) 2 v_at) 3 v_to) 4 v_value) 5 told) 9 hasThings)) (v0 := (tuv (tuv (tuv (tuv v0 6 (.ref (r0 10))) 7 (.ref (r0 7))) 8 (.ref (r0 8))) 10 (.ref (r0 10)))) (r1 := r1) (i1 := i1) (r2 := r3) (i2 := (tu (tu (tu (tu (tu (tu i3 0 columns) 1 rows) 2 best) 3 top) 4 loss) 5 flags)) (i3 := (tu (tu i2 6 kind) 7 place)) (v3 := v2) (size := size) (tape := tape) (columns := columns) (rows := rows) (sort := sort) (v_at := v_at) (v_to := v_to) (v_value := v_value) (hasThings := hasThings) (flags := flags) (kind := kind) (place := place) (stones := stones) (heaps := heaps) (flagCell := flagCell) (hF := hGu22)) (cwV 0 hts (lw_V q745 q747 qs5 q103 q748) rfl rfl rfl (by decide +kernel) ⟨(Nat.le_of_ble_eq_true rfl), (Nat.le_of_ble_eq_true rfl)⟩) ⟨tk_blind, va_recv hK hP (ci := 6) (q0 := 0) rfl rfl, fun U hU hW => ⟨rfl, tk_mk hP hD hS hA hE hR hX [0, 2, 1, 3, 4, 5] [7, 8] rfl rfl rfl rfl U hU hW⟩⟩ rfl rfl hl.1 rfl (lv_room (Nat.le_of_ble_eq_true rfl)) dX8_clause_113 ⟨(Nat.le_of_ble_eq_true rfl), (Nat.le_of_ble_eq_true rfl)⟩) hS (fun q _ h => (va_free hD hS hA [0, 2, 1, 3, 4, 5] rfl) q h) (va_free hD hS hA [0, 2, 1, 3, 4, 5] rfl) (fun q _ h => (va_free hD hS hA [0, 2, 1, 3, 4, 5] rfl) q h) (fun E9 ce q9 xu22 zt H1 zl zht zvm zw zB zz zk zS hce hcv hcl => ?_) (fun ru22 zt H1 zl zht zvm zw zB zz zk zS => ?_)
        · obtain ⟨zq, zE, zB⟩ := zB
          subst zq
          subst zE
          subst zw
          have hF := tk_ksx hF
          obtain ⟨hP, hD⟩ := tk_join hP hD zk [0, 2, 1, 3, 4, 5] rfl rfl (va_free hD hS hA [0, 2, 1, 3, 4, 5] rfl) (zht ▸ zB.1) zB.2 (Nat.le_of_ble_eq_true rfl)
          have hS := zS
          generalize H1 = H at hP hS hce ⊢
          have hP : va_P D tkCl [(h0, .inr (6, oX8 (tu (tu (tu (tu (tu (tu (tu i0 0 size) 1 xu22.1) 2 xu22.2.1) 3 xu22.2.2.1) 4 xu22.2.2.2.1) 5 told) 9 xu22.2.2.2.2.1) (tuv (tuv (tuv (tuv v0 6 (.ref (r0 10))) 7 (.ref (r0 7))) 8 (.ref (r0 8))) 10 (.ref (r0 10))))), ((r1 0), .inr (1, oX1 (tu (tu i2 6 xu22.2.2.2.2.2.2.1) 7 xu22.2.2.2.2.2.2.2.1) v2)), ((r0 7), .inr (2, oX2 r3 (tu (tu (tu (tu (tu (tu i3 0 columns) 1 rows) 2 best) 3 top) 4 loss) 5 xu22.2.2.2.2.2.1))), ((r3 10), .inl (ar 2, 64, .inl xu22.2.2.2.2.2.2.2.2.1)), ((r3 8), .inl (ar 0, 64, .inl xu22.2.2.2.2.2.2.2.2.2.1)), ((r3 9), .inl (ar 0, 3, .inl xu22.2.2.2.2.2.2.2.2.2.2)), ((r3 7), .inl (ar 0, 6, .inl numbers))] H := hP
          have hD : va_D A [(h0, .inr (6, oX8 (tu (tu (tu (tu (tu (tu (tu i0 0 size) 1 xu22.1) 2 xu22.2.1) 3 xu22.2.2.1) 4 xu22.2.2.2.1) 5 told) 9 xu22.2.2.2.2.1) (tuv (tuv (tuv (tuv v0 6 (.ref (r0 10))) 7 (.ref (r0 7))) 8 (.ref (r0 8))) 10 (.ref (r0 10))))), ((r1 0), .inr (1, oX1 (tu (tu i2 6 xu22.2.2.2.2.2.2.1) 7 xu22.2.2.2.2.2.2.2.1) v2)), ((r0 7), .inr (2, oX2 r3 (tu (tu (tu (tu (tu (tu i3 0 columns) 1 rows) 2 best) 3 top) 4 loss) 5 xu22.2.2.2.2.2.1))), ((r3 10), .inl (ar 2, 64, .inl xu22.2.2.2.2.2.2.2.2.1)), ((r3 8), .inl (ar 0, 64, .inl xu22.2.2.2.2.2.2.2.2.2.1)), ((r3 9), .inl (ar 0, 3, .inl xu22.2.2.2.2.2.2.2.2.2.2)), ((r3 7), .inl (ar 0, 6, .inl numbers))] := hD
          have eo := tk_kr hF
          subst eo
          exact tx_out (fun x9 hx9 => (htab x9 hx9).elim) hlocks hce hcv hcl (fun t ht hW => ⟨_, rfl, ⟨rfl, rfl, tk_pst ht hP hD⟩, hS.F ht⟩) hS.2.2 (Nat.le_of_ble_eq_true rfl) (Nat.le_of_ble_eq_true rfl)
        subst zw
        have hF := tk_kss hF
        obtain ⟨hP, hD⟩ := tk_join hP hD zk [0, 2, 1, 3, 4, 5] rfl rfl (va_free hD hS hA [0, 2, 1, 3, 4, 5] rfl) (zht ▸ zB.1) zB.2 (Nat.le_of_ble_eq_true rfl)
        have hS := zS
        generalize H1 = H at hP hS ⊢
        have hP : va_P D tkCl [(h0, .inr (6, oX8 (tu (tu (tu (tu (tu (tu (tu i0 0 size) 1 ru22.1) 2 ru22.2.1) 3 ru22.2.2.1) 4 ru22.2.2.2.1) 5 told) 9 ru22.2.2.2.2.1) (tuv (tuv (tuv (tuv v0 6 (.ref (r0 10))) 7 (.ref (r0 7))) 8 (.ref (r0 8))) 10 (.ref (r0 10))))), ((r1 0), .inr (1, oX1 (tu (tu i2 6 ru22.2.2.2.2.2.2.1) 7 ru22.2.2.2.2.2.2.2.1) v2)), ((r0 7), .inr (2, oX2 r3 (tu (tu (tu (tu (tu (tu i3 0 columns) 1 rows) 2 best) 3 top) 4 loss) 5 ru22.2.2.2.2.2.1))), ((r3 10), .inl (ar 2, 64, .inl ru22.2.2.2.2.2.2.2.2.1)), ((r3 8), .inl (ar 0, 64, .inl ru22.2.2.2.2.2.2.2.2.2.1)), ((r3 9), .inl (ar 0, 3, .inl ru22.2.2.2.2.2.2.2.2.2.2)), ((r3 7), .inl (ar 0, 6, .inl numbers))] H := hP
        have hD : va_D A [(h0, .inr (6, oX8 (tu (tu (tu (tu (tu (tu (tu i0 0 size) 1 ru22.1) 2 ru22.2.1) 3 ru22.2.2.1) 4 ru22.2.2.2.1) 5 told) 9 ru22.2.2.2.2.1) (tuv (tuv (tuv (tuv v0 6 (.ref (r0 10))) 7 (.ref (r0 7))) 8 (.ref (r0 8))) 10 (.ref (r0 10))))), ((r1 0), .inr (1, oX1 (tu (tu i2 6 ru22.2.2.2.2.2.2.1) 7 ru22.2.2.2.2.2.2.2.1) v2)), ((r0 7), .inr (2, oX2 r3 (tu (tu (tu (tu (tu (tu i3 0 columns) 1 rows) 2 best) 3 top) 4 loss) 5 ru22.2.2.2.2.2.1))), ((r3 10), .inl (ar 2, 64, .inl ru22.2.2.2.2.2.2.2.2.1)), ((r3 8), .inl (ar 0, 64, .inl ru22.2.2.2.2.2.2.2.2.2.1)), ((r3 9), .inl (ar 0, 3, .inl ru22.2.2.2.2.2.2.2.2.2.2)), ((r3 7), .inl (ar 0, 6, .inl numbers))] := hD
        refine lv_goto (tgt := 277) hx hb dX8_clause_116 (by decide) ?_
        have eo := tk_kr hF
        subst eo
        refine tx_ret ?_
        exact W.vret hx hb hr (fun t ht hW => ⟨⟨_, rfl, rfl, tk_pst ht hP hD⟩, hS.F ht⟩) hS.2.2 dX8_clause_277
      · intro x1 x2 sort v_at v_to v_value told hasThings kind place columns rows best top loss flags stones heaps flagCell numbers H locs ls hF hP hD hS hl
        have hF : tk_k (stX8_clause size tape) n (bX8_clause_4 size tape x1 x2 sort v_at v_to v_value told hasThings kind place columns rows best top loss flags stones heaps flagCell numbers) = some o := hF
        unfold bX8_clause_4 at hF
        refine lv_iload_n hx hb dX8_clause_179 rfl (lv_at hl 2 rfl) ?_
        refine lv_aload_n hx hb dX8_clause_180 rfl (lv_at hl 0 rfl) ?_
        refine va_get (D := D) (ci := 6) (v := .ref (r0 8)) (C := RX8) (T := TX8) (N := 11) hx hb hts in_X8 hown hK hP 0 rfl rfl 8 (by decide) (hts _ q599) (fun _ h9 => h9) rfl dX8_clause_181 ?_
        refine va_alen (v := 6) hx hb hK (hR.at hS) 2 5 rfl rfl (show Int32.ofNat 6 = 6 by decide) dX8_clause_184 ?_
        refine lv_icmp_ge (tgt := 216) hx hb dX8_clause_185 (by decide) (fun c23 => ?_) (fun c23 => ?_)
        · have hF := tk_kt hF c23
          refine lv_aload_n hx hb dX8_clause_216 rfl (lv_at hl 0 rfl) ?_
          refine lv_iload_n hx hb dX8_clause_217 rfl (lv_at hl 1 rfl) ?_
          refine lv_iconst (v := (-1)) hx hb dX8_clause_218 (by decide) ?_
          refine lv_icmp_eq (tgt := 226) hx hb dX8_clause_219 (by decide) (fun c24 => ?_) (fun c24 => ?_)
          · have hF := tk_kt hF c24
            refine lv_iconst (v := 0) hx hb dX8_clause_226 (by decide) ?_
            exact ih227 x1 0 sort v_at v_to v_value told hasThings kind place columns rows best top loss flags stones heaps flagCell numbers _ _ _ hF hP hD hS (lv_sub hl [0, 1] rfl)
          · have hF := tk_kf hF c24
            refine lv_iconst (v := 1) hx hb dX8_clause_222 (by decide) ?_
            refine lv_goto (tgt := 227) hx hb dX8_clause_223 (by decide) ?_
            exact ih227 x1 1 sort v_at v_to v_value told hasThings kind place columns rows best top loss flags stones heaps flagCell numbers _ _ _ hF hP hD hS (lv_sub hl [0, 1] rfl)
        · have hF := tk_kf hF c23
          refine lv_aload_n hx hb dX8_clause_188 rfl (lv_at hl 0 rfl) ?_
          refine lv_aload_n hx hb dX8_clause_189 rfl (lv_at hl 0 rfl) ?_
          refine va_get (D := D) (ci := 6) (v := .ref (r0 8)) (C := RX8) (T := TX8) (N := 11) hx hb hts in_X8 hown hK hP 0 rfl rfl 8 (by decide) (hts _ q599) (fun _ h9 => h9) rfl dX8_clause_190 ?_
          refine lv_iload_n hx hb dX8_clause_193 rfl (lv_at hl 2 rfl) ?_
          obtain ⟨gd25, hF⟩ := tk_kg hF
          refine va_aldq hx hb hK (hR.at hS) 2 5 rfl rfl gd25 dX8_clause_194 ?_
          refine W.eq (g2 := F0 m 195 ls [.ref (ad 2 x2.toNatClampNeg), .ref h0]) rfl ?_
          refine tk_getEN hx hb (hE.word x2.toNatClampNeg (tk_in_n gd25)) hS hown (hE.2.1.use q2035 rfl rfl) (fun _ h9 => h9) dX8_clause_195 ?_
          obtain ⟨u26, hGu26, hF⟩ := tk_kb hF
          refine va_calli (va_runU (As := [.ref (ad 0 (tk_tw.getD x2.toNatClampNeg 0))]) (rest := []) ⟨hx, hb, hml, hown, hts⟩ (mX7_is_X8 (l := l) (D := D) (ar := ar) (ad := ad) (xs := xs) (sz := H.size) (h0 := h0) (r0 := r0) (i0 := (tu (tu (tu (tu (tu (tu (tu i0 0 size) 1 sort) 2 v_at) 3 v_to) 4 v_value) 5 told) 9 hasThings)) (v0 := (tuv (tuv (tuv (tuv v0 6 (.ref (r0 10))) 7 (.ref (r0 7))) 8 (.ref (r0 8))) 10 (.ref (r0 10)))) (r1 := r1) (i1 := i1) (size := size) (sort := sort) (v_at := v_at) (v_to := v_to) (tape := tape) (p0 := (tk_tw.getD x2.toNatClampNeg 0)) (hk_p0 := (tk_tw_lt x2.toNatClampNeg)) (hF := hGu26)) (tk_cwP (C := "TideKeep$BeachReader") (owner := "TideKeep$Reader") (x := ⟨"TideKeep$BeachReader", "is", "(Ljava/lang/String;)Z"⟩) 1 hts (lw_meth q655) rfl rfl rfl (by decide +kernel) ⟨(Nat.le_of_ble_eq_true rfl), (Nat.le_of_ble_eq_true rfl)⟩ (hts _ q650) (hts _ q651) (va_Decl.of (x := ⟨"TideKeep$Reader", "is", "(Ljava/lang/String;)Z"⟩) (hts _ q654) (hts _ q655)) (hts _ q653) (hts _ q654) (hts _ q102)) ⟨tk_blind, va_recv hK hP (ci := 6) (q0 := 0) rfl rfl, fun U hU hW => ⟨rfl, tk_mk hP hD hS hA hE hR hX [] [0, 7, 8] rfl rfl rfl rfl U hU hW⟩⟩ rfl rfl hl.1 rfl (lv_room (Nat.le_of_ble_eq_true rfl)) dX8_clause_198 ⟨(Nat.le_of_ble_eq_true rfl), (Nat.le_of_ble_eq_true rfl)⟩) hS (fun q _ h => (va_free hD hS hA [] rfl) q h) (va_free hD hS hA [] rfl) (fun zr zu zt H1 zl zht zvm zw zB zz zk zS => ?_)
          obtain ⟨hP, hD⟩ := tk_join hP hD zk [] rfl rfl (va_free hD hS hA [] rfl) (zht ▸ zB.1) zB.2 (Nat.le_of_ble_eq_true rfl)
          have hS := zS
          have zw := Eq.symm zw
          subst zw
          generalize H1 = H at hP hS ⊢
          have hP : va_P D tkCl [(h0, .inr (6, oX8 (tu (tu (tu (tu (tu (tu (tu i0 0 size) 1 sort) 2 v_at) 3 v_to) 4 v_value) 5 told) 9 hasThings) (tuv (tuv (tuv (tuv v0 6 (.ref (r0 10))) 7 (.ref (r0 7))) 8 (.ref (r0 8))) 10 (.ref (r0 10))))), ((r1 0), .inr (1, oX1 (tu (tu i2 6 kind) 7 place) v2)), ((r0 7), .inr (2, oX2 r3 (tu (tu (tu (tu (tu (tu i3 0 columns) 1 rows) 2 best) 3 top) 4 loss) 5 flags))), ((r3 10), .inl (ar 2, 64, .inl stones)), ((r3 8), .inl (ar 0, 64, .inl heaps)), ((r3 9), .inl (ar 0, 3, .inl flagCell)), ((r3 7), .inl (ar 0, 6, .inl numbers))] H := hP
          have hD : va_D A [(h0, .inr (6, oX8 (tu (tu (tu (tu (tu (tu (tu i0 0 size) 1 sort) 2 v_at) 3 v_to) 4 v_value) 5 told) 9 hasThings) (tuv (tuv (tuv (tuv v0 6 (.ref (r0 10))) 7 (.ref (r0 7))) 8 (.ref (r0 8))) 10 (.ref (r0 10))))), ((r1 0), .inr (1, oX1 (tu (tu i2 6 kind) 7 place) v2)), ((r0 7), .inr (2, oX2 r3 (tu (tu (tu (tu (tu (tu i3 0 columns) 1 rows) 2 best) 3 top) 4 loss) 5 flags))), ((r3 10), .inl (ar 2, 64, .inl stones)), ((r3 8), .inl (ar 0, 64, .inl heaps)), ((r3 9), .inl (ar 0, 3, .inl flagCell)), ((r3 7), .inl (ar 0, 6, .inl numbers))] := hD
          refine lv_if_eq (tgt := 208) hx hb dX8_clause_201 (by decide) (fun c27 => ?_) (fun c27 => ?_)
          · have hF := tk_kt hF c27
            refine lv_iload_n hx hb dX8_clause_208 rfl (lv_at hl 1 rfl) ?_
            exact ih209 x2 x1 sort v_at v_to v_value told hasThings kind place columns rows best top loss flags stones heaps flagCell numbers _ _ _ hF hP hD hS (lv_sub hl [0, 2] rfl)
          · have hF := tk_kf hF c27
            refine lv_iload_n hx hb dX8_clause_204 rfl (lv_at hl 2 rfl) ?_
            refine lv_goto (tgt := 209) hx hb dX8_clause_205 (by decide) ?_
            exact ih209 x2 x2 sort v_at v_to v_value told hasThings kind place columns rows best top loss flags stones heaps flagCell numbers _ _ _ hF hP hD hS (lv_sub hl [0, 2] rfl)
      · intro x2 s0 sort v_at v_to v_value told hasThings kind place columns rows best top loss flags stones heaps flagCell numbers H locs ls hF hP hD hS hl
        have hF : tk_k (stX8_clause size tape) n (bX8_clause_5 size tape x2 s0 sort v_at v_to v_value told hasThings kind place columns rows best top loss flags stones heaps flagCell numbers) = some o := hF
        unfold bX8_clause_5 at hF
        refine lv_istore_n (lv' := [(1, .int s0), (0, .ref h0), (2, .int x2)]) hx hb dX8_clause_209 rfl hl (Nat.le_of_ble_eq_true rfl) rfl (fun ls hl => ?_)
        refine lv_iinc (v := x2 + 1) (lv' := [(2, .int (x2 + 1)), (1, .int s0), (0, .ref h0)]) hx hb dX8_clause_210 hl (k := 2) rfl (congrArg (fun z => x2 + z) (show Int32.ofInt 1 = 1 by decide)) (Nat.le_of_ble_eq_true rfl) rfl (fun ls hl => ?_)
        refine lv_goto (tgt := 179) hx hb dX8_clause_213 (by decide) ?_
        exact ih179 s0 (x2 + 1) sort v_at v_to v_value told hasThings kind place columns rows best top loss flags stones heaps flagCell numbers _ _ _ hF hP hD hS (lv_sub hl [2, 1, 0] rfl)
      · intro x1 s1 sort v_at v_to v_value told hasThings kind place columns rows best top loss flags stones heaps flagCell numbers H locs ls hF hP hD hS hl
        have hF : tk_k (stX8_clause size tape) n (bX8_clause_6 size tape x1 s1 sort v_at v_to v_value told hasThings kind place columns rows best top loss flags stones heaps flagCell numbers) = some o := hF
        unfold bX8_clause_6 at hF
        refine lv_iconst (v := 1) hx hb dX8_clause_227 (by decide) ?_
        obtain ⟨u28, hGu28, hF⟩ := tk_kb hF
        refine tx_callv (tx_runU (As := [.int s1, .int 1]) (rest := []) ⟨hx, hb, hml, hown, hts⟩ (mX7_ask_X8 (l := l) (D := D) (ar := ar) (ad := ad) (xs := xs) (sz := H.size) (h0 := h0) (r0 := r0) (i0 := (tu (tu (tu (tu (tu (tu (tu i0 0 size) 1 sort) 2 v_at) 3 v_to) 4 v_value) 5 told) 9 hasThings)) (v0 := (tuv (tuv (tuv (tuv v0 6 (.ref (r0 10))) 7 (.ref (r0 7))) 8 (.ref (r0 8))) 10 (.ref (r0 10)))) (r1 := r1) (i1 := i1) (i2 := (tu (tu i2 6 kind) 7 place)) (v2 := v2) (v_at := v_at) (kind := kind) (place := place) (p0 := s1) (p1 := 1) (hF := hGu28)) (tk_cwP (C := "TideKeep$BeachReader") (owner := "TideKeep$Reader") (x := ⟨"TideKeep$BeachReader", "ask", "(ZI)V"⟩) 2 hts (lw_meth q713) rfl rfl rfl (by decide +kernel) ⟨(Nat.le_of_ble_eq_true rfl), (Nat.le_of_ble_eq_true rfl)⟩ (hts _ q708) (hts _ q709) (va_Decl.of (x := ⟨"TideKeep$Reader", "ask", "(ZI)V"⟩) (hts _ q712) (hts _ q713)) (hts _ q711) (hts _ q712) (hts _ q102)) ⟨tk_blind, va_recv hK hP (ci := 6) (q0 := 0) rfl rfl, fun U hU hW => ⟨rfl, tk_mk hP hD hS hA hE hR hX [1] [0, 7] rfl rfl rfl rfl U hU hW⟩⟩ rfl rfl hl.1 rfl (lv_room (Nat.le_of_ble_eq_true rfl)) dX8_clause_228 ⟨(Nat.le_of_ble_eq_true rfl), (Nat.le_of_ble_eq_true rfl)⟩) hS (fun q _ h => (va_free hD hS hA [1] rfl) q h) (va_free hD hS hA [1] rfl) (fun q _ h => (va_free hD hS hA [1] rfl) q h) (fun E9 ce q9 xu28 zt H1 zl zht zvm zw zB zz zk zS hce hcv hcl => ?_) (fun ru28 zt H1 zl zht zvm zw zB zz zk zS => ?_)
        · obtain ⟨zq, zE, zB⟩ := zB
          subst zq
          subst zE
          subst zw
          have hF := tk_ksx hF
          obtain ⟨hP, hD⟩ := tk_join hP hD zk [1] rfl rfl (va_free hD hS hA [1] rfl) (zht ▸ zB.1) zB.2 (Nat.le_of_ble_eq_true rfl)
          have hS := zS
          generalize H1 = H at hP hS hce ⊢
          have hP : va_P D tkCl [(h0, .inr (6, oX8 (tu (tu (tu (tu (tu (tu (tu i0 0 size) 1 sort) 2 v_at) 3 v_to) 4 v_value) 5 told) 9 hasThings) (tuv (tuv (tuv (tuv v0 6 (.ref (r0 10))) 7 (.ref (r0 7))) 8 (.ref (r0 8))) 10 (.ref (r0 10))))), ((r1 0), .inr (1, oX1 (tu (tu i2 6 xu28.1) 7 xu28.2) v2)), ((r0 7), .inr (2, oX2 r3 (tu (tu (tu (tu (tu (tu i3 0 columns) 1 rows) 2 best) 3 top) 4 loss) 5 flags))), ((r3 10), .inl (ar 2, 64, .inl stones)), ((r3 8), .inl (ar 0, 64, .inl heaps)), ((r3 9), .inl (ar 0, 3, .inl flagCell)), ((r3 7), .inl (ar 0, 6, .inl numbers))] H := hP
          have hD : va_D A [(h0, .inr (6, oX8 (tu (tu (tu (tu (tu (tu (tu i0 0 size) 1 sort) 2 v_at) 3 v_to) 4 v_value) 5 told) 9 hasThings) (tuv (tuv (tuv (tuv v0 6 (.ref (r0 10))) 7 (.ref (r0 7))) 8 (.ref (r0 8))) 10 (.ref (r0 10))))), ((r1 0), .inr (1, oX1 (tu (tu i2 6 xu28.1) 7 xu28.2) v2)), ((r0 7), .inr (2, oX2 r3 (tu (tu (tu (tu (tu (tu i3 0 columns) 1 rows) 2 best) 3 top) 4 loss) 5 flags))), ((r3 10), .inl (ar 2, 64, .inl stones)), ((r3 8), .inl (ar 0, 64, .inl heaps)), ((r3 9), .inl (ar 0, 3, .inl flagCell)), ((r3 7), .inl (ar 0, 6, .inl numbers))] := hD
          have eo := tk_kr hF
          subst eo
          exact tx_out (fun x9 hx9 => (htab x9 hx9).elim) hlocks hce hcv hcl (fun t ht hW => ⟨_, rfl, ⟨rfl, rfl, tk_pst ht hP hD⟩, hS.F ht⟩) hS.2.2 (Nat.le_of_ble_eq_true rfl) (Nat.le_of_ble_eq_true rfl)
        subst zw
        have hF := tk_kss hF
        obtain ⟨hP, hD⟩ := tk_join hP hD zk [1] rfl rfl (va_free hD hS hA [1] rfl) (zht ▸ zB.1) zB.2 (Nat.le_of_ble_eq_true rfl)
        have hS := zS
        generalize H1 = H at hP hS ⊢
        have hP : va_P D tkCl [(h0, .inr (6, oX8 (tu (tu (tu (tu (tu (tu (tu i0 0 size) 1 sort) 2 v_at) 3 v_to) 4 v_value) 5 told) 9 hasThings) (tuv (tuv (tuv (tuv v0 6 (.ref (r0 10))) 7 (.ref (r0 7))) 8 (.ref (r0 8))) 10 (.ref (r0 10))))), ((r1 0), .inr (1, oX1 (tu (tu i2 6 ru28.1) 7 ru28.2) v2)), ((r0 7), .inr (2, oX2 r3 (tu (tu (tu (tu (tu (tu i3 0 columns) 1 rows) 2 best) 3 top) 4 loss) 5 flags))), ((r3 10), .inl (ar 2, 64, .inl stones)), ((r3 8), .inl (ar 0, 64, .inl heaps)), ((r3 9), .inl (ar 0, 3, .inl flagCell)), ((r3 7), .inl (ar 0, 6, .inl numbers))] H := hP
        have hD : va_D A [(h0, .inr (6, oX8 (tu (tu (tu (tu (tu (tu (tu i0 0 size) 1 sort) 2 v_at) 3 v_to) 4 v_value) 5 told) 9 hasThings) (tuv (tuv (tuv (tuv v0 6 (.ref (r0 10))) 7 (.ref (r0 7))) 8 (.ref (r0 8))) 10 (.ref (r0 10))))), ((r1 0), .inr (1, oX1 (tu (tu i2 6 ru28.1) 7 ru28.2) v2)), ((r0 7), .inr (2, oX2 r3 (tu (tu (tu (tu (tu (tu i3 0 columns) 1 rows) 2 best) 3 top) 4 loss) 5 flags))), ((r3 10), .inl (ar 2, 64, .inl stones)), ((r3 8), .inl (ar 0, 64, .inl heaps)), ((r3 9), .inl (ar 0, 3, .inl flagCell)), ((r3 7), .inl (ar 0, 6, .inl numbers))] := hD
        refine lv_aload_n hx hb dX8_clause_231 rfl (lv_at hl 0 rfl) ?_
        refine lv_aload_n hx hb dX8_clause_232 rfl (lv_at hl 0 rfl) ?_
        refine va_get (D := D) (ci := 6) (v := .ref (r0 8)) (C := RX8) (T := TX8) (N := 11) hx hb hts in_X8 hown hK hP 0 rfl rfl 8 (by decide) (hts _ q599) (fun _ h9 => h9) rfl dX8_clause_233 ?_
        refine lv_iload_n hx hb dX8_clause_236 rfl (lv_at hl 1 rfl) ?_
        obtain ⟨gd29, hF⟩ := tk_kg hF
        refine va_aldq hx hb hK (hR.at hS) 2 5 rfl rfl gd29 dX8_clause_237 ?_
        refine W.eq (g2 := F0 m 238 ls [.ref (ad 2 x1.toNatClampNeg), .ref h0]) rfl ?_
        refine tk_getEN hx hb (hE.word x1.toNatClampNeg (tk_in_n gd29)) hS hown (hE.2.1.use q2035 rfl rfl) (fun _ h9 => h9) dX8_clause_238 ?_
        refine lv_iload_n hx hb dX8_clause_241 rfl (lv_at hl 1 rfl) ?_
        obtain ⟨u30, hGu30, hF⟩ := tk_kb hF
        refine tx_calli (tx_runU (As := [.ref (ad 0 (tk_tw.getD x1.toNatClampNeg 0)), .int x1]) (rest := []) ⟨hx, hb, hml, hown, hts⟩ (mX7_begins_X8 (l := l) (D := D) (ar := ar) (ad := ad) (xs := xs) (sz := H.size) (h0 := h0) (r0 := r0) (i0 := (tu (tu (tu (tu (tu (tu (tu i0 0 size) 1 sort) 2 v_at) 3 v_to) 4 v_value) 5 told) 9 hasThings)) (v0 := (tuv (tuv (tuv (tuv v0 6 (.ref (r0 10))) 7 (.ref (r0 7))) 8 (.ref (r0 8))) 10 (.ref (r0 10)))) (r1 := r1) (i1 := i1) (i2 := (tu (tu i2 6 ru28.1) 7 ru28.2)) (v2 := v2) (size := size) (tape := tape) (sort := sort) (v_at := v_at) (v_to := v_to) (v_value := v_value) (told := told) (kind := ru28.1) (place := ru28.2) (p0 := (tk_tw.getD x1.toNatClampNeg 0)) (hk_p0 := (tk_tw_lt x1.toNatClampNeg)) (p1 := x1) (hF := hGu30)) (tk_cwP (C := "TideKeep$BeachReader") (owner := "TideKeep$Reader") (x := ⟨"TideKeep$BeachReader", "begins", "(Ljava/lang/String;I)Z"⟩) 2 hts (lw_meth q723) rfl rfl rfl (by decide +kernel) ⟨(Nat.le_of_ble_eq_true rfl), (Nat.le_of_ble_eq_true rfl)⟩ (hts _ q718) (hts _ q719) (va_Decl.of (x := ⟨"TideKeep$Reader", "begins", "(Ljava/lang/String;I)Z"⟩) (hts _ q722) (hts _ q723)) (hts _ q721) (hts _ q722) (hts _ q102)) ⟨tk_blind, va_recv hK hP (ci := 6) (q0 := 0) rfl rfl, fun U hU hW => ⟨rfl, tk_mk hP hD hS hA hE hR hX [0, 1] [7, 8] rfl rfl rfl rfl U hU hW⟩⟩ rfl rfl hl.1 rfl (lv_room (Nat.le_of_ble_eq_true rfl)) dX8_clause_242 ⟨(Nat.le_of_ble_eq_true rfl), (Nat.le_of_ble_eq_true rfl)⟩) hS (fun q _ h => (va_free hD hS hA [0, 1] rfl) q h) (va_free hD hS hA [0, 1] rfl) (fun q _ h => (va_free hD hS hA [0, 1] rfl) q h) (fun E9 ce q9 xu30 zt H1 zl zht zvm zw zB zz zk zS hce hcv hcl => ?_) (fun zr ru30 zt H1 zl zht zvm zw zB zz zk zS => ?_)
        · obtain ⟨zq, zE, zB⟩ := zB
          subst zq
          subst zE
          subst zw
          have hF := tk_ksx hF
          obtain ⟨hP, hD⟩ := tk_join hP hD zk [0, 1] rfl rfl (va_free hD hS hA [0, 1] rfl) (zht ▸ zB.1) zB.2 (Nat.le_of_ble_eq_true rfl)
          have hS := zS
          generalize H1 = H at hP hS hce ⊢
          have hP : va_P D tkCl [(h0, .inr (6, oX8 (tu (tu (tu (tu (tu (tu (tu i0 0 size) 1 xu30.1) 2 xu30.2.1) 3 xu30.2.2.1) 4 xu30.2.2.2.1) 5 xu30.2.2.2.2.1) 9 hasThings) (tuv (tuv (tuv (tuv v0 6 (.ref (r0 10))) 7 (.ref (r0 7))) 8 (.ref (r0 8))) 10 (.ref (r0 10))))), ((r1 0), .inr (1, oX1 (tu (tu i2 6 xu30.2.2.2.2.2.1) 7 xu30.2.2.2.2.2.2) v2)), ((r0 7), .inr (2, oX2 r3 (tu (tu (tu (tu (tu (tu i3 0 columns) 1 rows) 2 best) 3 top) 4 loss) 5 flags))), ((r3 10), .inl (ar 2, 64, .inl stones)), ((r3 8), .inl (ar 0, 64, .inl heaps)), ((r3 9), .inl (ar 0, 3, .inl flagCell)), ((r3 7), .inl (ar 0, 6, .inl numbers))] H := hP
          have hD : va_D A [(h0, .inr (6, oX8 (tu (tu (tu (tu (tu (tu (tu i0 0 size) 1 xu30.1) 2 xu30.2.1) 3 xu30.2.2.1) 4 xu30.2.2.2.1) 5 xu30.2.2.2.2.1) 9 hasThings) (tuv (tuv (tuv (tuv v0 6 (.ref (r0 10))) 7 (.ref (r0 7))) 8 (.ref (r0 8))) 10 (.ref (r0 10))))), ((r1 0), .inr (1, oX1 (tu (tu i2 6 xu30.2.2.2.2.2.1) 7 xu30.2.2.2.2.2.2) v2)), ((r0 7), .inr (2, oX2 r3 (tu (tu (tu (tu (tu (tu i3 0 columns) 1 rows) 2 best) 3 top) 4 loss) 5 flags))), ((r3 10), .inl (ar 2, 64, .inl stones)), ((r3 8), .inl (ar 0, 64, .inl heaps)), ((r3 9), .inl (ar 0, 3, .inl flagCell)), ((r3 7), .inl (ar 0, 6, .inl numbers))] := hD
          have eo := tk_kr hF
          subst eo
          exact tx_out (fun x9 hx9 => (htab x9 hx9).elim) hlocks hce hcv hcl (fun t ht hW => ⟨_, rfl, ⟨rfl, rfl, tk_pst ht hP hD⟩, hS.F ht⟩) hS.2.2 (Nat.le_of_ble_eq_true rfl) (Nat.le_of_ble_eq_true rfl)
        obtain ⟨zw, zw2⟩ := zw
        subst zw
        subst zw2
        have hF := tk_kss hF
        obtain ⟨hP, hD⟩ := tk_join hP hD zk [0, 1] rfl rfl (va_free hD hS hA [0, 1] rfl) (zht ▸ zB.1) zB.2 (Nat.le_of_ble_eq_true rfl)
        have hS := zS
        generalize H1 = H at hP hS ⊢
        have hP : va_P D tkCl [(h0, .inr (6, oX8 (tu (tu (tu (tu (tu (tu (tu i0 0 size) 1 ru30.2.1) 2 ru30.2.2.1) 3 ru30.2.2.2.1) 4 ru30.2.2.2.2.1) 5 ru30.2.2.2.2.2.1) 9 hasThings) (tuv (tuv (tuv (tuv v0 6 (.ref (r0 10))) 7 (.ref (r0 7))) 8 (.ref (r0 8))) 10 (.ref (r0 10))))), ((r1 0), .inr (1, oX1 (tu (tu i2 6 ru30.2.2.2.2.2.2.1) 7 ru30.2.2.2.2.2.2.2) v2)), ((r0 7), .inr (2, oX2 r3 (tu (tu (tu (tu (tu (tu i3 0 columns) 1 rows) 2 best) 3 top) 4 loss) 5 flags))), ((r3 10), .inl (ar 2, 64, .inl stones)), ((r3 8), .inl (ar 0, 64, .inl heaps)), ((r3 9), .inl (ar 0, 3, .inl flagCell)), ((r3 7), .inl (ar 0, 6, .inl numbers))] H := hP
        have hD : va_D A [(h0, .inr (6, oX8 (tu (tu (tu (tu (tu (tu (tu i0 0 size) 1 ru30.2.1) 2 ru30.2.2.1) 3 ru30.2.2.2.1) 4 ru30.2.2.2.2.1) 5 ru30.2.2.2.2.2.1) 9 hasThings) (tuv (tuv (tuv (tuv v0 6 (.ref (r0 10))) 7 (.ref (r0 7))) 8 (.ref (r0 8))) 10 (.ref (r0 10))))), ((r1 0), .inr (1, oX1 (tu (tu i2 6 ru30.2.2.2.2.2.2.1) 7 ru30.2.2.2.2.2.2.2) v2)), ((r0 7), .inr (2, oX2 r3 (tu (tu (tu (tu (tu (tu i3 0 columns) 1 rows) 2 best) 3 top) 4 loss) 5 flags))), ((r3 10), .inl (ar 2, 64, .inl stones)), ((r3 8), .inl (ar 0, 64, .inl heaps)), ((r3 9), .inl (ar 0, 3, .inl flagCell)), ((r3 7), .inl (ar 0, 6, .inl numbers))] := hD
        refine lv_pop hx hb dX8_clause_245 rfl ?_
        refine lv_aload_n hx hb dX8_clause_246 rfl (lv_at hl 0 rfl) ?_
        refine va_get (D := D) (ci := 6) (v := .ref (r0 7)) (C := RX8) (T := TX8) (N := 11) hx hb hts in_X8 hown hK hP 0 rfl rfl 7 (by decide) (hts _ q598) (fun _ h9 => h9) rfl dX8_clause_247 ?_
        refine va_getN (D := D) (ci := 2) (v := .ref (r3 7)) (C := RX2) (T := TX2) (N := 11) hx hb hts in_X2 hown hK hP 2 rfl rfl 7 (by decide) (hE.2.1.use q242 rfl rfl) (fun _ h9 => h9) rfl dX8_clause_250 ?_
        refine lv_iload_n hx hb dX8_clause_253 rfl (lv_at hl 1 rfl) ?_
        refine lv_aload_n hx hb dX8_clause_254 rfl (lv_at hl 0 rfl) ?_
        refine lv_aload_n hx hb dX8_clause_255 rfl (lv_at hl 0 rfl) ?_
        refine va_get (D := D) (ci := 6) (v := .ref (r0 8)) (C := RX8) (T := TX8) (N := 11) hx hb hts in_X8 hown hK hP 0 rfl rfl 8 (by decide) (hts _ q599) (fun _ h9 => h9) rfl dX8_clause_256 ?_
        refine lv_iload_n hx hb dX8_clause_259 rfl (lv_at hl 1 rfl) ?_
        refine va_aldq hx hb hK (hR.at hS) 2 5 rfl rfl gd29 dX8_clause_260 ?_
        refine W.eq (g2 := F0 m 261 ls [.ref (ad 2 x1.toNatClampNeg), .ref h0, .int x1, .ref (r3 7)]) rfl ?_
        refine tk_getEN hx hb (hE.low x1.toNatClampNeg (tk_in_n gd29)) hS hown (hE.2.1.use q2036 rfl rfl) (fun _ h9 => h9) dX8_clause_261 ?_
        refine lv_aload_n hx hb dX8_clause_264 rfl (lv_at hl 0 rfl) ?_
        refine va_get (D := D) (ci := 6) (v := .ref (r0 8)) (C := RX8) (T := TX8) (N := 11) hx hb hts in_X8 hown hK hP 0 rfl rfl 8 (by decide) (hts _ q599) (fun _ h9 => h9) rfl dX8_clause_265 ?_
        refine lv_iload_n hx hb dX8_clause_268 rfl (lv_at hl 1 rfl) ?_
        refine va_aldq hx hb hK (hR.at hS) 2 5 rfl rfl gd29 dX8_clause_269 ?_
        refine W.eq (g2 := F0 m 270 ls [.ref (ad 2 x1.toNatClampNeg), .int (tk_lows.getD x1.toNatClampNeg 0), .ref h0, .int x1, .ref (r3 7)]) rfl ?_
        refine tk_getEN hx hb (hE.high x1.toNatClampNeg (tk_in_n gd29)) hS hown (hE.2.1.use q2037 rfl rfl) (fun _ h9 => h9) dX8_clause_270 ?_
        obtain ⟨u31, hGu31, hF⟩ := tk_kb hF
        refine tx_calli (tx_runU (As := [.int (tk_lows.getD x1.toNatClampNeg 0), .int (tk_highs.getD x1.toNatClampNeg 0)]) (rest := [.int x1, .ref (r3 7)]) ⟨hx, hb, hml, hown, hts⟩ (mX7_number_X8 (l := l) (D := D) (ar := ar) (ad := ad) (xs := xs) (sz := H.size) (h0 := h0) (r0 := r0) (i0 := (tu (tu (tu (tu (tu (tu (tu i0 0 size) 1 ru30.2.1) 2 ru30.2.2.1) 3 ru30.2.2.2.1) 4 ru30.2.2.2.2.1) 5 ru30.2.2.2.2.2.1) 9 hasThings)) (v0 := (tuv (tuv (tuv (tuv v0 6 (.ref (r0 10))) 7 (.ref (r0 7))) 8 (.ref (r0 8))) 10 (.ref (r0 10)))) (r1 := r1) (i1 := i1) (i2 := (tu (tu i2 6 ru30.2.2.2.2.2.2.1) 7 ru30.2.2.2.2.2.2.2)) (v2 := v2) (size := size) (tape := tape) (sort := ru30.2.1) (v_at := ru30.2.2.1) (v_to := ru30.2.2.2.1) (v_value := ru30.2.2.2.2.1) (kind := ru30.2.2.2.2.2.2.1) (place := ru30.2.2.2.2.2.2.2) (p0 := tk_lows.getD x1.toNatClampNeg 0) (p1 := tk_highs.getD x1.toNatClampNeg 0) (hF := hGu31)) (tk_cwP (C := "TideKeep$BeachReader") (owner := "TideKeep$Reader") (x := ⟨"TideKeep$BeachReader", "number", "(II)I"⟩) 2 hts (lw_meth q731) rfl rfl rfl (by decide +kernel) ⟨(Nat.le_of_ble_eq_true rfl), (Nat.le_of_ble_eq_true rfl)⟩ (hts _ q726) (hts _ q727) (va_Decl.of (x := ⟨"TideKeep$Reader", "number", "(II)I"⟩) (hts _ q730) (hts _ q731)) (hts _ q729) (hts _ q730) (hts _ q102)) ⟨tk_blind, va_recv hK hP (ci := 6) (q0 := 0) rfl rfl, fun U hU hW => ⟨rfl, tk_mk hP hD hS hA hE hR hX [0, 1] [7, 8] rfl rfl rfl rfl U hU hW⟩⟩ rfl rfl hl.1 rfl (lv_room (Nat.le_of_ble_eq_true rfl)) dX8_clause_273 ⟨(Nat.le_of_ble_eq_true rfl), (Nat.le_of_ble_eq_true rfl)⟩) hS (fun q _ h => (va_free hD hS hA [0, 1] rfl) q h) (va_free hD hS hA [0, 1] rfl) (fun q _ h => (va_free hD hS hA [0, 1] rfl) q h) (fun E9 ce q9 xu31 zt H1 zl zht zvm zw zB zz zk zS hce hcv hcl => ?_) (fun zr ru31 zt H1 zl zht zvm zw zB zz zk zS => ?_)
        · obtain ⟨zq, zE, zB⟩ := zB
          subst zq
          subst zE
          subst zw
          have hF := tk_ksx hF
          obtain ⟨hP, hD⟩ := tk_join hP hD zk [0, 1] rfl rfl (va_free hD hS hA [0, 1] rfl) (zht ▸ zB.1) zB.2 (Nat.le_of_ble_eq_true rfl)
          have hS := zS
          generalize H1 = H at hP hS hce ⊢
          have hP : va_P D tkCl [(h0, .inr (6, oX8 (tu (tu (tu (tu (tu (tu (tu i0 0 size) 1 xu31.1) 2 xu31.2.1) 3 xu31.2.2.1) 4 xu31.2.2.2.1) 5 ru30.2.2.2.2.2.1) 9 hasThings) (tuv (tuv (tuv (tuv v0 6 (.ref (r0 10))) 7 (.ref (r0 7))) 8 (.ref (r0 8))) 10 (.ref (r0 10))))), ((r1 0), .inr (1, oX1 (tu (tu i2 6 xu31.2.2.2.2.1) 7 xu31.2.2.2.2.2) v2)), ((r0 7), .inr (2, oX2 r3 (tu (tu (tu (tu (tu (tu i3 0 columns) 1 rows) 2 best) 3 top) 4 loss) 5 flags))), ((r3 10), .inl (ar 2, 64, .inl stones)), ((r3 8), .inl (ar 0, 64, .inl heaps)), ((r3 9), .inl (ar 0, 3, .inl flagCell)), ((r3 7), .inl (ar 0, 6, .inl numbers))] H := hP
          have hD : va_D A [(h0, .inr (6, oX8 (tu (tu (tu (tu (tu (tu (tu i0 0 size) 1 xu31.1) 2 xu31.2.1) 3 xu31.2.2.1) 4 xu31.2.2.2.1) 5 ru30.2.2.2.2.2.1) 9 hasThings) (tuv (tuv (tuv (tuv v0 6 (.ref (r0 10))) 7 (.ref (r0 7))) 8 (.ref (r0 8))) 10 (.ref (r0 10))))), ((r1 0), .inr (1, oX1 (tu (tu i2 6 xu31.2.2.2.2.1) 7 xu31.2.2.2.2.2) v2)), ((r0 7), .inr (2, oX2 r3 (tu (tu (tu (tu (tu (tu i3 0 columns) 1 rows) 2 best) 3 top) 4 loss) 5 flags))), ((r3 10), .inl (ar 2, 64, .inl stones)), ((r3 8), .inl (ar 0, 64, .inl heaps)), ((r3 9), .inl (ar 0, 3, .inl flagCell)), ((r3 7), .inl (ar 0, 6, .inl numbers))] := hD
          have eo := tk_kr hF
          subst eo
          exact tx_out (fun x9 hx9 => (htab x9 hx9).elim) hlocks hce hcv hcl (fun t ht hW => ⟨_, rfl, ⟨rfl, rfl, tk_pst ht hP hD⟩, hS.F ht⟩) hS.2.2 (Nat.le_of_ble_eq_true rfl) (Nat.le_of_ble_eq_true rfl)
        obtain ⟨zw, zw2⟩ := zw
        subst zw
        subst zw2
        have hF := tk_kss hF
        obtain ⟨hP, hD⟩ := tk_join hP hD zk [0, 1] rfl rfl (va_free hD hS hA [0, 1] rfl) (zht ▸ zB.1) zB.2 (Nat.le_of_ble_eq_true rfl)
        have hS := zS
        generalize H1 = H at hP hS ⊢
        have hP : va_P D tkCl [(h0, .inr (6, oX8 (tu (tu (tu (tu (tu (tu (tu i0 0 size) 1 ru31.2.1) 2 ru31.2.2.1) 3 ru31.2.2.2.1) 4 ru31.2.2.2.2.1) 5 ru30.2.2.2.2.2.1) 9 hasThings) (tuv (tuv (tuv (tuv v0 6 (.ref (r0 10))) 7 (.ref (r0 7))) 8 (.ref (r0 8))) 10 (.ref (r0 10))))), ((r1 0), .inr (1, oX1 (tu (tu i2 6 ru31.2.2.2.2.2.1) 7 ru31.2.2.2.2.2.2) v2)), ((r0 7), .inr (2, oX2 r3 (tu (tu (tu (tu (tu (tu i3 0 columns) 1 rows) 2 best) 3 top) 4 loss) 5 flags))), ((r3 10), .inl (ar 2, 64, .inl stones)), ((r3 8), .inl (ar 0, 64, .inl heaps)), ((r3 9), .inl (ar 0, 3, .inl flagCell)), ((r3 7), .inl (ar 0, 6, .inl numbers))] H := hP
        have hD : va_D A [(h0, .inr (6, oX8 (tu (tu (tu (tu (tu (tu (tu i0 0 size) 1 ru31.2.1) 2 ru31.2.2.1) 3 ru31.2.2.2.1) 4 ru31.2.2.2.2.1) 5 ru30.2.2.2.2.2.1) 9 hasThings) (tuv (tuv (tuv (tuv v0 6 (.ref (r0 10))) 7 (.ref (r0 7))) 8 (.ref (r0 8))) 10 (.ref (r0 10))))), ((r1 0), .inr (1, oX1 (tu (tu i2 6 ru31.2.2.2.2.2.1) 7 ru31.2.2.2.2.2.2) v2)), ((r0 7), .inr (2, oX2 r3 (tu (tu (tu (tu (tu (tu i3 0 columns) 1 rows) 2 best) 3 top) 4 loss) 5 flags))), ((r3 10), .inl (ar 2, 64, .inl stones)), ((r3 8), .inl (ar 0, 64, .inl heaps)), ((r3 9), .inl (ar 0, 3, .inl flagCell)), ((r3 7), .inl (ar 0, 6, .inl numbers))] := hD
        refine va_iast hx hb hK hP hD hS 6 0 rfl rfl gd29 dX8_clause_276 (fun H locs hP hD hS => ?_)
        have hP : va_P D tkCl [(h0, .inr (6, oX8 (tu (tu (tu (tu (tu (tu (tu i0 0 size) 1 ru31.2.1) 2 ru31.2.2.1) 3 ru31.2.2.2.1) 4 ru31.2.2.2.2.1) 5 ru30.2.2.2.2.2.1) 9 hasThings) (tuv (tuv (tuv (tuv v0 6 (.ref (r0 10))) 7 (.ref (r0 7))) 8 (.ref (r0 8))) 10 (.ref (r0 10))))), ((r1 0), .inr (1, oX1 (tu (tu i2 6 ru31.2.2.2.2.2.1) 7 ru31.2.2.2.2.2.2) v2)), ((r0 7), .inr (2, oX2 r3 (tu (tu (tu (tu (tu (tu i3 0 columns) 1 rows) 2 best) 3 top) 4 loss) 5 flags))), ((r3 10), .inl (ar 2, 64, .inl stones)), ((r3 8), .inl (ar 0, 64, .inl heaps)), ((r3 9), .inl (ar 0, 3, .inl flagCell)), ((r3 7), .inl (ar 0, 6, .inl (upd numbers x1.toNatClampNeg ru31.1)))] H := hP
        have hD : va_D A [(h0, .inr (6, oX8 (tu (tu (tu (tu (tu (tu (tu i0 0 size) 1 ru31.2.1) 2 ru31.2.2.1) 3 ru31.2.2.2.1) 4 ru31.2.2.2.2.1) 5 ru30.2.2.2.2.2.1) 9 hasThings) (tuv (tuv (tuv (tuv v0 6 (.ref (r0 10))) 7 (.ref (r0 7))) 8 (.ref (r0 8))) 10 (.ref (r0 10))))), ((r1 0), .inr (1, oX1 (tu (tu i2 6 ru31.2.2.2.2.2.1) 7 ru31.2.2.2.2.2.2) v2)), ((r0 7), .inr (2, oX2 r3 (tu (tu (tu (tu (tu (tu i3 0 columns) 1 rows) 2 best) 3 top) 4 loss) 5 flags))), ((r3 10), .inl (ar 2, 64, .inl stones)), ((r3 8), .inl (ar 0, 64, .inl heaps)), ((r3 9), .inl (ar 0, 3, .inl flagCell)), ((r3 7), .inl (ar 0, 6, .inl (upd numbers x1.toNatClampNeg ru31.1)))] := hD
        have eo := tk_kr hF
        subst eo
        refine tx_ret ?_
        exact W.vret hx hb hr (fun t ht hW => ⟨⟨_, rfl, rfl, tk_pst ht hP hD⟩, hS.F ht⟩) hS.2.2 dX8_clause_277
  obtain ⟨ih24, ih41, ih112, ih179, ih209, ih227⟩ := key n0
  clear key
  unfold bX8_clause_0 at hF
  have hF : tk_k (stX8_clause size tape) n0 _ = some o := hF
  refine lv_aload_n hx hb dX8_clause_0 rfl (lv_at hl 0 rfl) ?_
  refine va_ldcS hx hb hown (hE.2.2.2.1 38 _ rfl).1 dX8_clause_1 ?_
  obtain ⟨u1, hGu1, hF⟩ := tk_kb hF
  refine va_calli (va_runU (As := [.ref (ad 0 38)]) (rest := []) ⟨hx, hb, hml, hown, hts⟩ (mX7_is_X8 (l := l) (D := D) (ar := ar) (ad := ad) (xs := xs) (sz := s.heap.size) (h0 := h0) (r0 := r0) (i0 := (tu (tu (tu (tu (tu (tu (tu i0 0 size) 1 sort) 2 v_at) 3 v_to) 4 v_value) 5 told) 9 hasThings)) (v0 := (tuv (tuv (tuv (tuv v0 6 (.ref (r0 10))) 7 (.ref (r0 7))) 8 (.ref (r0 8))) 10 (.ref (r0 10)))) (r1 := r1) (i1 := i1) (size := size) (sort := sort) (v_at := v_at) (v_to := v_to) (tape := tape) (p0 := 38) (hk_p0 := (by decide)) (hF := hGu1)) (tk_cwP (C := "TideKeep$BeachReader") (owner := "TideKeep$Reader") (x := ⟨"TideKeep$BeachReader", "is", "(Ljava/lang/String;)Z"⟩) 1 hts (lw_meth q655) rfl rfl rfl (by decide +kernel) ⟨(Nat.le_of_ble_eq_true rfl), (Nat.le_of_ble_eq_true rfl)⟩ (hts _ q650) (hts _ q651) (va_Decl.of (x := ⟨"TideKeep$Reader", "is", "(Ljava/lang/String;)Z"⟩) (hts _ q654) (hts _ q655)) (hts _ q653) (hts _ q654) (hts _ q102)) ⟨tk_blind, va_recv hK hP (ci := 6) (q0 := 0) rfl rfl, fun U hU hW => ⟨rfl, tk_mk hP hD hS hA hE hR hX [] [0, 7, 8] rfl rfl rfl rfl U hU hW⟩⟩ rfl rfl hl.1 rfl (lv_room (Nat.le_of_ble_eq_true rfl)) dX8_clause_3 ⟨(Nat.le_of_ble_eq_true rfl), (Nat.le_of_ble_eq_true rfl)⟩) hS (fun q _ h => (va_free hD hS hA [] rfl) q h) (va_free hD hS hA [] rfl) (fun zr zu zt H1 zl zht zvm zw zB zz zk zS => ?_)
  obtain ⟨hP, hD⟩ := tk_join hP hD zk [] rfl rfl (va_free hD hS hA [] rfl) (zht ▸ zB.1) zB.2 (Nat.le_of_ble_eq_true rfl)
  have hS := zS
  have zw := Eq.symm zw
  subst zw
  generalize H1 = H at hP hS ⊢
  have hP : va_P D tkCl [(h0, .inr (6, oX8 (tu (tu (tu (tu (tu (tu (tu i0 0 size) 1 sort) 2 v_at) 3 v_to) 4 v_value) 5 told) 9 hasThings) (tuv (tuv (tuv (tuv v0 6 (.ref (r0 10))) 7 (.ref (r0 7))) 8 (.ref (r0 8))) 10 (.ref (r0 10))))), ((r1 0), .inr (1, oX1 (tu (tu i2 6 kind) 7 place) v2)), ((r0 7), .inr (2, oX2 r3 (tu (tu (tu (tu (tu (tu i3 0 columns) 1 rows) 2 best) 3 top) 4 loss) 5 flags))), ((r3 10), .inl (ar 2, 64, .inl stones)), ((r3 8), .inl (ar 0, 64, .inl heaps)), ((r3 9), .inl (ar 0, 3, .inl flagCell)), ((r3 7), .inl (ar 0, 6, .inl numbers))] H := hP
  have hD : va_D A [(h0, .inr (6, oX8 (tu (tu (tu (tu (tu (tu (tu i0 0 size) 1 sort) 2 v_at) 3 v_to) 4 v_value) 5 told) 9 hasThings) (tuv (tuv (tuv (tuv v0 6 (.ref (r0 10))) 7 (.ref (r0 7))) 8 (.ref (r0 8))) 10 (.ref (r0 10))))), ((r1 0), .inr (1, oX1 (tu (tu i2 6 kind) 7 place) v2)), ((r0 7), .inr (2, oX2 r3 (tu (tu (tu (tu (tu (tu i3 0 columns) 1 rows) 2 best) 3 top) 4 loss) 5 flags))), ((r3 10), .inl (ar 2, 64, .inl stones)), ((r3 8), .inl (ar 0, 64, .inl heaps)), ((r3 9), .inl (ar 0, 3, .inl flagCell)), ((r3 7), .inl (ar 0, 6, .inl numbers))] := hD
  refine lv_if_eq (tgt := 85) hx hb dX8_clause_6 (by decide) (fun c2 => ?_) (fun c2 => ?_)
  · have hF := tk_kt hF c2
    refine lv_aload_n hx hb dX8_clause_85 rfl (lv_at hl 0 rfl) ?_
    refine va_ldcS hx hb hown (hE.2.2.2.1 39 _ rfl).1 dX8_clause_86 ?_
    obtain ⟨u3, hGu3, hF⟩ := tk_kb hF
    refine va_calli (va_runU (As := [.ref (ad 0 39)]) (rest := []) ⟨hx, hb, hml, hown, hts⟩ (mX7_is_X8 (l := l) (D := D) (ar := ar) (ad := ad) (xs := xs) (sz := H.size) (h0 := h0) (r0 := r0) (i0 := (tu (tu (tu (tu (tu (tu (tu i0 0 size) 1 sort) 2 v_at) 3 v_to) 4 v_value) 5 told) 9 hasThings)) (v0 := (tuv (tuv (tuv (tuv v0 6 (.ref (r0 10))) 7 (.ref (r0 7))) 8 (.ref (r0 8))) 10 (.ref (r0 10)))) (r1 := r1) (i1 := i1) (size := size) (sort := sort) (v_at := v_at) (v_to := v_to) (tape := tape) (p0 := 39) (hk_p0 := (by decide)) (hF := hGu3)) (tk_cwP (C := "TideKeep$BeachReader") (owner := "TideKeep$Reader") (x := ⟨"TideKeep$BeachReader", "is", "(Ljava/lang/String;)Z"⟩) 1 hts (lw_meth q655) rfl rfl rfl (by decide +kernel) ⟨(Nat.le_of_ble_eq_true rfl), (Nat.le_of_ble_eq_true rfl)⟩ (hts _ q650) (hts _ q651) (va_Decl.of (x := ⟨"TideKeep$Reader", "is", "(Ljava/lang/String;)Z"⟩) (hts _ q654) (hts _ q655)) (hts _ q653) (hts _ q654) (hts _ q102)) ⟨tk_blind, va_recv hK hP (ci := 6) (q0 := 0) rfl rfl, fun U hU hW => ⟨rfl, tk_mk hP hD hS hA hE hR hX [] [0, 7, 8] rfl rfl rfl rfl U hU hW⟩⟩ rfl rfl hl.1 rfl (lv_room (Nat.le_of_ble_eq_true rfl)) dX8_clause_88 ⟨(Nat.le_of_ble_eq_true rfl), (Nat.le_of_ble_eq_true rfl)⟩) hS (fun q _ h => (va_free hD hS hA [] rfl) q h) (va_free hD hS hA [] rfl) (fun zr zu zt H1 zl zht zvm zw zB zz zk zS => ?_)
    obtain ⟨hP, hD⟩ := tk_join hP hD zk [] rfl rfl (va_free hD hS hA [] rfl) (zht ▸ zB.1) zB.2 (Nat.le_of_ble_eq_true rfl)
    have hS := zS
    have zw := Eq.symm zw
    subst zw
    generalize H1 = H at hP hS ⊢
    have hP : va_P D tkCl [(h0, .inr (6, oX8 (tu (tu (tu (tu (tu (tu (tu i0 0 size) 1 sort) 2 v_at) 3 v_to) 4 v_value) 5 told) 9 hasThings) (tuv (tuv (tuv (tuv v0 6 (.ref (r0 10))) 7 (.ref (r0 7))) 8 (.ref (r0 8))) 10 (.ref (r0 10))))), ((r1 0), .inr (1, oX1 (tu (tu i2 6 kind) 7 place) v2)), ((r0 7), .inr (2, oX2 r3 (tu (tu (tu (tu (tu (tu i3 0 columns) 1 rows) 2 best) 3 top) 4 loss) 5 flags))), ((r3 10), .inl (ar 2, 64, .inl stones)), ((r3 8), .inl (ar 0, 64, .inl heaps)), ((r3 9), .inl (ar 0, 3, .inl flagCell)), ((r3 7), .inl (ar 0, 6, .inl numbers))] H := hP
    have hD : va_D A [(h0, .inr (6, oX8 (tu (tu (tu (tu (tu (tu (tu i0 0 size) 1 sort) 2 v_at) 3 v_to) 4 v_value) 5 told) 9 hasThings) (tuv (tuv (tuv (tuv v0 6 (.ref (r0 10))) 7 (.ref (r0 7))) 8 (.ref (r0 8))) 10 (.ref (r0 10))))), ((r1 0), .inr (1, oX1 (tu (tu i2 6 kind) 7 place) v2)), ((r0 7), .inr (2, oX2 r3 (tu (tu (tu (tu (tu (tu i3 0 columns) 1 rows) 2 best) 3 top) 4 loss) 5 flags))), ((r3 10), .inl (ar 2, 64, .inl stones)), ((r3 8), .inl (ar 0, 64, .inl heaps)), ((r3 9), .inl (ar 0, 3, .inl flagCell)), ((r3 7), .inl (ar 0, 6, .inl numbers))] := hD
    refine lv_if_ne (tgt := 112) hx hb dX8_clause_91 (by decide) (fun c4 => ?_) (fun c4 => ?_)
    · have hF := tk_kf hF c4
      exact ih112 sort v_at v_to v_value told hasThings kind place columns rows best top loss flags stones heaps flagCell numbers _ _ _ hF hP hD hS (lv_sub hl [0] rfl)
    · have hF := tk_kt hF c4
      refine lv_aload_n hx hb dX8_clause_94 rfl (lv_at hl 0 rfl) ?_
      refine va_ldcS hx hb hown (hE.2.2.2.1 40 _ rfl).1 dX8_clause_95 ?_
      obtain ⟨u5, hGu5, hF⟩ := tk_kb hF
      refine va_calli (va_runU (As := [.ref (ad 0 40)]) (rest := []) ⟨hx, hb, hml, hown, hts⟩ (mX7_is_X8 (l := l) (D := D) (ar := ar) (ad := ad) (xs := xs) (sz := H.size) (h0 := h0) (r0 := r0) (i0 := (tu (tu (tu (tu (tu (tu (tu i0 0 size) 1 sort) 2 v_at) 3 v_to) 4 v_value) 5 told) 9 hasThings)) (v0 := (tuv (tuv (tuv (tuv v0 6 (.ref (r0 10))) 7 (.ref (r0 7))) 8 (.ref (r0 8))) 10 (.ref (r0 10)))) (r1 := r1) (i1 := i1) (size := size) (sort := sort) (v_at := v_at) (v_to := v_to) (tape := tape) (p0 := 40) (hk_p0 := (by decide)) (hF := hGu5)) (tk_cwP (C := "TideKeep$BeachReader") (owner := "TideKeep$Reader") (x := ⟨"TideKeep$BeachReader", "is", "(Ljava/lang/String;)Z"⟩) 1 hts (lw_meth q655) rfl rfl rfl (by decide +kernel) ⟨(Nat.le_of_ble_eq_true rfl), (Nat.le_of_ble_eq_true rfl)⟩ (hts _ q650) (hts _ q651) (va_Decl.of (x := ⟨"TideKeep$Reader", "is", "(Ljava/lang/String;)Z"⟩) (hts _ q654) (hts _ q655)) (hts _ q653) (hts _ q654) (hts _ q102)) ⟨tk_blind, va_recv hK hP (ci := 6) (q0 := 0) rfl rfl, fun U hU hW => ⟨rfl, tk_mk hP hD hS hA hE hR hX [] [0, 7, 8] rfl rfl rfl rfl U hU hW⟩⟩ rfl rfl hl.1 rfl (lv_room (Nat.le_of_ble_eq_true rfl)) dX8_clause_97 ⟨(Nat.le_of_ble_eq_true rfl), (Nat.le_of_ble_eq_true rfl)⟩) hS (fun q _ h => (va_free hD hS hA [] rfl) q h) (va_free hD hS hA [] rfl) (fun zr zu zt H1 zl zht zvm zw zB zz zk zS => ?_)
      obtain ⟨hP, hD⟩ := tk_join hP hD zk [] rfl rfl (va_free hD hS hA [] rfl) (zht ▸ zB.1) zB.2 (Nat.le_of_ble_eq_true rfl)
      have hS := zS
      have zw := Eq.symm zw
      subst zw
      generalize H1 = H at hP hS ⊢
      have hP : va_P D tkCl [(h0, .inr (6, oX8 (tu (tu (tu (tu (tu (tu (tu i0 0 size) 1 sort) 2 v_at) 3 v_to) 4 v_value) 5 told) 9 hasThings) (tuv (tuv (tuv (tuv v0 6 (.ref (r0 10))) 7 (.ref (r0 7))) 8 (.ref (r0 8))) 10 (.ref (r0 10))))), ((r1 0), .inr (1, oX1 (tu (tu i2 6 kind) 7 place) v2)), ((r0 7), .inr (2, oX2 r3 (tu (tu (tu (tu (tu (tu i3 0 columns) 1 rows) 2 best) 3 top) 4 loss) 5 flags))), ((r3 10), .inl (ar 2, 64, .inl stones)), ((r3 8), .inl (ar 0, 64, .inl heaps)), ((r3 9), .inl (ar 0, 3, .inl flagCell)), ((r3 7), .inl (ar 0, 6, .inl numbers))] H := hP
      have hD : va_D A [(h0, .inr (6, oX8 (tu (tu (tu (tu (tu (tu (tu i0 0 size) 1 sort) 2 v_at) 3 v_to) 4 v_value) 5 told) 9 hasThings) (tuv (tuv (tuv (tuv v0 6 (.ref (r0 10))) 7 (.ref (r0 7))) 8 (.ref (r0 8))) 10 (.ref (r0 10))))), ((r1 0), .inr (1, oX1 (tu (tu i2 6 kind) 7 place) v2)), ((r0 7), .inr (2, oX2 r3 (tu (tu (tu (tu (tu (tu i3 0 columns) 1 rows) 2 best) 3 top) 4 loss) 5 flags))), ((r3 10), .inl (ar 2, 64, .inl stones)), ((r3 8), .inl (ar 0, 64, .inl heaps)), ((r3 9), .inl (ar 0, 3, .inl flagCell)), ((r3 7), .inl (ar 0, 6, .inl numbers))] := hD
      refine lv_if_ne (tgt := 112) hx hb dX8_clause_100 (by decide) (fun c6 => ?_) (fun c6 => ?_)
      · have hF := tk_kf hF c6
        exact ih112 sort v_at v_to v_value told hasThings kind place columns rows best top loss flags stones heaps flagCell numbers _ _ _ hF hP hD hS (lv_sub hl [0] rfl)
      · have hF := tk_kt hF c6
        refine lv_aload_n hx hb dX8_clause_103 rfl (lv_at hl 0 rfl) ?_
        refine va_ldcS hx hb hown (hE.2.2.2.1 41 _ rfl).1 dX8_clause_104 ?_
        obtain ⟨u7, hGu7, hF⟩ := tk_kb hF
        refine va_calli (va_runU (As := [.ref (ad 0 41)]) (rest := []) ⟨hx, hb, hml, hown, hts⟩ (mX7_is_X8 (l := l) (D := D) (ar := ar) (ad := ad) (xs := xs) (sz := H.size) (h0 := h0) (r0 := r0) (i0 := (tu (tu (tu (tu (tu (tu (tu i0 0 size) 1 sort) 2 v_at) 3 v_to) 4 v_value) 5 told) 9 hasThings)) (v0 := (tuv (tuv (tuv (tuv v0 6 (.ref (r0 10))) 7 (.ref (r0 7))) 8 (.ref (r0 8))) 10 (.ref (r0 10)))) (r1 := r1) (i1 := i1) (size := size) (sort := sort) (v_at := v_at) (v_to := v_to) (tape := tape) (p0 := 41) (hk_p0 := (by decide)) (hF := hGu7)) (tk_cwP (C := "TideKeep$BeachReader") (owner := "TideKeep$Reader") (x := ⟨"TideKeep$BeachReader", "is", "(Ljava/lang/String;)Z"⟩) 1 hts (lw_meth q655) rfl rfl rfl (by decide +kernel) ⟨(Nat.le_of_ble_eq_true rfl), (Nat.le_of_ble_eq_true rfl)⟩ (hts _ q650) (hts _ q651) (va_Decl.of (x := ⟨"TideKeep$Reader", "is", "(Ljava/lang/String;)Z"⟩) (hts _ q654) (hts _ q655)) (hts _ q653) (hts _ q654) (hts _ q102)) ⟨tk_blind, va_recv hK hP (ci := 6) (q0 := 0) rfl rfl, fun U hU hW => ⟨rfl, tk_mk hP hD hS hA hE hR hX [] [0, 7, 8] rfl rfl rfl rfl U hU hW⟩⟩ rfl rfl hl.1 rfl (lv_room (Nat.le_of_ble_eq_true rfl)) dX8_clause_106 ⟨(Nat.le_of_ble_eq_true rfl), (Nat.le_of_ble_eq_true rfl)⟩) hS (fun q _ h => (va_free hD hS hA [] rfl) q h) (va_free hD hS hA [] rfl) (fun zr zu zt H1 zl zht zvm zw zB zz zk zS => ?_)
        obtain ⟨hP, hD⟩ := tk_join hP hD zk [] rfl rfl (va_free hD hS hA [] rfl) (zht ▸ zB.1) zB.2 (Nat.le_of_ble_eq_true rfl)
        have hS := zS
        have zw := Eq.symm zw
        subst zw
        generalize H1 = H at hP hS ⊢
        have hP : va_P D tkCl [(h0, .inr (6, oX8 (tu (tu (tu (tu (tu (tu (tu i0 0 size) 1 sort) 2 v_at) 3 v_to) 4 v_value) 5 told) 9 hasThings) (tuv (tuv (tuv (tuv v0 6 (.ref (r0 10))) 7 (.ref (r0 7))) 8 (.ref (r0 8))) 10 (.ref (r0 10))))), ((r1 0), .inr (1, oX1 (tu (tu i2 6 kind) 7 place) v2)), ((r0 7), .inr (2, oX2 r3 (tu (tu (tu (tu (tu (tu i3 0 columns) 1 rows) 2 best) 3 top) 4 loss) 5 flags))), ((r3 10), .inl (ar 2, 64, .inl stones)), ((r3 8), .inl (ar 0, 64, .inl heaps)), ((r3 9), .inl (ar 0, 3, .inl flagCell)), ((r3 7), .inl (ar 0, 6, .inl numbers))] H := hP
        have hD : va_D A [(h0, .inr (6, oX8 (tu (tu (tu (tu (tu (tu (tu i0 0 size) 1 sort) 2 v_at) 3 v_to) 4 v_value) 5 told) 9 hasThings) (tuv (tuv (tuv (tuv v0 6 (.ref (r0 10))) 7 (.ref (r0 7))) 8 (.ref (r0 8))) 10 (.ref (r0 10))))), ((r1 0), .inr (1, oX1 (tu (tu i2 6 kind) 7 place) v2)), ((r0 7), .inr (2, oX2 r3 (tu (tu (tu (tu (tu (tu i3 0 columns) 1 rows) 2 best) 3 top) 4 loss) 5 flags))), ((r3 10), .inl (ar 2, 64, .inl stones)), ((r3 8), .inl (ar 0, 64, .inl heaps)), ((r3 9), .inl (ar 0, 3, .inl flagCell)), ((r3 7), .inl (ar 0, 6, .inl numbers))] := hD
        refine lv_if_eq (tgt := 119) hx hb dX8_clause_109 (by decide) (fun c8 => ?_) (fun c8 => ?_)
        · have hF := tk_kt hF c8
          refine lv_aload_n hx hb dX8_clause_119 rfl (lv_at hl 0 rfl) ?_
          refine va_ldcS hx hb hown (hE.2.2.2.1 42 _ rfl).1 dX8_clause_120 ?_
          refine lv_bipush (v := 21) hx hb dX8_clause_122 (by decide) ?_
          obtain ⟨u9, hGu9, hF⟩ := tk_kb hF
          refine tx_calli (tx_runU (As := [.ref (ad 0 42), .int 21]) (rest := []) ⟨hx, hb, hml, hown, hts⟩ (mX7_begins_X8 (l := l) (D := D) (ar := ar) (ad := ad) (xs := xs) (sz := H.size) (h0 := h0) (r0 := r0) (i0 := (tu (tu (tu (tu (tu (tu (tu i0 0 size) 1 sort) 2 v_at) 3 v_to) 4 v_value) 5 told) 9 hasThings)) (v0 := (tuv (tuv (tuv (tuv v0 6 (.ref (r0 10))) 7 (.ref (r0 7))) 8 (.ref (r0 8))) 10 (.ref (r0 10)))) (r1 := r1) (i1 := i1) (i2 := (tu (tu i2 6 kind) 7 place)) (v2 := v2) (size := size) (tape := tape) (sort := sort) (v_at := v_at) (v_to := v_to) (v_value := v_value) (told := told) (kind := kind) (place := place) (p0 := 42) (hk_p0 := (by decide)) (p1 := 21) (hF := hGu9)) (tk_cwP (C := "TideKeep$BeachReader") (owner := "TideKeep$Reader") (x := ⟨"TideKeep$BeachReader", "begins", "(Ljava/lang/String;I)Z"⟩) 2 hts (lw_meth q723) rfl rfl rfl (by decide +kernel) ⟨(Nat.le_of_ble_eq_true rfl), (Nat.le_of_ble_eq_true rfl)⟩ (hts _ q718) (hts _ q719) (va_Decl.of (x := ⟨"TideKeep$Reader", "begins", "(Ljava/lang/String;I)Z"⟩) (hts _ q722) (hts _ q723)) (hts _ q721) (hts _ q722) (hts _ q102)) ⟨tk_blind, va_recv hK hP (ci := 6) (q0 := 0) rfl rfl, fun U hU hW => ⟨rfl, tk_mk hP hD hS hA hE hR hX [0, 1] [7, 8] rfl rfl rfl rfl U hU hW⟩⟩ rfl rfl hl.1 rfl (lv_room (Nat.le_of_ble_eq_true rfl)) dX8_clause_124 ⟨(Nat.le_of_ble_eq_true rfl), (Nat.le_of_ble_eq_true rfl)⟩) hS (fun q _ h => (va_free hD hS hA [0, 1] rfl) q h) (va_free hD hS hA [0, 1] rfl) (fun q _ h => (va_free hD hS hA [0, 1] rfl) q h) (fun E9 ce q9 xu9 zt H1 zl zht zvm zw zB zz zk zS hce hcv hcl => ?_) (fun zr ru9 zt H1 zl zht zvm zw zB zz zk zS => ?_)
          · obtain ⟨zq, zE, zB⟩ := zB
            subst zq
            subst zE
            subst zw
            have hF := tk_ksx hF
            obtain ⟨hP, hD⟩ := tk_join hP hD zk [0, 1] rfl rfl (va_free hD hS hA [0, 1] rfl) (zht ▸ zB.1) zB.2 (Nat.le_of_ble_eq_true rfl)
            have hS := zS
            generalize H1 = H at hP hS hce ⊢
            have hP : va_P D tkCl [(h0, .inr (6, oX8 (tu (tu (tu (tu (tu (tu (tu i0 0 size) 1 xu9.1) 2 xu9.2.1) 3 xu9.2.2.1) 4 xu9.2.2.2.1) 5 xu9.2.2.2.2.1) 9 hasThings) (tuv (tuv (tuv (tuv v0 6 (.ref (r0 10))) 7 (.ref (r0 7))) 8 (.ref (r0 8))) 10 (.ref (r0 10))))), ((r1 0), .inr (1, oX1 (tu (tu i2 6 xu9.2.2.2.2.2.1) 7 xu9.2.2.2.2.2.2) v2)), ((r0 7), .inr (2, oX2 r3 (tu (tu (tu (tu (tu (tu i3 0 columns) 1 rows) 2 best) 3 top) 4 loss) 5 flags))), ((r3 10), .inl (ar 2, 64, .inl stones)), ((r3 8), .inl (ar 0, 64, .inl heaps)), ((r3 9), .inl (ar 0, 3, .inl flagCell)), ((r3 7), .inl (ar 0, 6, .inl numbers))] H := hP
            have hD : va_D A [(h0, .inr (6, oX8 (tu (tu (tu (tu (tu (tu (tu i0 0 size) 1 xu9.1) 2 xu9.2.1) 3 xu9.2.2.1) 4 xu9.2.2.2.1) 5 xu9.2.2.2.2.1) 9 hasThings) (tuv (tuv (tuv (tuv v0 6 (.ref (r0 10))) 7 (.ref (r0 7))) 8 (.ref (r0 8))) 10 (.ref (r0 10))))), ((r1 0), .inr (1, oX1 (tu (tu i2 6 xu9.2.2.2.2.2.1) 7 xu9.2.2.2.2.2.2) v2)), ((r0 7), .inr (2, oX2 r3 (tu (tu (tu (tu (tu (tu i3 0 columns) 1 rows) 2 best) 3 top) 4 loss) 5 flags))), ((r3 10), .inl (ar 2, 64, .inl stones)), ((r3 8), .inl (ar 0, 64, .inl heaps)), ((r3 9), .inl (ar 0, 3, .inl flagCell)), ((r3 7), .inl (ar 0, 6, .inl numbers))] := hD
            have eo := tk_kr hF
            subst eo
            exact tx_out (fun x9 hx9 => (htab x9 hx9).elim) hlocks hce hcv hcl (fun t ht hW => ⟨_, rfl, ⟨rfl, rfl, tk_pst ht hP hD⟩, hS.F ht⟩) hS.2.2 (Nat.le_of_ble_eq_true rfl) (Nat.le_of_ble_eq_true rfl)
          obtain ⟨zw, zw2⟩ := zw
          subst zw
          subst zw2
          have hF := tk_kss hF
          obtain ⟨hP, hD⟩ := tk_join hP hD zk [0, 1] rfl rfl (va_free hD hS hA [0, 1] rfl) (zht ▸ zB.1) zB.2 (Nat.le_of_ble_eq_true rfl)
          have hS := zS
          generalize H1 = H at hP hS ⊢
          have hP : va_P D tkCl [(h0, .inr (6, oX8 (tu (tu (tu (tu (tu (tu (tu i0 0 size) 1 ru9.2.1) 2 ru9.2.2.1) 3 ru9.2.2.2.1) 4 ru9.2.2.2.2.1) 5 ru9.2.2.2.2.2.1) 9 hasThings) (tuv (tuv (tuv (tuv v0 6 (.ref (r0 10))) 7 (.ref (r0 7))) 8 (.ref (r0 8))) 10 (.ref (r0 10))))), ((r1 0), .inr (1, oX1 (tu (tu i2 6 ru9.2.2.2.2.2.2.1) 7 ru9.2.2.2.2.2.2.2) v2)), ((r0 7), .inr (2, oX2 r3 (tu (tu (tu (tu (tu (tu i3 0 columns) 1 rows) 2 best) 3 top) 4 loss) 5 flags))), ((r3 10), .inl (ar 2, 64, .inl stones)), ((r3 8), .inl (ar 0, 64, .inl heaps)), ((r3 9), .inl (ar 0, 3, .inl flagCell)), ((r3 7), .inl (ar 0, 6, .inl numbers))] H := hP
          have hD : va_D A [(h0, .inr (6, oX8 (tu (tu (tu (tu (tu (tu (tu i0 0 size) 1 ru9.2.1) 2 ru9.2.2.1) 3 ru9.2.2.2.1) 4 ru9.2.2.2.2.1) 5 ru9.2.2.2.2.2.1) 9 hasThings) (tuv (tuv (tuv (tuv v0 6 (.ref (r0 10))) 7 (.ref (r0 7))) 8 (.ref (r0 8))) 10 (.ref (r0 10))))), ((r1 0), .inr (1, oX1 (tu (tu i2 6 ru9.2.2.2.2.2.2.1) 7 ru9.2.2.2.2.2.2.2) v2)), ((r0 7), .inr (2, oX2 r3 (tu (tu (tu (tu (tu (tu i3 0 columns) 1 rows) 2 best) 3 top) 4 loss) 5 flags))), ((r3 10), .inl (ar 2, 64, .inl stones)), ((r3 8), .inl (ar 0, 64, .inl heaps)), ((r3 9), .inl (ar 0, 3, .inl flagCell)), ((r3 7), .inl (ar 0, 6, .inl numbers))] := hD
          refine lv_if_eq (tgt := 175) hx hb dX8_clause_127 (by decide) (fun c10 => ?_) (fun c10 => ?_)
          · have hF := tk_kt hF c10
            refine lv_iconst (v := (-1)) hx hb dX8_clause_175 (by decide) ?_
            refine lv_istore_n (lv' := [(1, .int (-1)), (0, .ref h0)]) hx hb dX8_clause_176 rfl hl (Nat.le_of_ble_eq_true rfl) rfl (fun ls hl => ?_)
            refine lv_iconst (v := 0) hx hb dX8_clause_177 (by decide) ?_
            refine lv_istore_n (lv' := [(2, .int 0), (1, .int (-1)), (0, .ref h0)]) hx hb dX8_clause_178 rfl hl (Nat.le_of_ble_eq_true rfl) rfl (fun ls hl => ?_)
            exact ih179 (-1) 0 ru9.2.1 ru9.2.2.1 ru9.2.2.2.1 ru9.2.2.2.2.1 ru9.2.2.2.2.2.1 hasThings ru9.2.2.2.2.2.2.1 ru9.2.2.2.2.2.2.2 columns rows best top loss flags stones heaps flagCell numbers _ _ _ hF hP hD hS (lv_sub hl [2, 1, 0] rfl)
          · have hF := tk_kf hF c10
            refine lv_aload_n hx hb dX8_clause_130 rfl (lv_at hl 0 rfl) ?_
            refine va_get (D := D) (ci := 6) (v := .ref (r0 7)) (C := RX8) (T := TX8) (N := 11) hx hb hts in_X8 hown hK hP 0 rfl rfl 7 (by decide) (hts _ q598) (fun _ h9 => h9) rfl dX8_clause_131 ?_
            refine lv_aload_n hx hb dX8_clause_134 rfl (lv_at hl 0 rfl) ?_
            refine lv_iconst (v := 1) hx hb dX8_clause_135 (by decide) ?_
            refine lv_bipush (v := 15) hx hb dX8_clause_136 (by decide) ?_
            obtain ⟨u11, hGu11, hF⟩ := tk_kb hF
            refine tx_calli (tx_runU (As := [.int 1, .int 15]) (rest := [.ref (r0 7)]) ⟨hx, hb, hml, hown, hts⟩ (mX7_number_X8 (l := l) (D := D) (ar := ar) (ad := ad) (xs := xs) (sz := H.size) (h0 := h0) (r0 := r0) (i0 := (tu (tu (tu (tu (tu (tu (tu i0 0 size) 1 ru9.2.1) 2 ru9.2.2.1) 3 ru9.2.2.2.1) 4 ru9.2.2.2.2.1) 5 ru9.2.2.2.2.2.1) 9 hasThings)) (v0 := (tuv (tuv (tuv (tuv v0 6 (.ref (r0 10))) 7 (.ref (r0 7))) 8 (.ref (r0 8))) 10 (.ref (r0 10)))) (r1 := r1) (i1 := i1) (i2 := (tu (tu i2 6 ru9.2.2.2.2.2.2.1) 7 ru9.2.2.2.2.2.2.2)) (v2 := v2) (size := size) (tape := tape) (sort := ru9.2.1) (v_at := ru9.2.2.1) (v_to := ru9.2.2.2.1) (v_value := ru9.2.2.2.2.1) (kind := ru9.2.2.2.2.2.2.1) (place := ru9.2.2.2.2.2.2.2) (p0 := 1) (p1 := 15) (hF := hGu11)) (tk_cwP (C := "TideKeep$BeachReader") (owner := "TideKeep$Reader") (x := ⟨"TideKeep$BeachReader", "number", "(II)I"⟩) 2 hts (lw_meth q731) rfl rfl rfl (by decide +kernel) ⟨(Nat.le_of_ble_eq_true rfl), (Nat.le_of_ble_eq_true rfl)⟩ (hts _ q726) (hts _ q727) (va_Decl.of (x := ⟨"TideKeep$Reader", "number", "(II)I"⟩) (hts _ q730) (hts _ q731)) (hts _ q729) (hts _ q730) (hts _ q102)) ⟨tk_blind, va_recv hK hP (ci := 6) (q0 := 0) rfl rfl, fun U hU hW => ⟨rfl, tk_mk hP hD hS hA hE hR hX [0, 1] [7, 8] rfl rfl rfl rfl U hU hW⟩⟩ rfl rfl hl.1 rfl (lv_room (Nat.le_of_ble_eq_true rfl)) dX8_clause_138 ⟨(Nat.le_of_ble_eq_true rfl), (Nat.le_of_ble_eq_true rfl)⟩) hS (fun q _ h => (va_free hD hS hA [0, 1] rfl) q h) (va_free hD hS hA [0, 1] rfl) (fun q _ h => (va_free hD hS hA [0, 1] rfl) q h) (fun E9 ce q9 xu11 zt H1 zl zht zvm zw zB zz zk zS hce hcv hcl => ?_) (fun zr ru11 zt H1 zl zht zvm zw zB zz zk zS => ?_)
            · obtain ⟨zq, zE, zB⟩ := zB
              subst zq
              subst zE
              subst zw
              have hF := tk_ksx hF
              obtain ⟨hP, hD⟩ := tk_join hP hD zk [0, 1] rfl rfl (va_free hD hS hA [0, 1] rfl) (zht ▸ zB.1) zB.2 (Nat.le_of_ble_eq_true rfl)
              have hS := zS
              generalize H1 = H at hP hS hce ⊢
              have hP : va_P D tkCl [(h0, .inr (6, oX8 (tu (tu (tu (tu (tu (tu (tu i0 0 size) 1 xu11.1) 2 xu11.2.1) 3 xu11.2.2.1) 4 xu11.2.2.2.1) 5 ru9.2.2.2.2.2.1) 9 hasThings) (tuv (tuv (tuv (tuv v0 6 (.ref (r0 10))) 7 (.ref (r0 7))) 8 (.ref (r0 8))) 10 (.ref (r0 10))))), ((r1 0), .inr (1, oX1 (tu (tu i2 6 xu11.2.2.2.2.1) 7 xu11.2.2.2.2.2) v2)), ((r0 7), .inr (2, oX2 r3 (tu (tu (tu (tu (tu (tu i3 0 columns) 1 rows) 2 best) 3 top) 4 loss) 5 flags))), ((r3 10), .inl (ar 2, 64, .inl stones)), ((r3 8), .inl (ar 0, 64, .inl heaps)), ((r3 9), .inl (ar 0, 3, .inl flagCell)), ((r3 7), .inl (ar 0, 6, .inl numbers))] H := hP
              have hD : va_D A [(h0, .inr (6, oX8 (tu (tu (tu (tu (tu (tu (tu i0 0 size) 1 xu11.1) 2 xu11.2.1) 3 xu11.2.2.1) 4 xu11.2.2.2.1) 5 ru9.2.2.2.2.2.1) 9 hasThings) (tuv (tuv (tuv (tuv v0 6 (.ref (r0 10))) 7 (.ref (r0 7))) 8 (.ref (r0 8))) 10 (.ref (r0 10))))), ((r1 0), .inr (1, oX1 (tu (tu i2 6 xu11.2.2.2.2.1) 7 xu11.2.2.2.2.2) v2)), ((r0 7), .inr (2, oX2 r3 (tu (tu (tu (tu (tu (tu i3 0 columns) 1 rows) 2 best) 3 top) 4 loss) 5 flags))), ((r3 10), .inl (ar 2, 64, .inl stones)), ((r3 8), .inl (ar 0, 64, .inl heaps)), ((r3 9), .inl (ar 0, 3, .inl flagCell)), ((r3 7), .inl (ar 0, 6, .inl numbers))] := hD
              have eo := tk_kr hF
              subst eo
              exact tx_out (fun x9 hx9 => (htab x9 hx9).elim) hlocks hce hcv hcl (fun t ht hW => ⟨_, rfl, ⟨rfl, rfl, tk_pst ht hP hD⟩, hS.F ht⟩) hS.2.2 (Nat.le_of_ble_eq_true rfl) (Nat.le_of_ble_eq_true rfl)
            obtain ⟨zw, zw2⟩ := zw
            subst zw
            subst zw2
            have hF := tk_kss hF
            obtain ⟨hP, hD⟩ := tk_join hP hD zk [0, 1] rfl rfl (va_free hD hS hA [0, 1] rfl) (zht ▸ zB.1) zB.2 (Nat.le_of_ble_eq_true rfl)
            have hS := zS
            generalize H1 = H at hP hS ⊢
            have hP : va_P D tkCl [(h0, .inr (6, oX8 (tu (tu (tu (tu (tu (tu (tu i0 0 size) 1 ru11.2.1) 2 ru11.2.2.1) 3 ru11.2.2.2.1) 4 ru11.2.2.2.2.1) 5 ru9.2.2.2.2.2.1) 9 hasThings) (tuv (tuv (tuv (tuv v0 6 (.ref (r0 10))) 7 (.ref (r0 7))) 8 (.ref (r0 8))) 10 (.ref (r0 10))))), ((r1 0), .inr (1, oX1 (tu (tu i2 6 ru11.2.2.2.2.2.1) 7 ru11.2.2.2.2.2.2) v2)), ((r0 7), .inr (2, oX2 r3 (tu (tu (tu (tu (tu (tu i3 0 columns) 1 rows) 2 best) 3 top) 4 loss) 5 flags))), ((r3 10), .inl (ar 2, 64, .inl stones)), ((r3 8), .inl (ar 0, 64, .inl heaps)), ((r3 9), .inl (ar 0, 3, .inl flagCell)), ((r3 7), .inl (ar 0, 6, .inl numbers))] H := hP
            have hD : va_D A [(h0, .inr (6, oX8 (tu (tu (tu (tu (tu (tu (tu i0 0 size) 1 ru11.2.1) 2 ru11.2.2.1) 3 ru11.2.2.2.1) 4 ru11.2.2.2.2.1) 5 ru9.2.2.2.2.2.1) 9 hasThings) (tuv (tuv (tuv (tuv v0 6 (.ref (r0 10))) 7 (.ref (r0 7))) 8 (.ref (r0 8))) 10 (.ref (r0 10))))), ((r1 0), .inr (1, oX1 (tu (tu i2 6 ru11.2.2.2.2.2.1) 7 ru11.2.2.2.2.2.2) v2)), ((r0 7), .inr (2, oX2 r3 (tu (tu (tu (tu (tu (tu i3 0 columns) 1 rows) 2 best) 3 top) 4 loss) 5 flags))), ((r3 10), .inl (ar 2, 64, .inl stones)), ((r3 8), .inl (ar 0, 64, .inl heaps)), ((r3 9), .inl (ar 0, 3, .inl flagCell)), ((r3 7), .inl (ar 0, 6, .inl numbers))] := hD
            refine va_putN (D := D) (ci := 2) (v := .int ru11.1) (ty := .int) (C := RX2) (T := TX2) (N := 11) hx hb hts in_X2 tyX2 tyX2_ok nmX2 hown hK hP hD hS 2 rfl rfl 2 (by decide) (hE.2.1.use q228 rfl rfl) (fun _ h9 => h9) rfl (by decide +kernel) rfl rfl (Nat.le_of_ble_eq_true rfl) dX8_clause_141 (fun H locs hP hD hS => ?_)
            have hP : va_P D tkCl [(h0, .inr (6, oX8 (tu (tu (tu (tu (tu (tu (tu i0 0 size) 1 ru11.2.1) 2 ru11.2.2.1) 3 ru11.2.2.2.1) 4 ru11.2.2.2.2.1) 5 ru9.2.2.2.2.2.1) 9 hasThings) (tuv (tuv (tuv (tuv v0 6 (.ref (r0 10))) 7 (.ref (r0 7))) 8 (.ref (r0 8))) 10 (.ref (r0 10))))), ((r1 0), .inr (1, oX1 (tu (tu i2 6 ru11.2.2.2.2.2.1) 7 ru11.2.2.2.2.2.2) v2)), ((r0 7), .inr (2, oX2 r3 (tu (tu (tu (tu (tu (tu i3 0 columns) 1 rows) 2 ru11.1) 3 top) 4 loss) 5 flags))), ((r3 10), .inl (ar 2, 64, .inl stones)), ((r3 8), .inl (ar 0, 64, .inl heaps)), ((r3 9), .inl (ar 0, 3, .inl flagCell)), ((r3 7), .inl (ar 0, 6, .inl numbers))] H := hP
            have hD : va_D A [(h0, .inr (6, oX8 (tu (tu (tu (tu (tu (tu (tu i0 0 size) 1 ru11.2.1) 2 ru11.2.2.1) 3 ru11.2.2.2.1) 4 ru11.2.2.2.2.1) 5 ru9.2.2.2.2.2.1) 9 hasThings) (tuv (tuv (tuv (tuv v0 6 (.ref (r0 10))) 7 (.ref (r0 7))) 8 (.ref (r0 8))) 10 (.ref (r0 10))))), ((r1 0), .inr (1, oX1 (tu (tu i2 6 ru11.2.2.2.2.2.1) 7 ru11.2.2.2.2.2.2) v2)), ((r0 7), .inr (2, oX2 r3 (tu (tu (tu (tu (tu (tu i3 0 columns) 1 rows) 2 ru11.1) 3 top) 4 loss) 5 flags))), ((r3 10), .inl (ar 2, 64, .inl stones)), ((r3 8), .inl (ar 0, 64, .inl heaps)), ((r3 9), .inl (ar 0, 3, .inl flagCell)), ((r3 7), .inl (ar 0, 6, .inl numbers))] := hD
            refine lv_aload_n hx hb dX8_clause_144 rfl (lv_at hl 0 rfl) ?_
            refine va_get (D := D) (ci := 6) (v := .ref (r0 7)) (C := RX8) (T := TX8) (N := 11) hx hb hts in_X8 hown hK hP 0 rfl rfl 7 (by decide) (hts _ q598) (fun _ h9 => h9) rfl dX8_clause_145 ?_
            refine lv_aload_n hx hb dX8_clause_148 rfl (lv_at hl 0 rfl) ?_
            refine lv_iconst (v := 0) hx hb dX8_clause_149 (by decide) ?_
            refine lv_bipush (v := 20) hx hb dX8_clause_150 (by decide) ?_
            obtain ⟨u12, hGu12, hF⟩ := tk_kb hF
            refine tx_calli (tx_runU (As := [.int 0, .int 20]) (rest := [.ref (r0 7)]) ⟨hx, hb, hml, hown, hts⟩ (mX7_number_X8 (l := l) (D := D) (ar := ar) (ad := ad) (xs := xs) (sz := H.size) (h0 := h0) (r0 := r0) (i0 := (tu (tu (tu (tu (tu (tu (tu i0 0 size) 1 ru11.2.1) 2 ru11.2.2.1) 3 ru11.2.2.2.1) 4 ru11.2.2.2.2.1) 5 ru9.2.2.2.2.2.1) 9 hasThings)) (v0 := (tuv (tuv (tuv (tuv v0 6 (.ref (r0 10))) 7 (.ref (r0 7))) 8 (.ref (r0 8))) 10 (.ref (r0 10)))) (r1 := r1) (i1 := i1) (i2 := (tu (tu i2 6 ru11.2.2.2.2.2.1) 7 ru11.2.2.2.2.2.2)) (v2 := v2) (size := size) (tape := tape) (sort := ru11.2.1) (v_at := ru11.2.2.1) (v_to := ru11.2.2.2.1) (v_value := ru11.2.2.2.2.1) (kind := ru11.2.2.2.2.2.1) (place := ru11.2.2.2.2.2.2) (p0 := 0) (p1 := 20) (hF := hGu12)) (tk_cwP (C := "TideKeep$BeachReader") (owner := "TideKeep$Reader") (x := ⟨"TideKeep$BeachReader", "number", "(II)I"⟩) 2 hts (lw_meth q731) rfl rfl rfl (by decide +kernel) ⟨(Nat.le_of_ble_eq_true rfl), (Nat.le_of_ble_eq_true rfl)⟩ (hts _ q726) (hts _ q727) (va_Decl.of (x := ⟨"TideKeep$Reader", "number", "(II)I"⟩) (hts _ q730) (hts _ q731)) (hts _ q729) (hts _ q730) (hts _ q102)) ⟨tk_blind, va_recv hK hP (ci := 6) (q0 := 0) rfl rfl, fun U hU hW => ⟨rfl, tk_mk hP hD hS hA hE hR hX [0, 1] [7, 8] rfl rfl rfl rfl U hU hW⟩⟩ rfl rfl hl.1 rfl (lv_room (Nat.le_of_ble_eq_true rfl)) dX8_clause_152 ⟨(Nat.le_of_ble_eq_true rfl), (Nat.le_of_ble_eq_true rfl)⟩) hS (fun q _ h => (va_free hD hS hA [0, 1] rfl) q h) (va_free hD hS hA [0, 1] rfl) (fun q _ h => (va_free hD hS hA [0, 1] rfl) q h) (fun E9 ce q9 xu12 zt H1 zl zht zvm zw zB zz zk zS hce hcv hcl => ?_) (fun zr ru12 zt H1 zl zht zvm zw zB zz zk zS => ?_)
            · obtain ⟨zq, zE, zB⟩ := zB
              subst zq
              subst zE
              subst zw
              have hF := tk_ksx hF
              obtain ⟨hP, hD⟩ := tk_join hP hD zk [0, 1] rfl rfl (va_free hD hS hA [0, 1] rfl) (zht ▸ zB.1) zB.2 (Nat.le_of_ble_eq_true rfl)
              have hS := zS
              generalize H1 = H at hP hS hce ⊢
              have hP : va_P D tkCl [(h0, .inr (6, oX8 (tu (tu (tu (tu (tu (tu (tu i0 0 size) 1 xu12.1) 2 xu12.2.1) 3 xu12.2.2.1) 4 xu12.2.2.2.1) 5 ru9.2.2.2.2.2.1) 9 hasThings) (tuv (tuv (tuv (tuv v0 6 (.ref (r0 10))) 7 (.ref (r0 7))) 8 (.ref (r0 8))) 10 (.ref (r0 10))))), ((r1 0), .inr (1, oX1 (tu (tu i2 6 xu12.2.2.2.2.1) 7 xu12.2.2.2.2.2) v2)), ((r0 7), .inr (2, oX2 r3 (tu (tu (tu (tu (tu (tu i3 0 columns) 1 rows) 2 ru11.1) 3 top) 4 loss) 5 flags))), ((r3 10), .inl (ar 2, 64, .inl stones)), ((r3 8), .inl (ar 0, 64, .inl heaps)), ((r3 9), .inl (ar 0, 3, .inl flagCell)), ((r3 7), .inl (ar 0, 6, .inl numbers))] H := hP
              have hD : va_D A [(h0, .inr (6, oX8 (tu (tu (tu (tu (tu (tu (tu i0 0 size) 1 xu12.1) 2 xu12.2.1) 3 xu12.2.2.1) 4 xu12.2.2.2.1) 5 ru9.2.2.2.2.2.1) 9 hasThings) (tuv (tuv (tuv (tuv v0 6 (.ref (r0 10))) 7 (.ref (r0 7))) 8 (.ref (r0 8))) 10 (.ref (r0 10))))), ((r1 0), .inr (1, oX1 (tu (tu i2 6 xu12.2.2.2.2.1) 7 xu12.2.2.2.2.2) v2)), ((r0 7), .inr (2, oX2 r3 (tu (tu (tu (tu (tu (tu i3 0 columns) 1 rows) 2 ru11.1) 3 top) 4 loss) 5 flags))), ((r3 10), .inl (ar 2, 64, .inl stones)), ((r3 8), .inl (ar 0, 64, .inl heaps)), ((r3 9), .inl (ar 0, 3, .inl flagCell)), ((r3 7), .inl (ar 0, 6, .inl numbers))] := hD
              have eo := tk_kr hF
              subst eo
              exact tx_out (fun x9 hx9 => (htab x9 hx9).elim) hlocks hce hcv hcl (fun t ht hW => ⟨_, rfl, ⟨rfl, rfl, tk_pst ht hP hD⟩, hS.F ht⟩) hS.2.2 (Nat.le_of_ble_eq_true rfl) (Nat.le_of_ble_eq_true rfl)
            obtain ⟨zw, zw2⟩ := zw
            subst zw
            subst zw2
            have hF := tk_kss hF
            obtain ⟨hP, hD⟩ := tk_join hP hD zk [0, 1] rfl rfl (va_free hD hS hA [0, 1] rfl) (zht ▸ zB.1) zB.2 (Nat.le_of_ble_eq_true rfl)
            have hS := zS
            generalize H1 = H at hP hS ⊢
            have hP : va_P D tkCl [(h0, .inr (6, oX8 (tu (tu (tu (tu (tu (tu (tu i0 0 size) 1 ru12.2.1) 2 ru12.2.2.1) 3 ru12.2.2.2.1) 4 ru12.2.2.2.2.1) 5 ru9.2.2.2.2.2.1) 9 hasThings) (tuv (tuv (tuv (tuv v0 6 (.ref (r0 10))) 7 (.ref (r0 7))) 8 (.ref (r0 8))) 10 (.ref (r0 10))))), ((r1 0), .inr (1, oX1 (tu (tu i2 6 ru12.2.2.2.2.2.1) 7 ru12.2.2.2.2.2.2) v2)), ((r0 7), .inr (2, oX2 r3 (tu (tu (tu (tu (tu (tu i3 0 columns) 1 rows) 2 ru11.1) 3 top) 4 loss) 5 flags))), ((r3 10), .inl (ar 2, 64, .inl stones)), ((r3 8), .inl (ar 0, 64, .inl heaps)), ((r3 9), .inl (ar 0, 3, .inl flagCell)), ((r3 7), .inl (ar 0, 6, .inl numbers))] H := hP
            have hD : va_D A [(h0, .inr (6, oX8 (tu (tu (tu (tu (tu (tu (tu i0 0 size) 1 ru12.2.1) 2 ru12.2.2.1) 3 ru12.2.2.2.1) 4 ru12.2.2.2.2.1) 5 ru9.2.2.2.2.2.1) 9 hasThings) (tuv (tuv (tuv (tuv v0 6 (.ref (r0 10))) 7 (.ref (r0 7))) 8 (.ref (r0 8))) 10 (.ref (r0 10))))), ((r1 0), .inr (1, oX1 (tu (tu i2 6 ru12.2.2.2.2.2.1) 7 ru12.2.2.2.2.2.2) v2)), ((r0 7), .inr (2, oX2 r3 (tu (tu (tu (tu (tu (tu i3 0 columns) 1 rows) 2 ru11.1) 3 top) 4 loss) 5 flags))), ((r3 10), .inl (ar 2, 64, .inl stones)), ((r3 8), .inl (ar 0, 64, .inl heaps)), ((r3 9), .inl (ar 0, 3, .inl flagCell)), ((r3 7), .inl (ar 0, 6, .inl numbers))] := hD
            refine va_putN (D := D) (ci := 2) (v := .int ru12.1) (ty := .int) (C := RX2) (T := TX2) (N := 11) hx hb hts in_X2 tyX2 tyX2_ok nmX2 hown hK hP hD hS 2 rfl rfl 3 (by decide) (hE.2.1.use q231 rfl rfl) (fun _ h9 => h9) rfl (by decide +kernel) rfl rfl (Nat.le_of_ble_eq_true rfl) dX8_clause_155 (fun H locs hP hD hS => ?_)
            have hP : va_P D tkCl [(h0, .inr (6, oX8 (tu (tu (tu (tu (tu (tu (tu i0 0 size) 1 ru12.2.1) 2 ru12.2.2.1) 3 ru12.2.2.2.1) 4 ru12.2.2.2.2.1) 5 ru9.2.2.2.2.2.1) 9 hasThings) (tuv (tuv (tuv (tuv v0 6 (.ref (r0 10))) 7 (.ref (r0 7))) 8 (.ref (r0 8))) 10 (.ref (r0 10))))), ((r1 0), .inr (1, oX1 (tu (tu i2 6 ru12.2.2.2.2.2.1) 7 ru12.2.2.2.2.2.2) v2)), ((r0 7), .inr (2, oX2 r3 (tu (tu (tu (tu (tu (tu i3 0 columns) 1 rows) 2 ru11.1) 3 ru12.1) 4 loss) 5 flags))), ((r3 10), .inl (ar 2, 64, .inl stones)), ((r3 8), .inl (ar 0, 64, .inl heaps)), ((r3 9), .inl (ar 0, 3, .inl flagCell)), ((r3 7), .inl (ar 0, 6, .inl numbers))] H := hP
            have hD : va_D A [(h0, .inr (6, oX8 (tu (tu (tu (tu (tu (tu (tu i0 0 size) 1 ru12.2.1) 2 ru12.2.2.1) 3 ru12.2.2.2.1) 4 ru12.2.2.2.2.1) 5 ru9.2.2.2.2.2.1) 9 hasThings) (tuv (tuv (tuv (tuv v0 6 (.ref (r0 10))) 7 (.ref (r0 7))) 8 (.ref (r0 8))) 10 (.ref (r0 10))))), ((r1 0), .inr (1, oX1 (tu (tu i2 6 ru12.2.2.2.2.2.1) 7 ru12.2.2.2.2.2.2) v2)), ((r0 7), .inr (2, oX2 r3 (tu (tu (tu (tu (tu (tu i3 0 columns) 1 rows) 2 ru11.1) 3 ru12.1) 4 loss) 5 flags))), ((r3 10), .inl (ar 2, 64, .inl stones)), ((r3 8), .inl (ar 0, 64, .inl heaps)), ((r3 9), .inl (ar 0, 3, .inl flagCell)), ((r3 7), .inl (ar 0, 6, .inl numbers))] := hD
            refine lv_aload_n hx hb dX8_clause_158 rfl (lv_at hl 0 rfl) ?_
            refine va_get (D := D) (ci := 6) (v := .ref (r0 7)) (C := RX8) (T := TX8) (N := 11) hx hb hts in_X8 hown hK hP 0 rfl rfl 7 (by decide) (hts _ q598) (fun _ h9 => h9) rfl dX8_clause_159 ?_
            refine lv_aload_n hx hb dX8_clause_162 rfl (lv_at hl 0 rfl) ?_
            refine lv_iconst (v := 0) hx hb dX8_clause_163 (by decide) ?_
            refine lv_bipush (v := 9) hx hb dX8_clause_164 (by decide) ?_
            obtain ⟨u13, hGu13, hF⟩ := tk_kb hF
            refine tx_calli (tx_runU (As := [.int 0, .int 9]) (rest := [.ref (r0 7)]) ⟨hx, hb, hml, hown, hts⟩ (mX7_number_X8 (l := l) (D := D) (ar := ar) (ad := ad) (xs := xs) (sz := H.size) (h0 := h0) (r0 := r0) (i0 := (tu (tu (tu (tu (tu (tu (tu i0 0 size) 1 ru12.2.1) 2 ru12.2.2.1) 3 ru12.2.2.2.1) 4 ru12.2.2.2.2.1) 5 ru9.2.2.2.2.2.1) 9 hasThings)) (v0 := (tuv (tuv (tuv (tuv v0 6 (.ref (r0 10))) 7 (.ref (r0 7))) 8 (.ref (r0 8))) 10 (.ref (r0 10)))) (r1 := r1) (i1 := i1) (i2 := (tu (tu i2 6 ru12.2.2.2.2.2.1) 7 ru12.2.2.2.2.2.2)) (v2 := v2) (size := size) (tape := tape) (sort := ru12.2.1) (v_at := ru12.2.2.1) (v_to := ru12.2.2.2.1) (v_value := ru12.2.2.2.2.1) (kind := ru12.2.2.2.2.2.1) (place := ru12.2.2.2.2.2.2) (p0 := 0) (p1 := 9) (hF := hGu13)) (tk_cwP (C := "TideKeep$BeachReader") (owner := "TideKeep$Reader") (x := ⟨"TideKeep$BeachReader", "number", "(II)I"⟩) 2 hts (lw_meth q731) rfl rfl rfl (by decide +kernel) ⟨(Nat.le_of_ble_eq_true rfl), (Nat.le_of_ble_eq_true rfl)⟩ (hts _ q726) (hts _ q727) (va_Decl.of (x := ⟨"TideKeep$Reader", "number", "(II)I"⟩) (hts _ q730) (hts _ q731)) (hts _ q729) (hts _ q730) (hts _ q102)) ⟨tk_blind, va_recv hK hP (ci := 6) (q0 := 0) rfl rfl, fun U hU hW => ⟨rfl, tk_mk hP hD hS hA hE hR hX [0, 1] [7, 8] rfl rfl rfl rfl U hU hW⟩⟩ rfl rfl hl.1 rfl (lv_room (Nat.le_of_ble_eq_true rfl)) dX8_clause_166 ⟨(Nat.le_of_ble_eq_true rfl), (Nat.le_of_ble_eq_true rfl)⟩) hS (fun q _ h => (va_free hD hS hA [0, 1] rfl) q h) (va_free hD hS hA [0, 1] rfl) (fun q _ h => (va_free hD hS hA [0, 1] rfl) q h) (fun E9 ce q9 xu13 zt H1 zl zht zvm zw zB zz zk zS hce hcv hcl => ?_) (fun zr ru13 zt H1 zl zht zvm zw zB zz zk zS => ?_)
            · obtain ⟨zq, zE, zB⟩ := zB
              subst zq
              subst zE
              subst zw
              have hF := tk_ksx hF
              obtain ⟨hP, hD⟩ := tk_join hP hD zk [0, 1] rfl rfl (va_free hD hS hA [0, 1] rfl) (zht ▸ zB.1) zB.2 (Nat.le_of_ble_eq_true rfl)
              have hS := zS
              generalize H1 = H at hP hS hce ⊢
              have hP : va_P D tkCl [(h0, .inr (6, oX8 (tu (tu (tu (tu (tu (tu (tu i0 0 size) 1 xu13.1) 2 xu13.2.1) 3 xu13.2.2.1) 4 xu13.2.2.2.1) 5 ru9.2.2.2.2.2.1) 9 hasThings) (tuv (tuv (tuv (tuv v0 6 (.ref (r0 10))) 7 (.ref (r0 7))) 8 (.ref (r0 8))) 10 (.ref (r0 10))))), ((r1 0), .inr (1, oX1 (tu (tu i2 6 xu13.2.2.2.2.1) 7 xu13.2.2.2.2.2) v2)), ((r0 7), .inr (2, oX2 r3 (tu (tu (tu (tu (tu (tu i3 0 columns) 1 rows) 2 ru11.1) 3 ru12.1) 4 loss) 5 flags))), ((r3 10), .inl (ar 2, 64, .inl stones)), ((r3 8), .inl (ar 0, 64, .inl heaps)), ((r3 9), .inl (ar 0, 3, .inl flagCell)), ((r3 7), .inl (ar 0, 6, .inl numbers))] H := hP
              have hD : va_D A [(h0, .inr (6, oX8 (tu (tu (tu (tu (tu (tu (tu i0 0 size) 1 xu13.1) 2 xu13.2.1) 3 xu13.2.2.1) 4 xu13.2.2.2.1) 5 ru9.2.2.2.2.2.1) 9 hasThings) (tuv (tuv (tuv (tuv v0 6 (.ref (r0 10))) 7 (.ref (r0 7))) 8 (.ref (r0 8))) 10 (.ref (r0 10))))), ((r1 0), .inr (1, oX1 (tu (tu i2 6 xu13.2.2.2.2.1) 7 xu13.2.2.2.2.2) v2)), ((r0 7), .inr (2, oX2 r3 (tu (tu (tu (tu (tu (tu i3 0 columns) 1 rows) 2 ru11.1) 3 ru12.1) 4 loss) 5 flags))), ((r3 10), .inl (ar 2, 64, .inl stones)), ((r3 8), .inl (ar 0, 64, .inl heaps)), ((r3 9), .inl (ar 0, 3, .inl flagCell)), ((r3 7), .inl (ar 0, 6, .inl numbers))] := hD
              have eo := tk_kr hF
              subst eo
              exact tx_out (fun x9 hx9 => (htab x9 hx9).elim) hlocks hce hcv hcl (fun t ht hW => ⟨_, rfl, ⟨rfl, rfl, tk_pst ht hP hD⟩, hS.F ht⟩) hS.2.2 (Nat.le_of_ble_eq_true rfl) (Nat.le_of_ble_eq_true rfl)
            obtain ⟨zw, zw2⟩ := zw
            subst zw
            subst zw2
            have hF := tk_kss hF
            obtain ⟨hP, hD⟩ := tk_join hP hD zk [0, 1] rfl rfl (va_free hD hS hA [0, 1] rfl) (zht ▸ zB.1) zB.2 (Nat.le_of_ble_eq_true rfl)
            have hS := zS
            generalize H1 = H at hP hS ⊢
            have hP : va_P D tkCl [(h0, .inr (6, oX8 (tu (tu (tu (tu (tu (tu (tu i0 0 size) 1 ru13.2.1) 2 ru13.2.2.1) 3 ru13.2.2.2.1) 4 ru13.2.2.2.2.1) 5 ru9.2.2.2.2.2.1) 9 hasThings) (tuv (tuv (tuv (tuv v0 6 (.ref (r0 10))) 7 (.ref (r0 7))) 8 (.ref (r0 8))) 10 (.ref (r0 10))))), ((r1 0), .inr (1, oX1 (tu (tu i2 6 ru13.2.2.2.2.2.1) 7 ru13.2.2.2.2.2.2) v2)), ((r0 7), .inr (2, oX2 r3 (tu (tu (tu (tu (tu (tu i3 0 columns) 1 rows) 2 ru11.1) 3 ru12.1) 4 loss) 5 flags))), ((r3 10), .inl (ar 2, 64, .inl stones)), ((r3 8), .inl (ar 0, 64, .inl heaps)), ((r3 9), .inl (ar 0, 3, .inl flagCell)), ((r3 7), .inl (ar 0, 6, .inl numbers))] H := hP
            have hD : va_D A [(h0, .inr (6, oX8 (tu (tu (tu (tu (tu (tu (tu i0 0 size) 1 ru13.2.1) 2 ru13.2.2.1) 3 ru13.2.2.2.1) 4 ru13.2.2.2.2.1) 5 ru9.2.2.2.2.2.1) 9 hasThings) (tuv (tuv (tuv (tuv v0 6 (.ref (r0 10))) 7 (.ref (r0 7))) 8 (.ref (r0 8))) 10 (.ref (r0 10))))), ((r1 0), .inr (1, oX1 (tu (tu i2 6 ru13.2.2.2.2.2.1) 7 ru13.2.2.2.2.2.2) v2)), ((r0 7), .inr (2, oX2 r3 (tu (tu (tu (tu (tu (tu i3 0 columns) 1 rows) 2 ru11.1) 3 ru12.1) 4 loss) 5 flags))), ((r3 10), .inl (ar 2, 64, .inl stones)), ((r3 8), .inl (ar 0, 64, .inl heaps)), ((r3 9), .inl (ar 0, 3, .inl flagCell)), ((r3 7), .inl (ar 0, 6, .inl numbers))] := hD
            refine va_putN (D := D) (ci := 2) (v := .int ru13.1) (ty := .int) (C := RX2) (T := TX2) (N := 11) hx hb hts in_X2 tyX2 tyX2_ok nmX2 hown hK hP hD hS 2 rfl rfl 4 (by decide) (hE.2.1.use q234 rfl rfl) (fun _ h9 => h9) rfl (by decide +kernel) rfl rfl (Nat.le_of_ble_eq_true rfl) dX8_clause_169 (fun H locs hP hD hS => ?_)
            have hP : va_P D tkCl [(h0, .inr (6, oX8 (tu (tu (tu (tu (tu (tu (tu i0 0 size) 1 ru13.2.1) 2 ru13.2.2.1) 3 ru13.2.2.2.1) 4 ru13.2.2.2.2.1) 5 ru9.2.2.2.2.2.1) 9 hasThings) (tuv (tuv (tuv (tuv v0 6 (.ref (r0 10))) 7 (.ref (r0 7))) 8 (.ref (r0 8))) 10 (.ref (r0 10))))), ((r1 0), .inr (1, oX1 (tu (tu i2 6 ru13.2.2.2.2.2.1) 7 ru13.2.2.2.2.2.2) v2)), ((r0 7), .inr (2, oX2 r3 (tu (tu (tu (tu (tu (tu i3 0 columns) 1 rows) 2 ru11.1) 3 ru12.1) 4 ru13.1) 5 flags))), ((r3 10), .inl (ar 2, 64, .inl stones)), ((r3 8), .inl (ar 0, 64, .inl heaps)), ((r3 9), .inl (ar 0, 3, .inl flagCell)), ((r3 7), .inl (ar 0, 6, .inl numbers))] H := hP
            have hD : va_D A [(h0, .inr (6, oX8 (tu (tu (tu (tu (tu (tu (tu i0 0 size) 1 ru13.2.1) 2 ru13.2.2.1) 3 ru13.2.2.2.1) 4 ru13.2.2.2.2.1) 5 ru9.2.2.2.2.2.1) 9 hasThings) (tuv (tuv (tuv (tuv v0 6 (.ref (r0 10))) 7 (.ref (r0 7))) 8 (.ref (r0 8))) 10 (.ref (r0 10))))), ((r1 0), .inr (1, oX1 (tu (tu i2 6 ru13.2.2.2.2.2.1) 7 ru13.2.2.2.2.2.2) v2)), ((r0 7), .inr (2, oX2 r3 (tu (tu (tu (tu (tu (tu i3 0 columns) 1 rows) 2 ru11.1) 3 ru12.1) 4 ru13.1) 5 flags))), ((r3 10), .inl (ar 2, 64, .inl stones)), ((r3 8), .inl (ar 0, 64, .inl heaps)), ((r3 9), .inl (ar 0, 3, .inl flagCell)), ((r3 7), .inl (ar 0, 6, .inl numbers))] := hD
            refine lv_goto (tgt := 277) hx hb dX8_clause_172 (by decide) ?_
            have eo := tk_kr hF
            subst eo
            refine tx_ret ?_
            exact W.vret hx hb hr (fun t ht hW => ⟨⟨_, rfl, rfl, tk_pst ht hP hD⟩, hS.F ht⟩) hS.2.2 dX8_clause_277
        · have hF := tk_kf hF c8
          exact ih112 sort v_at v_to v_value told hasThings kind place columns rows best top loss flags stones heaps flagCell numbers _ _ _ hF hP hD hS (lv_sub hl [0] rfl)
  · have hF := tk_kf hF c2
    refine lv_aload_n hx hb dX8_clause_9 rfl (lv_at hl 0 rfl) ?_
    refine lv_aload_n hx hb dX8_clause_10 rfl (lv_at hl 0 rfl) ?_
    refine lv_bipush (v := 20) hx hb dX8_clause_11 (by decide) ?_
    obtain ⟨u14, hGu14, hF⟩ := tk_kb hF
    refine va_calli (va_runV (As := [.int 20]) (rest := [.ref h0]) ⟨hx, hb, hml, hown, hts⟩ (mX8_isTold (l := l) (D := D) (ar := ar) (ad := ad) (xs := xs) (sz := H.size) (h0 := h0) (r0 := r0) (i0 := (tu (tu (tu (tu (tu (tu (tu i0 0 size) 1 sort) 2 v_at) 3 v_to) 4 v_value) 5 told) 9 hasThings)) (v0 := (tuv (tuv (tuv (tuv v0 6 (.ref (r0 10))) 7 (.ref (r0 7))) 8 (.ref (r0 8))) 10 (.ref (r0 10)))) (told := told) (p0 := 20) (hF := hGu14)) (cwV 1 hts (lw_V q704 q706 qs4 q103 q707) rfl rfl rfl (by decide +kernel) ⟨(Nat.le_of_ble_eq_true rfl), (Nat.le_of_ble_eq_true rfl)⟩) ⟨tk_blind, va_recv hK hP (ci := 6) (q0 := 0) rfl rfl, fun U hU hW => ⟨rfl, tk_mk hP hD hS hA hE hR hX [] [0] rfl rfl rfl rfl U hU hW⟩⟩ rfl rfl hl.1 rfl (lv_room (Nat.le_of_ble_eq_true rfl)) dX8_clause_13 ⟨(Nat.le_of_ble_eq_true rfl), (Nat.le_of_ble_eq_true rfl)⟩) hS (fun q _ h => (va_free hD hS hA [] rfl) q h) (va_free hD hS hA [] rfl) (fun zr zu zt H1 zl zht zvm zw zB zz zk zS => ?_)
    obtain ⟨hP, hD⟩ := tk_join hP hD zk [] rfl rfl (va_free hD hS hA [] rfl) (zht ▸ zB.1) zB.2 (Nat.le_of_ble_eq_true rfl)
    have hS := zS
    have zw := Eq.symm zw
    subst zw
    generalize H1 = H at hP hS ⊢
    have hP : va_P D tkCl [(h0, .inr (6, oX8 (tu (tu (tu (tu (tu (tu (tu i0 0 size) 1 sort) 2 v_at) 3 v_to) 4 v_value) 5 told) 9 hasThings) (tuv (tuv (tuv (tuv v0 6 (.ref (r0 10))) 7 (.ref (r0 7))) 8 (.ref (r0 8))) 10 (.ref (r0 10))))), ((r1 0), .inr (1, oX1 (tu (tu i2 6 kind) 7 place) v2)), ((r0 7), .inr (2, oX2 r3 (tu (tu (tu (tu (tu (tu i3 0 columns) 1 rows) 2 best) 3 top) 4 loss) 5 flags))), ((r3 10), .inl (ar 2, 64, .inl stones)), ((r3 8), .inl (ar 0, 64, .inl heaps)), ((r3 9), .inl (ar 0, 3, .inl flagCell)), ((r3 7), .inl (ar 0, 6, .inl numbers))] H := hP
    have hD : va_D A [(h0, .inr (6, oX8 (tu (tu (tu (tu (tu (tu (tu i0 0 size) 1 sort) 2 v_at) 3 v_to) 4 v_value) 5 told) 9 hasThings) (tuv (tuv (tuv (tuv v0 6 (.ref (r0 10))) 7 (.ref (r0 7))) 8 (.ref (r0 8))) 10 (.ref (r0 10))))), ((r1 0), .inr (1, oX1 (tu (tu i2 6 kind) 7 place) v2)), ((r0 7), .inr (2, oX2 r3 (tu (tu (tu (tu (tu (tu i3 0 columns) 1 rows) 2 best) 3 top) 4 loss) 5 flags))), ((r3 10), .inl (ar 2, 64, .inl stones)), ((r3 8), .inl (ar 0, 64, .inl heaps)), ((r3 9), .inl (ar 0, 3, .inl flagCell)), ((r3 7), .inl (ar 0, 6, .inl numbers))] := hD
    refine lv_if_ne (tgt := 23) hx hb dX8_clause_16 (by decide) (fun c15 => ?_) (fun c15 => ?_)
    · have hF := tk_kf hF c15
      refine lv_iconst (v := 0) hx hb dX8_clause_23 (by decide) ?_
      exact ih24 0 sort v_at v_to v_value told hasThings kind place columns rows best top loss flags stones heaps flagCell numbers _ _ _ hF hP hD hS (lv_sub hl [0] rfl)
    · have hF := tk_kt hF c15
      refine lv_iconst (v := 1) hx hb dX8_clause_19 (by decide) ?_
      refine lv_goto (tgt := 24) hx hb dX8_clause_20 (by decide) ?_
      exact ih24 1 sort v_at v_to v_value told hasThings kind place columns rows best top loss flags stones heaps flagCell numbers _ _ _ hF hP hD hS (lv_sub hl [0] rfl)
set_option maxHeartbeats 4000000 in
theorem mX7_all_X8 (l : Launch) (D : va_G) (ar : Nat → ClassId) (ad : Nat → Nat → Nat) (xs : va_W) (sz : Nat) (h0 : Nat) (i0 : Nat → Int32) (v0 : Nat → Value) (r0 r1 : Nat → Nat) (i1 i2 : Nat → Int32) (v2 : Nat → Value) (r3 : Nat → Nat) (i3 : Nat → Int32) (size : Int32) (tape : Nat → Int32) (sort v_at v_to v_value told hasThings kind place columns rows best top loss flags : Int32) (stones heaps flagCell numbers : Nat → Int32) (o : (Int32 × Int32 × Int32 × Int32 × Int32 × Int32 × Int32 × Int32 × Int32 × Int32 × Int32 × Int32 × Int32 × Int32 × Int32 × (Nat → Int32) × (Nat → Int32) × (Nat → Int32) × (Nat → Int32)) ⊕ (Int32 × Int32 × Int32 × Int32 × Int32 × Int32 × Int32 × Int32 × Int32 × Int32 × Int32 × Int32 × Int32 × Int32 × (Nat → Int32) × (Nat → Int32) × (Nat → Int32) × (Nat → Int32))) (hF : fX7_all_X8 size tape sort v_at v_to v_value told hasThings kind place columns rows best top loss flags stones heaps flagCell numbers = some o) : tx_Met l yX7_all (ws_ yX7_all cX7_all 2 (some .int)) ({ frames := 7, cells := 0, slots := 0, locals := 155 }) (va_Pc [.ref h0] (tk_Pre D ar ad [(h0, .inr (6, oX8 (tu (tu (tu (tu (tu (tu (tu i0 0 size) 1 sort) 2 v_at) 3 v_to) 4 v_value) 5 told) 9 hasThings) (tuv (tuv (tuv (tuv v0 6 (.ref (r0 10))) 7 (.ref (r0 7))) 8 (.ref (r0 8))) 10 (.ref (r0 10))))), ((r1 0), .inr (1, oX1 (tu (tu i2 6 kind) 7 place) v2)), ((r0 7), .inr (2, oX2 r3 (tu (tu (tu (tu (tu (tu i3 0 columns) 1 rows) 2 best) 3 top) 4 loss) 5 flags))), ((r3 10), .inl (ar 2, 64, .inl stones)), ((r3 8), .inl (ar 0, 64, .inl heaps)), ((r3 9), .inl (ar 0, 3, .inl flagCell)), ((r3 7), .inl (ar 0, 6, .inl numbers))] [((r0 10), .inr (0, oX0 r1 i1)), ((r1 1), .inl (ar 1, 900, .inl tape)), ((r0 8), .inl (ar 5, 6, .inr (.inr (.inr (.inr (tk_kd ad))))))] xs sz)) (va_Qi (fun (zr : Int32) (z : Int32 × Int32 × Int32 × Int32 × Int32 × Int32 × Int32 × Int32 × Int32 × Int32 × Int32 × Int32 × Int32 × Int32 × Int32 × (Nat → Int32) × (Nat → Int32) × (Nat → Int32) × (Nat → Int32)) => o = .inl z ∧ zr = z.1) (fun z t => tk_Post D (va_A [(h0, .inr (6, oX8 (tu (tu (tu (tu (tu (tu (tu i0 0 size) 1 sort) 2 v_at) 3 v_to) 4 v_value) 5 told) 9 hasThings) (tuv (tuv (tuv (tuv v0 6 (.ref (r0 10))) 7 (.ref (r0 7))) 8 (.ref (r0 8))) 10 (.ref (r0 10))))), ((r1 0), .inr (1, oX1 (tu (tu i2 6 kind) 7 place) v2)), ((r0 7), .inr (2, oX2 r3 (tu (tu (tu (tu (tu (tu i3 0 columns) 1 rows) 2 best) 3 top) 4 loss) 5 flags))), ((r3 10), .inl (ar 2, 64, .inl stones)), ((r3 8), .inl (ar 0, 64, .inl heaps)), ((r3 9), .inl (ar 0, 3, .inl flagCell)), ((r3 7), .inl (ar 0, 6, .inl numbers))] sz) [(h0, .inr (6, oX8 (tu (tu (tu (tu (tu (tu (tu i0 0 size) 1 z.2.1) 2 z.2.2.1) 3 z.2.2.2.1) 4 z.2.2.2.2.1) 5 z.2.2.2.2.2.1) 9 z.2.2.2.2.2.2.1) (tuv (tuv (tuv (tuv v0 6 (.ref (r0 10))) 7 (.ref (r0 7))) 8 (.ref (r0 8))) 10 (.ref (r0 10))))), ((r1 0), .inr (1, oX1 (tu (tu i2 6 z.2.2.2.2.2.2.2.1) 7 z.2.2.2.2.2.2.2.2.1) v2)), ((r0 7), .inr (2, oX2 r3 (tu (tu (tu (tu (tu (tu i3 0 z.2.2.2.2.2.2.2.2.2.1) 1 z.2.2.2.2.2.2.2.2.2.2.1) 2 z.2.2.2.2.2.2.2.2.2.2.2.1) 3 z.2.2.2.2.2.2.2.2.2.2.2.2.1) 4 z.2.2.2.2.2.2.2.2.2.2.2.2.2.1) 5 z.2.2.2.2.2.2.2.2.2.2.2.2.2.2.1))), ((r3 10), .inl (ar 2, 64, .inl z.2.2.2.2.2.2.2.2.2.2.2.2.2.2.2.1)), ((r3 8), .inl (ar 0, 64, .inl z.2.2.2.2.2.2.2.2.2.2.2.2.2.2.2.2.1)), ((r3 9), .inl (ar 0, 3, .inl z.2.2.2.2.2.2.2.2.2.2.2.2.2.2.2.2.2.1)), ((r3 7), .inl (ar 0, 6, .inl z.2.2.2.2.2.2.2.2.2.2.2.2.2.2.2.2.2.2))] t) (va_A [(h0, .inr (6, oX8 (tu (tu (tu (tu (tu (tu (tu i0 0 size) 1 sort) 2 v_at) 3 v_to) 4 v_value) 5 told) 9 hasThings) (tuv (tuv (tuv (tuv v0 6 (.ref (r0 10))) 7 (.ref (r0 7))) 8 (.ref (r0 8))) 10 (.ref (r0 10))))), ((r1 0), .inr (1, oX1 (tu (tu i2 6 kind) 7 place) v2)), ((r0 7), .inr (2, oX2 r3 (tu (tu (tu (tu (tu (tu i3 0 columns) 1 rows) 2 best) 3 top) 4 loss) 5 flags))), ((r3 10), .inl (ar 2, 64, .inl stones)), ((r3 8), .inl (ar 0, 64, .inl heaps)), ((r3 9), .inl (ar 0, 3, .inl flagCell)), ((r3 7), .inl (ar 0, 6, .inl numbers))] sz)) (tx_X (fun z : Int32 × Int32 × Int32 × Int32 × Int32 × Int32 × Int32 × Int32 × Int32 × Int32 × Int32 × Int32 × Int32 × Int32 × (Nat → Int32) × (Nat → Int32) × (Nat → Int32) × (Nat → Int32) => o = .inr z) (fun q9 E9 z t => q9 = (r1 0) ∧ E9 = "TideKeep$Wrong" ∧ tk_Post D (va_A [(h0, .inr (6, oX8 (tu (tu (tu (tu (tu (tu (tu i0 0 size) 1 sort) 2 v_at) 3 v_to) 4 v_value) 5 told) 9 hasThings) (tuv (tuv (tuv (tuv v0 6 (.ref (r0 10))) 7 (.ref (r0 7))) 8 (.ref (r0 8))) 10 (.ref (r0 10))))), ((r1 0), .inr (1, oX1 (tu (tu i2 6 kind) 7 place) v2)), ((r0 7), .inr (2, oX2 r3 (tu (tu (tu (tu (tu (tu i3 0 columns) 1 rows) 2 best) 3 top) 4 loss) 5 flags))), ((r3 10), .inl (ar 2, 64, .inl stones)), ((r3 8), .inl (ar 0, 64, .inl heaps)), ((r3 9), .inl (ar 0, 3, .inl flagCell)), ((r3 7), .inl (ar 0, 6, .inl numbers))] sz) [(h0, .inr (6, oX8 (tu (tu (tu (tu (tu (tu (tu i0 0 size) 1 z.1) 2 z.2.1) 3 z.2.2.1) 4 z.2.2.2.1) 5 z.2.2.2.2.1) 9 z.2.2.2.2.2.1) (tuv (tuv (tuv (tuv v0 6 (.ref (r0 10))) 7 (.ref (r0 7))) 8 (.ref (r0 8))) 10 (.ref (r0 10))))), ((r1 0), .inr (1, oX1 (tu (tu i2 6 z.2.2.2.2.2.2.1) 7 z.2.2.2.2.2.2.2.1) v2)), ((r0 7), .inr (2, oX2 r3 (tu (tu (tu (tu (tu (tu i3 0 z.2.2.2.2.2.2.2.2.1) 1 z.2.2.2.2.2.2.2.2.2.1) 2 z.2.2.2.2.2.2.2.2.2.2.1) 3 z.2.2.2.2.2.2.2.2.2.2.2.1) 4 z.2.2.2.2.2.2.2.2.2.2.2.2.1) 5 z.2.2.2.2.2.2.2.2.2.2.2.2.2.1))), ((r3 10), .inl (ar 2, 64, .inl z.2.2.2.2.2.2.2.2.2.2.2.2.2.2.1)), ((r3 8), .inl (ar 0, 64, .inl z.2.2.2.2.2.2.2.2.2.2.2.2.2.2.2.1)), ((r3 9), .inl (ar 0, 3, .inl z.2.2.2.2.2.2.2.2.2.2.2.2.2.2.2.2.1)), ((r3 7), .inl (ar 0, 6, .inl z.2.2.2.2.2.2.2.2.2.2.2.2.2.2.2.2.2))] t) (va_A [(h0, .inr (6, oX8 (tu (tu (tu (tu (tu (tu (tu i0 0 size) 1 sort) 2 v_at) 3 v_to) 4 v_value) 5 told) 9 hasThings) (tuv (tuv (tuv (tuv v0 6 (.ref (r0 10))) 7 (.ref (r0 7))) 8 (.ref (r0 8))) 10 (.ref (r0 10))))), ((r1 0), .inr (1, oX1 (tu (tu i2 6 kind) 7 place) v2)), ((r0 7), .inr (2, oX2 r3 (tu (tu (tu (tu (tu (tu i3 0 columns) 1 rows) 2 best) 3 top) 4 loss) 5 flags))), ((r3 10), .inl (ar 2, 64, .inl stones)), ((r3 8), .inl (ar 0, 64, .inl heaps)), ((r3 9), .inl (ar 0, 3, .inl flagCell)), ((r3 7), .inl (ar 0, 6, .inl numbers))] sz)) 0 0 (va_A [(h0, .inr (6, oX8 (tu (tu (tu (tu (tu (tu (tu i0 0 size) 1 sort) 2 v_at) 3 v_to) 4 v_value) 5 told) 9 hasThings) (tuv (tuv (tuv (tuv v0 6 (.ref (r0 10))) 7 (.ref (r0 7))) 8 (.ref (r0 8))) 10 (.ref (r0 10))))), ((r1 0), .inr (1, oX1 (tu (tu i2 6 kind) 7 place) v2)), ((r0 7), .inr (2, oX2 r3 (tu (tu (tu (tu (tu (tu i3 0 columns) 1 rows) 2 best) 3 top) 4 loss) 5 flags))), ((r3 10), .inl (ar 2, 64, .inl stones)), ((r3 8), .inl (ar 0, 64, .inl heaps)), ((r3 9), .inl (ar 0, 3, .inl flagCell)), ((r3 7), .inl (ar 0, 6, .inl numbers))] sz) := by
  refine tx_ofW (cc := cX7_all) (maxL := 2) (ret := (some .int)) (by decide) rfl ?_
  intro p e s m args below meth c s₁ B hml htab hv
  obtain ⟨rfl, hsz, hP, hD0, hR, hX, hE⟩ := hv
  have hx := B.exec
  have hb := B.bytes
  have hr := B.returns
  have hts := atoms_spec (ws := (ws_ yX7_all cX7_all 2 (some .int))) B.pre
  have hts : ∀ w ∈ lw_all, w.before _ s = true := fun w h => hts w (List.mem_cons_of_mem _ h)
  have hown : s.vm.findClass RX7 = some m.cls := findClass_of_methodNamed B.named
  have hlocks := B.notSynchronized
  subst hsz
  have hD := hD0.self (sz := s.heap.size)
  generalize hAe : va_A [(h0, .inr (6, oX8 (tu (tu (tu (tu (tu (tu (tu i0 0 size) 1 sort) 2 v_at) 3 v_to) 4 v_value) 5 told) 9 hasThings) (tuv (tuv (tuv (tuv v0 6 (.ref (r0 10))) 7 (.ref (r0 7))) 8 (.ref (r0 8))) 10 (.ref (r0 10))))), ((r1 0), .inr (1, oX1 (tu (tu i2 6 kind) 7 place) v2)), ((r0 7), .inr (2, oX2 r3 (tu (tu (tu (tu (tu (tu i3 0 columns) 1 rows) 2 best) 3 top) 4 loss) 5 flags))), ((r3 10), .inl (ar 2, 64, .inl stones)), ((r3 8), .inl (ar 0, 64, .inl heaps)), ((r3 9), .inl (ar 0, 3, .inl flagCell)), ((r3 7), .inl (ar 0, 6, .inl numbers))] s.heap.size = A at hD hR hX hE ⊢
  have hA : ∀ q : Nat, s.heap.size ≤ q → A q := fun q h => by rw [← hAe]; exact Or.inr h
  have hS : va_S A s.heap s.heap [] := va_S.rf
  have hK := hE.1
  have hl := lv_entry ([.ref h0]) (n := 2) (Nat.le_of_ble_eq_true rfl)
  rw [lg_entry_eq]
  generalize (lg_sl ([.ref h0]) ++ List.replicate (2 - (lg_sl ([.ref h0])).length) Slot.unset).toArray = ls at hl ⊢
  have hl : lv_has ls 2 [(0, .ref h0)] := hl
  have hP : va_P D tkCl [(h0, .inr (6, oX8 (tu (tu (tu (tu (tu (tu (tu i0 0 size) 1 sort) 2 v_at) 3 v_to) 4 v_value) 5 told) 9 hasThings) (tuv (tuv (tuv (tuv v0 6 (.ref (r0 10))) 7 (.ref (r0 7))) 8 (.ref (r0 8))) 10 (.ref (r0 10))))), ((r1 0), .inr (1, oX1 (tu (tu i2 6 kind) 7 place) v2)), ((r0 7), .inr (2, oX2 r3 (tu (tu (tu (tu (tu (tu i3 0 columns) 1 rows) 2 best) 3 top) 4 loss) 5 flags))), ((r3 10), .inl (ar 2, 64, .inl stones)), ((r3 8), .inl (ar 0, 64, .inl heaps)), ((r3 9), .inl (ar 0, 3, .inl flagCell)), ((r3 7), .inl (ar 0, 6, .inl numbers))] s.heap := hP
  obtain ⟨n0, hF⟩ : ∃ n, tk_k (stX7_all_X8 size tape) n (bX7_all_X8_0 size tape sort v_at v_to v_value told hasThings kind place columns rows best top loss flags stones heaps flagCell numbers) = some o := tk_fin_it hF
  have key : ∀ n : Nat, (∀ (x1 sort v_at v_to v_value told hasThings kind place columns rows best top loss flags : Int32) (stones heaps flagCell numbers : Nat → Int32) (H : Heap) (locs : List Loc) (ls : Array Slot), tk_it (stX7_all_X8 size tape) n (1, (x1, 0, sort, v_at, v_to, v_value, told, hasThings, kind, place, columns, rows, best, top, loss, flags, stones, heaps, flagCell, numbers)) = some o → va_P D tkCl [(h0, .inr (6, oX8 (tu (tu (tu (tu (tu (tu (tu i0 0 size) 1 sort) 2 v_at) 3 v_to) 4 v_value) 5 told) 9 hasThings) (tuv (tuv (tuv (tuv v0 6 (.ref (r0 10))) 7 (.ref (r0 7))) 8 (.ref (r0 8))) 10 (.ref (r0 10))))), ((r1 0), .inr (1, oX1 (tu (tu i2 6 kind) 7 place) v2)), ((r0 7), .inr (2, oX2 r3 (tu (tu (tu (tu (tu (tu i3 0 columns) 1 rows) 2 best) 3 top) 4 loss) 5 flags))), ((r3 10), .inl (ar 2, 64, .inl stones)), ((r3 8), .inl (ar 0, 64, .inl heaps)), ((r3 9), .inl (ar 0, 3, .inl flagCell)), ((r3 7), .inl (ar 0, 6, .inl numbers))] H → va_D A [(h0, .inr (6, oX8 (tu (tu (tu (tu (tu (tu (tu i0 0 size) 1 sort) 2 v_at) 3 v_to) 4 v_value) 5 told) 9 hasThings) (tuv (tuv (tuv (tuv v0 6 (.ref (r0 10))) 7 (.ref (r0 7))) 8 (.ref (r0 8))) 10 (.ref (r0 10))))), ((r1 0), .inr (1, oX1 (tu (tu i2 6 kind) 7 place) v2)), ((r0 7), .inr (2, oX2 r3 (tu (tu (tu (tu (tu (tu i3 0 columns) 1 rows) 2 best) 3 top) 4 loss) 5 flags))), ((r3 10), .inl (ar 2, 64, .inl stones)), ((r3 8), .inl (ar 0, 64, .inl heaps)), ((r3 9), .inl (ar 0, 3, .inl flagCell)), ((r3 7), .inl (ar 0, 6, .inl numbers))] → va_S A s.heap H locs → lv_has ls 2 [(0, .ref h0), (1, .int x1)] → W p l e (headSpec (ws_ yX7_all cX7_all 2 (some .int)) ({ frames := 7, cells := 0, slots := 0, locals := 155 })).room s m ([.ref h0] : List Value).toArray below meth c H locs 0 0 (tx_MQ below (va_Qi (fun (zr : Int32) (z : Int32 × Int32 × Int32 × Int32 × Int32 × Int32 × Int32 × Int32 × Int32 × Int32 × Int32 × Int32 × Int32 × Int32 × Int32 × (Nat → Int32) × (Nat → Int32) × (Nat → Int32) × (Nat → Int32)) => o = .inl z ∧ zr = z.1) (fun z t => tk_Post D A [(h0, .inr (6, oX8 (tu (tu (tu (tu (tu (tu (tu i0 0 size) 1 z.2.1) 2 z.2.2.1) 3 z.2.2.2.1) 4 z.2.2.2.2.1) 5 z.2.2.2.2.2.1) 9 z.2.2.2.2.2.2.1) (tuv (tuv (tuv (tuv v0 6 (.ref (r0 10))) 7 (.ref (r0 7))) 8 (.ref (r0 8))) 10 (.ref (r0 10))))), ((r1 0), .inr (1, oX1 (tu (tu i2 6 z.2.2.2.2.2.2.2.1) 7 z.2.2.2.2.2.2.2.2.1) v2)), ((r0 7), .inr (2, oX2 r3 (tu (tu (tu (tu (tu (tu i3 0 z.2.2.2.2.2.2.2.2.2.1) 1 z.2.2.2.2.2.2.2.2.2.2.1) 2 z.2.2.2.2.2.2.2.2.2.2.2.1) 3 z.2.2.2.2.2.2.2.2.2.2.2.2.1) 4 z.2.2.2.2.2.2.2.2.2.2.2.2.2.1) 5 z.2.2.2.2.2.2.2.2.2.2.2.2.2.2.1))), ((r3 10), .inl (ar 2, 64, .inl z.2.2.2.2.2.2.2.2.2.2.2.2.2.2.2.1)), ((r3 8), .inl (ar 0, 64, .inl z.2.2.2.2.2.2.2.2.2.2.2.2.2.2.2.2.1)), ((r3 9), .inl (ar 0, 3, .inl z.2.2.2.2.2.2.2.2.2.2.2.2.2.2.2.2.2.1)), ((r3 7), .inl (ar 0, 6, .inl z.2.2.2.2.2.2.2.2.2.2.2.2.2.2.2.2.2.2))] t) A) (tx_X (fun z : Int32 × Int32 × Int32 × Int32 × Int32 × Int32 × Int32 × Int32 × Int32 × Int32 × Int32 × Int32 × Int32 × Int32 × (Nat → Int32) × (Nat → Int32) × (Nat → Int32) × (Nat → Int32) => o = .inr z) (fun q9 E9 z t => q9 = (r1 0) ∧ E9 = "TideKeep$Wrong" ∧ tk_Post D A [(h0, .inr (6, oX8 (tu (tu (tu (tu (tu (tu (tu i0 0 size) 1 z.1) 2 z.2.1) 3 z.2.2.1) 4 z.2.2.2.1) 5 z.2.2.2.2.1) 9 z.2.2.2.2.2.1) (tuv (tuv (tuv (tuv v0 6 (.ref (r0 10))) 7 (.ref (r0 7))) 8 (.ref (r0 8))) 10 (.ref (r0 10))))), ((r1 0), .inr (1, oX1 (tu (tu i2 6 z.2.2.2.2.2.2.1) 7 z.2.2.2.2.2.2.2.1) v2)), ((r0 7), .inr (2, oX2 r3 (tu (tu (tu (tu (tu (tu i3 0 z.2.2.2.2.2.2.2.2.1) 1 z.2.2.2.2.2.2.2.2.2.1) 2 z.2.2.2.2.2.2.2.2.2.2.1) 3 z.2.2.2.2.2.2.2.2.2.2.2.1) 4 z.2.2.2.2.2.2.2.2.2.2.2.2.1) 5 z.2.2.2.2.2.2.2.2.2.2.2.2.2.1))), ((r3 10), .inl (ar 2, 64, .inl z.2.2.2.2.2.2.2.2.2.2.2.2.2.2.1)), ((r3 8), .inl (ar 0, 64, .inl z.2.2.2.2.2.2.2.2.2.2.2.2.2.2.2.1)), ((r3 9), .inl (ar 0, 3, .inl z.2.2.2.2.2.2.2.2.2.2.2.2.2.2.2.2.1)), ((r3 7), .inl (ar 0, 6, .inl z.2.2.2.2.2.2.2.2.2.2.2.2.2.2.2.2.2))] t) A) ([.ref h0] : List Value).toArray s 0 0 A) (F0 m 2 ls [])) ∧ (∀ (x1 s1 sort v_at v_to v_value told hasThings kind place columns rows best top loss flags : Int32) (stones heaps flagCell numbers : Nat → Int32) (H : Heap) (locs : List Loc) (ls : Array Slot), tk_it (stX7_all_X8 size tape) n (2, (x1, s1, sort, v_at, v_to, v_value, told, hasThings, kind, place, columns, rows, best, top, loss, flags, stones, heaps, flagCell, numbers)) = some o → va_P D tkCl [(h0, .inr (6, oX8 (tu (tu (tu (tu (tu (tu (tu i0 0 size) 1 sort) 2 v_at) 3 v_to) 4 v_value) 5 told) 9 hasThings) (tuv (tuv (tuv (tuv v0 6 (.ref (r0 10))) 7 (.ref (r0 7))) 8 (.ref (r0 8))) 10 (.ref (r0 10))))), ((r1 0), .inr (1, oX1 (tu (tu i2 6 kind) 7 place) v2)), ((r0 7), .inr (2, oX2 r3 (tu (tu (tu (tu (tu (tu i3 0 columns) 1 rows) 2 best) 3 top) 4 loss) 5 flags))), ((r3 10), .inl (ar 2, 64, .inl stones)), ((r3 8), .inl (ar 0, 64, .inl heaps)), ((r3 9), .inl (ar 0, 3, .inl flagCell)), ((r3 7), .inl (ar 0, 6, .inl numbers))] H → va_D A [(h0, .inr (6, oX8 (tu (tu (tu (tu (tu (tu (tu i0 0 size) 1 sort) 2 v_at) 3 v_to) 4 v_value) 5 told) 9 hasThings) (tuv (tuv (tuv (tuv v0 6 (.ref (r0 10))) 7 (.ref (r0 7))) 8 (.ref (r0 8))) 10 (.ref (r0 10))))), ((r1 0), .inr (1, oX1 (tu (tu i2 6 kind) 7 place) v2)), ((r0 7), .inr (2, oX2 r3 (tu (tu (tu (tu (tu (tu i3 0 columns) 1 rows) 2 best) 3 top) 4 loss) 5 flags))), ((r3 10), .inl (ar 2, 64, .inl stones)), ((r3 8), .inl (ar 0, 64, .inl heaps)), ((r3 9), .inl (ar 0, 3, .inl flagCell)), ((r3 7), .inl (ar 0, 6, .inl numbers))] → va_S A s.heap H locs → lv_has ls 2 [(0, .ref h0), (1, .int x1)] → W p l e (headSpec (ws_ yX7_all cX7_all 2 (some .int)) ({ frames := 7, cells := 0, slots := 0, locals := 155 })).room s m ([.ref h0] : List Value).toArray below meth c H locs 0 0 (tx_MQ below (va_Qi (fun (zr : Int32) (z : Int32 × Int32 × Int32 × Int32 × Int32 × Int32 × Int32 × Int32 × Int32 × Int32 × Int32 × Int32 × Int32 × Int32 × Int32 × (Nat → Int32) × (Nat → Int32) × (Nat → Int32) × (Nat → Int32)) => o = .inl z ∧ zr = z.1) (fun z t => tk_Post D A [(h0, .inr (6, oX8 (tu (tu (tu (tu (tu (tu (tu i0 0 size) 1 z.2.1) 2 z.2.2.1) 3 z.2.2.2.1) 4 z.2.2.2.2.1) 5 z.2.2.2.2.2.1) 9 z.2.2.2.2.2.2.1) (tuv (tuv (tuv (tuv v0 6 (.ref (r0 10))) 7 (.ref (r0 7))) 8 (.ref (r0 8))) 10 (.ref (r0 10))))), ((r1 0), .inr (1, oX1 (tu (tu i2 6 z.2.2.2.2.2.2.2.1) 7 z.2.2.2.2.2.2.2.2.1) v2)), ((r0 7), .inr (2, oX2 r3 (tu (tu (tu (tu (tu (tu i3 0 z.2.2.2.2.2.2.2.2.2.1) 1 z.2.2.2.2.2.2.2.2.2.2.1) 2 z.2.2.2.2.2.2.2.2.2.2.2.1) 3 z.2.2.2.2.2.2.2.2.2.2.2.2.1) 4 z.2.2.2.2.2.2.2.2.2.2.2.2.2.1) 5 z.2.2.2.2.2.2.2.2.2.2.2.2.2.2.1))), ((r3 10), .inl (ar 2, 64, .inl z.2.2.2.2.2.2.2.2.2.2.2.2.2.2.2.1)), ((r3 8), .inl (ar 0, 64, .inl z.2.2.2.2.2.2.2.2.2.2.2.2.2.2.2.2.1)), ((r3 9), .inl (ar 0, 3, .inl z.2.2.2.2.2.2.2.2.2.2.2.2.2.2.2.2.2.1)), ((r3 7), .inl (ar 0, 6, .inl z.2.2.2.2.2.2.2.2.2.2.2.2.2.2.2.2.2.2))] t) A) (tx_X (fun z : Int32 × Int32 × Int32 × Int32 × Int32 × Int32 × Int32 × Int32 × Int32 × Int32 × Int32 × Int32 × Int32 × Int32 × (Nat → Int32) × (Nat → Int32) × (Nat → Int32) × (Nat → Int32) => o = .inr z) (fun q9 E9 z t => q9 = (r1 0) ∧ E9 = "TideKeep$Wrong" ∧ tk_Post D A [(h0, .inr (6, oX8 (tu (tu (tu (tu (tu (tu (tu i0 0 size) 1 z.1) 2 z.2.1) 3 z.2.2.1) 4 z.2.2.2.1) 5 z.2.2.2.2.1) 9 z.2.2.2.2.2.1) (tuv (tuv (tuv (tuv v0 6 (.ref (r0 10))) 7 (.ref (r0 7))) 8 (.ref (r0 8))) 10 (.ref (r0 10))))), ((r1 0), .inr (1, oX1 (tu (tu i2 6 z.2.2.2.2.2.2.1) 7 z.2.2.2.2.2.2.2.1) v2)), ((r0 7), .inr (2, oX2 r3 (tu (tu (tu (tu (tu (tu i3 0 z.2.2.2.2.2.2.2.2.1) 1 z.2.2.2.2.2.2.2.2.2.1) 2 z.2.2.2.2.2.2.2.2.2.2.1) 3 z.2.2.2.2.2.2.2.2.2.2.2.1) 4 z.2.2.2.2.2.2.2.2.2.2.2.2.1) 5 z.2.2.2.2.2.2.2.2.2.2.2.2.2.1))), ((r3 10), .inl (ar 2, 64, .inl z.2.2.2.2.2.2.2.2.2.2.2.2.2.2.1)), ((r3 8), .inl (ar 0, 64, .inl z.2.2.2.2.2.2.2.2.2.2.2.2.2.2.2.1)), ((r3 9), .inl (ar 0, 3, .inl z.2.2.2.2.2.2.2.2.2.2.2.2.2.2.2.2.1)), ((r3 7), .inl (ar 0, 6, .inl z.2.2.2.2.2.2.2.2.2.2.2.2.2.2.2.2.2))] t) A) ([.ref h0] : List Value).toArray s 0 0 A) (F0 m 27 ls [.int s1, .ref h0])) := by
    intro n
    induction n with
    | zero => exact ⟨(by intros; rename_i hF _ _ _ _; cases hF), (by intros; rename_i hF _ _ _ _; cases hF)⟩
    | succ n ih =>
      obtain ⟨ih2, ih27⟩ := ih
      refine ⟨?_, ?_⟩
      · intro x1 sort v_at v_to v_value told hasThings kind place columns rows best top loss flags stones heaps flagCell numbers H locs ls hF hP hD hS hl
        have hF : tk_k (stX7_all_X8 size tape) n (bX7_all_X8_1 size tape x1 sort v_at v_to v_value told hasThings kind place columns rows best top loss flags stones heaps flagCell numbers) = some o := hF
        unfold bX7_all_X8_1 at hF
        refine lv_aload_n hx hb dX7_all_2 rfl (lv_at hl 0 rfl) ?_
        refine va_get (D := D) (ci := 6) (v := .int sort) (C := RX8) (T := TX8) (N := 11) hx hb hts in_X8 hown hK hP 0 rfl rfl 1 (by decide) (hts _ q603) (fun _ h9 => h9) rfl dX7_all_3 ?_
        refine lv_if_eq (tgt := 41) hx hb dX7_all_6 (by decide) (fun c1 => ?_) (fun c1 => ?_)
        · have hF := tk_kt hF c1
          refine lv_iload_n hx hb dX7_all_41 rfl (lv_at hl 1 rfl) ?_
          have eo := tk_kr hF
          subst eo
          refine tx_ret ?_
          exact W.iret (v := x1) hx hb hr (fun t ht hW => ⟨⟨_, _, rfl, ⟨rfl, rfl⟩, tk_pst ht hP hD⟩, hS.F ht⟩) hS.2.2 dX7_all_42
        · have hF := tk_kf hF c1
          refine lv_aload_n hx hb dX7_all_9 rfl (lv_at hl 0 rfl) ?_
          obtain ⟨u2, hGu2, hF⟩ := tk_kb hF
          refine tx_callv (tx_runU (As := []) (rest := []) ⟨hx, hb, hml, hown, hts⟩ (mX8_clause (l := l) (D := D) (ar := ar) (ad := ad) (xs := xs) (sz := H.size) (h0 := h0) (r0 := r0) (i0 := (tu (tu (tu (tu (tu (tu (tu i0 0 size) 1 sort) 2 v_at) 3 v_to) 4 v_value) 5 told) 9 hasThings)) (v0 := (tuv (tuv (tuv (tuv v0 6 (.ref (r0 10))) 7 (.ref (r0 7))) 8 (.ref (r0 8))) 10 (.ref (r0 10)))) (r1 := r1) (i1 := i1) (i2 := (tu (tu i2 6 kind) 7 place)) (v2 := v2) (r3 := r3) (i3 := (tu (tu (tu (tu (tu (tu i3 0 columns) 1 rows) 2 best) 3 top) 4 loss) 5 flags)) (size := size) (tape := tape) (sort := sort) (v_at := v_at) (v_to := v_to) (v_value := v_value) (told := told) (hasThings := hasThings) (kind := kind) (place := place) (columns := columns) (rows := rows) (best := best) (top := top) (loss := loss) (flags := flags) (stones := stones) (heaps := heaps) (flagCell := flagCell) (numbers := numbers) (hF := hGu2)) (tk_cwP (C := "TideKeep$BeachReader") (owner := "TideKeep$Reader") (x := ⟨"TideKeep$Reader", "clause", "()V"⟩) 0 hts (lw_meth q648) rfl rfl rfl (by decide +kernel) ⟨(Nat.le_of_ble_eq_true rfl), (Nat.le_of_ble_eq_true rfl)⟩ (hts _ q643) (hts _ q645) (va_Decl.abs (hE.2.1.raw q644 rfl)) (hts _ q646) (hts _ q647) (hts _ q103)) ⟨tk_blind, va_recv hK hP (ci := 6) (q0 := 0) rfl rfl, fun U hU hW => ⟨rfl, tk_mk hP hD hS hA hE hR hX [0, 1, 2, 3, 4, 5, 6] [7, 8, 9] rfl rfl rfl rfl U hU hW⟩⟩ rfl rfl hl.1 rfl (lv_room (Nat.le_of_ble_eq_true rfl)) dX7_all_10 ⟨(Nat.le_of_ble_eq_true rfl), (Nat.le_of_ble_eq_true rfl)⟩) hS (fun q _ h => (va_free hD hS hA [0, 1, 2, 3, 4, 5, 6] rfl) q h) (va_free hD hS hA [0, 1, 2, 3, 4, 5, 6] rfl) (fun q _ h => (va_free hD hS hA [0, 1, 2, 3, 4, 5, 6] rfl) q h) (fun E9 ce q9 xu2 zt H1 zl zht zvm zw zB zz zk zS hce hcv hcl => ?_) (fun ru2 zt H1 zl zht zvm zw zB zz zk zS => ?_)
          · obtain ⟨zq, zE, zB⟩ := zB
            subst zq
            subst zE
            subst zw
            have hF := tk_ksx hF
            obtain ⟨hP, hD⟩ := tk_join hP hD zk [0, 1, 2, 3, 4, 5, 6] rfl rfl (va_free hD hS hA [0, 1, 2, 3, 4, 5, 6] rfl) (zht ▸ zB.1) zB.2 (Nat.le_of_ble_eq_true rfl)
            have hS := zS
            generalize H1 = H at hP hS hce ⊢
            have hP : va_P D tkCl [(h0, .inr (6, oX8 (tu (tu (tu (tu (tu (tu (tu i0 0 size) 1 xu2.1) 2 xu2.2.1) 3 xu2.2.2.1) 4 xu2.2.2.2.1) 5 xu2.2.2.2.2.1) 9 xu2.2.2.2.2.2.1) (tuv (tuv (tuv (tuv v0 6 (.ref (r0 10))) 7 (.ref (r0 7))) 8 (.ref (r0 8))) 10 (.ref (r0 10))))), ((r1 0), .inr (1, oX1 (tu (tu i2 6 xu2.2.2.2.2.2.2.1) 7 xu2.2.2.2.2.2.2.2.1) v2)), ((r0 7), .inr (2, oX2 r3 (tu (tu (tu (tu (tu (tu i3 0 xu2.2.2.2.2.2.2.2.2.1) 1 xu2.2.2.2.2.2.2.2.2.2.1) 2 xu2.2.2.2.2.2.2.2.2.2.2.1) 3 xu2.2.2.2.2.2.2.2.2.2.2.2.1) 4 xu2.2.2.2.2.2.2.2.2.2.2.2.2.1) 5 xu2.2.2.2.2.2.2.2.2.2.2.2.2.2.1))), ((r3 10), .inl (ar 2, 64, .inl xu2.2.2.2.2.2.2.2.2.2.2.2.2.2.2.1)), ((r3 8), .inl (ar 0, 64, .inl xu2.2.2.2.2.2.2.2.2.2.2.2.2.2.2.2.1)), ((r3 9), .inl (ar 0, 3, .inl xu2.2.2.2.2.2.2.2.2.2.2.2.2.2.2.2.2.1)), ((r3 7), .inl (ar 0, 6, .inl xu2.2.2.2.2.2.2.2.2.2.2.2.2.2.2.2.2.2))] H := hP
            have hD : va_D A [(h0, .inr (6, oX8 (tu (tu (tu (tu (tu (tu (tu i0 0 size) 1 xu2.1) 2 xu2.2.1) 3 xu2.2.2.1) 4 xu2.2.2.2.1) 5 xu2.2.2.2.2.1) 9 xu2.2.2.2.2.2.1) (tuv (tuv (tuv (tuv v0 6 (.ref (r0 10))) 7 (.ref (r0 7))) 8 (.ref (r0 8))) 10 (.ref (r0 10))))), ((r1 0), .inr (1, oX1 (tu (tu i2 6 xu2.2.2.2.2.2.2.1) 7 xu2.2.2.2.2.2.2.2.1) v2)), ((r0 7), .inr (2, oX2 r3 (tu (tu (tu (tu (tu (tu i3 0 xu2.2.2.2.2.2.2.2.2.1) 1 xu2.2.2.2.2.2.2.2.2.2.1) 2 xu2.2.2.2.2.2.2.2.2.2.2.1) 3 xu2.2.2.2.2.2.2.2.2.2.2.2.1) 4 xu2.2.2.2.2.2.2.2.2.2.2.2.2.1) 5 xu2.2.2.2.2.2.2.2.2.2.2.2.2.2.1))), ((r3 10), .inl (ar 2, 64, .inl xu2.2.2.2.2.2.2.2.2.2.2.2.2.2.2.1)), ((r3 8), .inl (ar 0, 64, .inl xu2.2.2.2.2.2.2.2.2.2.2.2.2.2.2.2.1)), ((r3 9), .inl (ar 0, 3, .inl xu2.2.2.2.2.2.2.2.2.2.2.2.2.2.2.2.2.1)), ((r3 7), .inl (ar 0, 6, .inl xu2.2.2.2.2.2.2.2.2.2.2.2.2.2.2.2.2.2))] := hD
            have eo := tk_kr hF
            subst eo
            exact tx_out (fun x9 hx9 => (htab x9 hx9).elim) hlocks hce hcv hcl (fun t ht hW => ⟨_, rfl, ⟨rfl, rfl, tk_pst ht hP hD⟩, hS.F ht⟩) hS.2.2 (Nat.le_of_ble_eq_true rfl) (Nat.le_of_ble_eq_true rfl)
          subst zw
          have hF := tk_kss hF
          obtain ⟨hP, hD⟩ := tk_join hP hD zk [0, 1, 2, 3, 4, 5, 6] rfl rfl (va_free hD hS hA [0, 1, 2, 3, 4, 5, 6] rfl) (zht ▸ zB.1) zB.2 (Nat.le_of_ble_eq_true rfl)
          have hS := zS
          generalize H1 = H at hP hS ⊢
          have hP : va_P D tkCl [(h0, .inr (6, oX8 (tu (tu (tu (tu (tu (tu (tu i0 0 size) 1 ru2.1) 2 ru2.2.1) 3 ru2.2.2.1) 4 ru2.2.2.2.1) 5 ru2.2.2.2.2.1) 9 ru2.2.2.2.2.2.1) (tuv (tuv (tuv (tuv v0 6 (.ref (r0 10))) 7 (.ref (r0 7))) 8 (.ref (r0 8))) 10 (.ref (r0 10))))), ((r1 0), .inr (1, oX1 (tu (tu i2 6 ru2.2.2.2.2.2.2.1) 7 ru2.2.2.2.2.2.2.2.1) v2)), ((r0 7), .inr (2, oX2 r3 (tu (tu (tu (tu (tu (tu i3 0 ru2.2.2.2.2.2.2.2.2.1) 1 ru2.2.2.2.2.2.2.2.2.2.1) 2 ru2.2.2.2.2.2.2.2.2.2.2.1) 3 ru2.2.2.2.2.2.2.2.2.2.2.2.1) 4 ru2.2.2.2.2.2.2.2.2.2.2.2.2.1) 5 ru2.2.2.2.2.2.2.2.2.2.2.2.2.2.1))), ((r3 10), .inl (ar 2, 64, .inl ru2.2.2.2.2.2.2.2.2.2.2.2.2.2.2.1)), ((r3 8), .inl (ar 0, 64, .inl ru2.2.2.2.2.2.2.2.2.2.2.2.2.2.2.2.1)), ((r3 9), .inl (ar 0, 3, .inl ru2.2.2.2.2.2.2.2.2.2.2.2.2.2.2.2.2.1)), ((r3 7), .inl (ar 0, 6, .inl ru2.2.2.2.2.2.2.2.2.2.2.2.2.2.2.2.2.2))] H := hP
          have hD : va_D A [(h0, .inr (6, oX8 (tu (tu (tu (tu (tu (tu (tu i0 0 size) 1 ru2.1) 2 ru2.2.1) 3 ru2.2.2.1) 4 ru2.2.2.2.1) 5 ru2.2.2.2.2.1) 9 ru2.2.2.2.2.2.1) (tuv (tuv (tuv (tuv v0 6 (.ref (r0 10))) 7 (.ref (r0 7))) 8 (.ref (r0 8))) 10 (.ref (r0 10))))), ((r1 0), .inr (1, oX1 (tu (tu i2 6 ru2.2.2.2.2.2.2.1) 7 ru2.2.2.2.2.2.2.2.1) v2)), ((r0 7), .inr (2, oX2 r3 (tu (tu (tu (tu (tu (tu i3 0 ru2.2.2.2.2.2.2.2.2.1) 1 ru2.2.2.2.2.2.2.2.2.2.1) 2 ru2.2.2.2.2.2.2.2.2.2.2.1) 3 ru2.2.2.2.2.2.2.2.2.2.2.2.1) 4 ru2.2.2.2.2.2.2.2.2.2.2.2.2.1) 5 ru2.2.2.2.2.2.2.2.2.2.2.2.2.2.1))), ((r3 10), .inl (ar 2, 64, .inl ru2.2.2.2.2.2.2.2.2.2.2.2.2.2.2.1)), ((r3 8), .inl (ar 0, 64, .inl ru2.2.2.2.2.2.2.2.2.2.2.2.2.2.2.2.1)), ((r3 9), .inl (ar 0, 3, .inl ru2.2.2.2.2.2.2.2.2.2.2.2.2.2.2.2.2.1)), ((r3 7), .inl (ar 0, 6, .inl ru2.2.2.2.2.2.2.2.2.2.2.2.2.2.2.2.2.2))] := hD
          refine lv_aload_n hx hb dX7_all_13 rfl (lv_at hl 0 rfl) ?_
          refine lv_aload_n hx hb dX7_all_14 rfl (lv_at hl 0 rfl) ?_
          refine va_get (D := D) (ci := 6) (v := .int ru2.1) (C := RX8) (T := TX8) (N := 11) hx hb hts in_X8 hown hK hP 0 rfl rfl 1 (by decide) (hts _ q603) (fun _ h9 => h9) rfl dX7_all_15 ?_
          refine lv_iconst (v := 3) hx hb dX7_all_18 (by decide) ?_
          refine lv_icmp_ne (tgt := 26) hx hb dX7_all_19 (by decide) (fun c3 => ?_) (fun c3 => ?_)
          · have hF := tk_kf hF c3
            refine lv_iconst (v := 0) hx hb dX7_all_26 (by decide) ?_
            exact ih27 x1 0 ru2.1 ru2.2.1 ru2.2.2.1 ru2.2.2.2.1 ru2.2.2.2.2.1 ru2.2.2.2.2.2.1 ru2.2.2.2.2.2.2.1 ru2.2.2.2.2.2.2.2.1 ru2.2.2.2.2.2.2.2.2.1 ru2.2.2.2.2.2.2.2.2.2.1 ru2.2.2.2.2.2.2.2.2.2.2.1 ru2.2.2.2.2.2.2.2.2.2.2.2.1 ru2.2.2.2.2.2.2.2.2.2.2.2.2.1 ru2.2.2.2.2.2.2.2.2.2.2.2.2.2.1 ru2.2.2.2.2.2.2.2.2.2.2.2.2.2.2.1 ru2.2.2.2.2.2.2.2.2.2.2.2.2.2.2.2.1 ru2.2.2.2.2.2.2.2.2.2.2.2.2.2.2.2.2.1 ru2.2.2.2.2.2.2.2.2.2.2.2.2.2.2.2.2.2 _ _ _ hF hP hD hS (lv_sub hl [0, 1] rfl)
          · have hF := tk_kt hF c3
            refine lv_iconst (v := 1) hx hb dX7_all_22 (by decide) ?_
            refine lv_goto (tgt := 27) hx hb dX7_all_23 (by decide) ?_
            exact ih27 x1 1 ru2.1 ru2.2.1 ru2.2.2.1 ru2.2.2.2.1 ru2.2.2.2.2.1 ru2.2.2.2.2.2.1 ru2.2.2.2.2.2.2.1 ru2.2.2.2.2.2.2.2.1 ru2.2.2.2.2.2.2.2.2.1 ru2.2.2.2.2.2.2.2.2.2.1 ru2.2.2.2.2.2.2.2.2.2.2.1 ru2.2.2.2.2.2.2.2.2.2.2.2.1 ru2.2.2.2.2.2.2.2.2.2.2.2.2.1 ru2.2.2.2.2.2.2.2.2.2.2.2.2.2.1 ru2.2.2.2.2.2.2.2.2.2.2.2.2.2.2.1 ru2.2.2.2.2.2.2.2.2.2.2.2.2.2.2.2.1 ru2.2.2.2.2.2.2.2.2.2.2.2.2.2.2.2.2.1 ru2.2.2.2.2.2.2.2.2.2.2.2.2.2.2.2.2.2 _ _ _ hF hP hD hS (lv_sub hl [0, 1] rfl)
      · intro x1 s1 sort v_at v_to v_value told hasThings kind place columns rows best top loss flags stones heaps flagCell numbers H locs ls hF hP hD hS hl
        have hF : tk_k (stX7_all_X8 size tape) n (bX7_all_X8_2 size tape x1 s1 sort v_at v_to v_value told hasThings kind place columns rows best top loss flags stones heaps flagCell numbers) = some o := hF
        unfold bX7_all_X8_2 at hF
        refine lv_iconst (v := 1) hx hb dX7_all_27 (by decide) ?_
        obtain ⟨u4, hGu4, hF⟩ := tk_kb hF
        refine tx_callv (tx_runU (As := [.int s1, .int 1]) (rest := []) ⟨hx, hb, hml, hown, hts⟩ (mX7_ask_X8 (l := l) (D := D) (ar := ar) (ad := ad) (xs := xs) (sz := H.size) (h0 := h0) (r0 := r0) (i0 := (tu (tu (tu (tu (tu (tu (tu i0 0 size) 1 sort) 2 v_at) 3 v_to) 4 v_value) 5 told) 9 hasThings)) (v0 := (tuv (tuv (tuv (tuv v0 6 (.ref (r0 10))) 7 (.ref (r0 7))) 8 (.ref (r0 8))) 10 (.ref (r0 10)))) (r1 := r1) (i1 := i1) (i2 := (tu (tu i2 6 kind) 7 place)) (v2 := v2) (v_at := v_at) (kind := kind) (place := place) (p0 := s1) (p1 := 1) (hF := hGu4)) (tk_cwP (C := "TideKeep$BeachReader") (owner := "TideKeep$Reader") (x := ⟨"TideKeep$Reader", "ask", "(ZI)V"⟩) 2 hts (lw_meth q713) rfl rfl rfl (by decide +kernel) ⟨(Nat.le_of_ble_eq_true rfl), (Nat.le_of_ble_eq_true rfl)⟩ (hts _ q725) (hts _ q2000) (va_Decl.of (x := ⟨"TideKeep$Reader", "ask", "(ZI)V"⟩) (hts _ q712) (hts _ q713)) (hts _ q2001) (hts _ q712) (hts _ q102)) ⟨tk_blind, va_recv hK hP (ci := 6) (q0 := 0) rfl rfl, fun U hU hW => ⟨rfl, tk_mk hP hD hS hA hE hR hX [1] [0, 7] rfl rfl rfl rfl U hU hW⟩⟩ rfl rfl hl.1 rfl (lv_room (Nat.le_of_ble_eq_true rfl)) dX7_all_28 ⟨(Nat.le_of_ble_eq_true rfl), (Nat.le_of_ble_eq_true rfl)⟩) hS (fun q _ h => (va_free hD hS hA [1] rfl) q h) (va_free hD hS hA [1] rfl) (fun q _ h => (va_free hD hS hA [1] rfl) q h) (fun E9 ce q9 xu4 zt H1 zl zht zvm zw zB zz zk zS hce hcv hcl => ?_) (fun ru4 zt H1 zl zht zvm zw zB zz zk zS => ?_)
        · obtain ⟨zq, zE, zB⟩ := zB
          subst zq
          subst zE
          subst zw
          have hF := tk_ksx hF
          obtain ⟨hP, hD⟩ := tk_join hP hD zk [1] rfl rfl (va_free hD hS hA [1] rfl) (zht ▸ zB.1) zB.2 (Nat.le_of_ble_eq_true rfl)
          have hS := zS
          generalize H1 = H at hP hS hce ⊢
          have hP : va_P D tkCl [(h0, .inr (6, oX8 (tu (tu (tu (tu (tu (tu (tu i0 0 size) 1 sort) 2 v_at) 3 v_to) 4 v_value) 5 told) 9 hasThings) (tuv (tuv (tuv (tuv v0 6 (.ref (r0 10))) 7 (.ref (r0 7))) 8 (.ref (r0 8))) 10 (.ref (r0 10))))), ((r1 0), .inr (1, oX1 (tu (tu i2 6 xu4.1) 7 xu4.2) v2)), ((r0 7), .inr (2, oX2 r3 (tu (tu (tu (tu (tu (tu i3 0 columns) 1 rows) 2 best) 3 top) 4 loss) 5 flags))), ((r3 10), .inl (ar 2, 64, .inl stones)), ((r3 8), .inl (ar 0, 64, .inl heaps)), ((r3 9), .inl (ar 0, 3, .inl flagCell)), ((r3 7), .inl (ar 0, 6, .inl numbers))] H := hP
          have hD : va_D A [(h0, .inr (6, oX8 (tu (tu (tu (tu (tu (tu (tu i0 0 size) 1 sort) 2 v_at) 3 v_to) 4 v_value) 5 told) 9 hasThings) (tuv (tuv (tuv (tuv v0 6 (.ref (r0 10))) 7 (.ref (r0 7))) 8 (.ref (r0 8))) 10 (.ref (r0 10))))), ((r1 0), .inr (1, oX1 (tu (tu i2 6 xu4.1) 7 xu4.2) v2)), ((r0 7), .inr (2, oX2 r3 (tu (tu (tu (tu (tu (tu i3 0 columns) 1 rows) 2 best) 3 top) 4 loss) 5 flags))), ((r3 10), .inl (ar 2, 64, .inl stones)), ((r3 8), .inl (ar 0, 64, .inl heaps)), ((r3 9), .inl (ar 0, 3, .inl flagCell)), ((r3 7), .inl (ar 0, 6, .inl numbers))] := hD
          have eo := tk_kr hF
          subst eo
          exact tx_out (fun x9 hx9 => (htab x9 hx9).elim) hlocks hce hcv hcl (fun t ht hW => ⟨_, rfl, ⟨rfl, rfl, tk_pst ht hP hD⟩, hS.F ht⟩) hS.2.2 (Nat.le_of_ble_eq_true rfl) (Nat.le_of_ble_eq_true rfl)
        subst zw
        have hF := tk_kss hF
        obtain ⟨hP, hD⟩ := tk_join hP hD zk [1] rfl rfl (va_free hD hS hA [1] rfl) (zht ▸ zB.1) zB.2 (Nat.le_of_ble_eq_true rfl)
        have hS := zS
        generalize H1 = H at hP hS ⊢
        have hP : va_P D tkCl [(h0, .inr (6, oX8 (tu (tu (tu (tu (tu (tu (tu i0 0 size) 1 sort) 2 v_at) 3 v_to) 4 v_value) 5 told) 9 hasThings) (tuv (tuv (tuv (tuv v0 6 (.ref (r0 10))) 7 (.ref (r0 7))) 8 (.ref (r0 8))) 10 (.ref (r0 10))))), ((r1 0), .inr (1, oX1 (tu (tu i2 6 ru4.1) 7 ru4.2) v2)), ((r0 7), .inr (2, oX2 r3 (tu (tu (tu (tu (tu (tu i3 0 columns) 1 rows) 2 best) 3 top) 4 loss) 5 flags))), ((r3 10), .inl (ar 2, 64, .inl stones)), ((r3 8), .inl (ar 0, 64, .inl heaps)), ((r3 9), .inl (ar 0, 3, .inl flagCell)), ((r3 7), .inl (ar 0, 6, .inl numbers))] H := hP
        have hD : va_D A [(h0, .inr (6, oX8 (tu (tu (tu (tu (tu (tu (tu i0 0 size) 1 sort) 2 v_at) 3 v_to) 4 v_value) 5 told) 9 hasThings) (tuv (tuv (tuv (tuv v0 6 (.ref (r0 10))) 7 (.ref (r0 7))) 8 (.ref (r0 8))) 10 (.ref (r0 10))))), ((r1 0), .inr (1, oX1 (tu (tu i2 6 ru4.1) 7 ru4.2) v2)), ((r0 7), .inr (2, oX2 r3 (tu (tu (tu (tu (tu (tu i3 0 columns) 1 rows) 2 best) 3 top) 4 loss) 5 flags))), ((r3 10), .inl (ar 2, 64, .inl stones)), ((r3 8), .inl (ar 0, 64, .inl heaps)), ((r3 9), .inl (ar 0, 3, .inl flagCell)), ((r3 7), .inl (ar 0, 6, .inl numbers))] := hD
        refine lv_aload_n hx hb dX7_all_31 rfl (lv_at hl 0 rfl) ?_
        obtain ⟨u5, hGu5, hF⟩ := tk_kb hF
        refine va_callv (va_runU (As := []) (rest := []) ⟨hx, hb, hml, hown, hts⟩ (mX7_goOn_X8 (l := l) (D := D) (ar := ar) (ad := ad) (xs := xs) (sz := H.size) (h0 := h0) (r0 := r0) (i0 := (tu (tu (tu (tu (tu (tu (tu i0 0 size) 1 sort) 2 v_at) 3 v_to) 4 v_value) 5 told) 9 hasThings)) (v0 := (tuv (tuv (tuv (tuv v0 6 (.ref (r0 10))) 7 (.ref (r0 7))) 8 (.ref (r0 8))) 10 (.ref (r0 10)))) (r1 := r1) (i1 := i1) (size := size) (tape := tape) (sort := sort) (v_at := v_at) (v_to := v_to) (v_value := v_value) (hF := hGu5)) (tk_cwP (C := "TideKeep$BeachReader") (owner := "TideKeep$Reader") (x := ⟨"TideKeep$Reader", "goOn", "()V"⟩) 0 hts (lw_meth q570) rfl rfl rfl (by decide +kernel) ⟨(Nat.le_of_ble_eq_true rfl), (Nat.le_of_ble_eq_true rfl)⟩ (hts _ q564) (hts _ q566) (va_Decl.of (x := ⟨"TideKeep$Reader", "goOn", "()V"⟩) (hts _ q565) (hts _ q570)) (hts _ q567) (hts _ q565) (hts _ q102)) ⟨tk_blind, va_recv hK hP (ci := 6) (q0 := 0) rfl rfl, fun U hU hW => ⟨rfl, tk_mk hP hD hS hA hE hR hX [0] [7, 8] rfl rfl rfl rfl U hU hW⟩⟩ rfl rfl hl.1 rfl (lv_room (Nat.le_of_ble_eq_true rfl)) dX7_all_32 ⟨(Nat.le_of_ble_eq_true rfl), (Nat.le_of_ble_eq_true rfl)⟩) hS (fun q _ h => (va_free hD hS hA [0] rfl) q h) (va_free hD hS hA [0] rfl) (fun zu zt H1 zl zht zvm zw zB zz zk zS => ?_)
        obtain ⟨hP, hD⟩ := tk_join hP hD zk [0] rfl rfl (va_free hD hS hA [0] rfl) (zht ▸ zB.1) zB.2 (Nat.le_of_ble_eq_true rfl)
        have hS := zS
        generalize H1 = H at hP hS ⊢
        have hP : va_P D tkCl [(h0, .inr (6, oX8 (tu (tu (tu (tu (tu (tu (tu i0 0 size) 1 u5.1) 2 u5.2.1) 3 u5.2.2.1) 4 u5.2.2.2) 5 told) 9 hasThings) (tuv (tuv (tuv (tuv v0 6 (.ref (r0 10))) 7 (.ref (r0 7))) 8 (.ref (r0 8))) 10 (.ref (r0 10))))), ((r1 0), .inr (1, oX1 (tu (tu i2 6 ru4.1) 7 ru4.2) v2)), ((r0 7), .inr (2, oX2 r3 (tu (tu (tu (tu (tu (tu i3 0 columns) 1 rows) 2 best) 3 top) 4 loss) 5 flags))), ((r3 10), .inl (ar 2, 64, .inl stones)), ((r3 8), .inl (ar 0, 64, .inl heaps)), ((r3 9), .inl (ar 0, 3, .inl flagCell)), ((r3 7), .inl (ar 0, 6, .inl numbers))] H := hP
        have hD : va_D A [(h0, .inr (6, oX8 (tu (tu (tu (tu (tu (tu (tu i0 0 size) 1 u5.1) 2 u5.2.1) 3 u5.2.2.1) 4 u5.2.2.2) 5 told) 9 hasThings) (tuv (tuv (tuv (tuv v0 6 (.ref (r0 10))) 7 (.ref (r0 7))) 8 (.ref (r0 8))) 10 (.ref (r0 10))))), ((r1 0), .inr (1, oX1 (tu (tu i2 6 ru4.1) 7 ru4.2) v2)), ((r0 7), .inr (2, oX2 r3 (tu (tu (tu (tu (tu (tu i3 0 columns) 1 rows) 2 best) 3 top) 4 loss) 5 flags))), ((r3 10), .inl (ar 2, 64, .inl stones)), ((r3 8), .inl (ar 0, 64, .inl heaps)), ((r3 9), .inl (ar 0, 3, .inl flagCell)), ((r3 7), .inl (ar 0, 6, .inl numbers))] := hD
        refine lv_iinc (v := x1 + 1) (lv' := [(1, .int (x1 + 1)), (0, .ref h0)]) hx hb dX7_all_35 hl (k := 1) rfl (congrArg (fun z => x1 + z) (show Int32.ofInt 1 = 1 by decide)) (Nat.le_of_ble_eq_true rfl) rfl (fun ls hl => ?_)
        refine lv_goto (tgt := 2) hx hb dX7_all_38 (by decide) ?_
        exact ih2 (x1 + 1) u5.1 u5.2.1 u5.2.2.1 u5.2.2.2 told hasThings ru4.1 ru4.2 columns rows best top loss flags stones heaps flagCell numbers _ _ _ hF hP hD hS (lv_sub hl [1, 0] rfl)
  obtain ⟨ih2, ih27⟩ := key n0
  clear key
  unfold bX7_all_X8_0 at hF
  have hF : tk_k (stX7_all_X8 size tape) n0 _ = some o := hF
  refine lv_iconst (v := 0) hx hb dX7_all_0 (by decide) ?_
  refine lv_istore_n (lv' := [(1, .int 0), (0, .ref h0)]) hx hb dX7_all_1 rfl hl (Nat.le_of_ble_eq_true rfl) rfl (fun ls hl => ?_)
  exact ih2 0 sort v_at v_to v_value told hasThings kind place columns rows best top loss flags stones heaps flagCell numbers _ _ _ hF hP hD hS (lv_sub hl [1, 0] rfl)
set_option maxHeartbeats 4000000 in
theorem mX8_read (l : Launch) (D : va_G) (ar : Nat → ClassId) (ad : Nat → Nat → Nat) (xs : va_W) (sz : Nat) (h0 : Nat) (i0 : Nat → Int32) (v0 : Nat → Value) (r0 r1 : Nat → Nat) (i1 i2 : Nat → Int32) (v2 : Nat → Value) (r3 : Nat → Nat) (i3 : Nat → Int32) (size : Int32) (tape : Nat → Int32) (sort v_at v_to v_value told hasThings kind place columns rows best top loss flags clauses : Int32) (stones heaps flagCell numbers : Nat → Int32) (o : (Int32 × Int32 × Int32 × Int32 × Int32 × Int32 × Int32 × Int32 × Int32 × Int32 × Int32 × Int32 × Int32 × Int32 × Int32 × (Nat → Int32) × (Nat → Int32) × (Nat → Int32) × (Nat → Int32)) ⊕ (Int32 × Int32 × Int32 × Int32 × Int32 × Int32 × Int32 × Int32 × Int32 × Int32 × Int32 × Int32 × Int32 × Int32 × Int32 × (Nat → Int32) × (Nat → Int32) × (Nat → Int32) × (Nat → Int32))) (hF : fX8_read size tape sort v_at v_to v_value told hasThings kind place columns rows best top loss flags clauses stones heaps flagCell numbers = some o) : tx_Met l yX8_read (ws_ yX8_read cX8_read 1 (some (.object "TideKeep$Beach"))) ({ frames := 8, cells := 0, slots := 0, locals := 176 }) (va_Pc [.ref h0] (tk_Pre D ar ad [(h0, .inr (6, oX8 (tu (tu (tu (tu (tu (tu (tu i0 0 size) 1 sort) 2 v_at) 3 v_to) 4 v_value) 5 told) 9 hasThings) (tuv (tuv (tuv (tuv v0 6 (.ref (r0 10))) 7 (.ref (r0 7))) 8 (.ref (r0 8))) 10 (.ref (r0 10))))), ((r1 0), .inr (1, oX1 (tu (tu i2 6 kind) 7 place) v2)), ((r0 7), .inr (2, oX2 r3 (tu (tu (tu (tu (tu (tu (tu i3 0 columns) 1 rows) 2 best) 3 top) 4 loss) 5 flags) 6 clauses))), ((r3 10), .inl (ar 2, 64, .inl stones)), ((r3 8), .inl (ar 0, 64, .inl heaps)), ((r3 9), .inl (ar 0, 3, .inl flagCell)), ((r3 7), .inl (ar 0, 6, .inl numbers))] [((r0 10), .inr (0, oX0 r1 i1)), ((r1 1), .inl (ar 1, 900, .inl tape)), ((r0 8), .inl (ar 5, 6, .inr (.inr (.inr (.inr (tk_kd ad))))))] xs sz)) (va_Qr (fun z : Int32 × Int32 × Int32 × Int32 × Int32 × Int32 × Int32 × Int32 × Int32 × Int32 × Int32 × Int32 × Int32 × Int32 × Int32 × (Nat → Int32) × (Nat → Int32) × (Nat → Int32) × (Nat → Int32) => o = .inl z) (fun z ra t => ra = (r0 7) ∧ tk_Post D (va_A [(h0, .inr (6, oX8 (tu (tu (tu (tu (tu (tu (tu i0 0 size) 1 sort) 2 v_at) 3 v_to) 4 v_value) 5 told) 9 hasThings) (tuv (tuv (tuv (tuv v0 6 (.ref (r0 10))) 7 (.ref (r0 7))) 8 (.ref (r0 8))) 10 (.ref (r0 10))))), ((r1 0), .inr (1, oX1 (tu (tu i2 6 kind) 7 place) v2)), ((r0 7), .inr (2, oX2 r3 (tu (tu (tu (tu (tu (tu (tu i3 0 columns) 1 rows) 2 best) 3 top) 4 loss) 5 flags) 6 clauses))), ((r3 10), .inl (ar 2, 64, .inl stones)), ((r3 8), .inl (ar 0, 64, .inl heaps)), ((r3 9), .inl (ar 0, 3, .inl flagCell)), ((r3 7), .inl (ar 0, 6, .inl numbers))] sz) [(h0, .inr (6, oX8 (tu (tu (tu (tu (tu (tu (tu i0 0 size) 1 z.1) 2 z.2.1) 3 z.2.2.1) 4 z.2.2.2.1) 5 z.2.2.2.2.1) 9 z.2.2.2.2.2.1) (tuv (tuv (tuv (tuv v0 6 (.ref (r0 10))) 7 (.ref (r0 7))) 8 (.ref (r0 8))) 10 (.ref (r0 10))))), ((r1 0), .inr (1, oX1 (tu (tu i2 6 z.2.2.2.2.2.2.1) 7 z.2.2.2.2.2.2.2.1) v2)), ((r0 7), .inr (2, oX2 r3 (tu (tu (tu (tu (tu (tu (tu i3 0 z.2.2.2.2.2.2.2.2.1) 1 z.2.2.2.2.2.2.2.2.2.1) 2 z.2.2.2.2.2.2.2.2.2.2.1) 3 z.2.2.2.2.2.2.2.2.2.2.2.1) 4 z.2.2.2.2.2.2.2.2.2.2.2.2.1) 5 z.2.2.2.2.2.2.2.2.2.2.2.2.2.1) 6 z.2.2.2.2.2.2.2.2.2.2.2.2.2.2.1))), ((r3 10), .inl (ar 2, 64, .inl z.2.2.2.2.2.2.2.2.2.2.2.2.2.2.2.1)), ((r3 8), .inl (ar 0, 64, .inl z.2.2.2.2.2.2.2.2.2.2.2.2.2.2.2.2.1)), ((r3 9), .inl (ar 0, 3, .inl z.2.2.2.2.2.2.2.2.2.2.2.2.2.2.2.2.2.1)), ((r3 7), .inl (ar 0, 6, .inl z.2.2.2.2.2.2.2.2.2.2.2.2.2.2.2.2.2.2))] t) (va_A [(h0, .inr (6, oX8 (tu (tu (tu (tu (tu (tu (tu i0 0 size) 1 sort) 2 v_at) 3 v_to) 4 v_value) 5 told) 9 hasThings) (tuv (tuv (tuv (tuv v0 6 (.ref (r0 10))) 7 (.ref (r0 7))) 8 (.ref (r0 8))) 10 (.ref (r0 10))))), ((r1 0), .inr (1, oX1 (tu (tu i2 6 kind) 7 place) v2)), ((r0 7), .inr (2, oX2 r3 (tu (tu (tu (tu (tu (tu (tu i3 0 columns) 1 rows) 2 best) 3 top) 4 loss) 5 flags) 6 clauses))), ((r3 10), .inl (ar 2, 64, .inl stones)), ((r3 8), .inl (ar 0, 64, .inl heaps)), ((r3 9), .inl (ar 0, 3, .inl flagCell)), ((r3 7), .inl (ar 0, 6, .inl numbers))] sz)) (tx_X (fun z : Int32 × Int32 × Int32 × Int32 × Int32 × Int32 × Int32 × Int32 × Int32 × Int32 × Int32 × Int32 × Int32 × Int32 × Int32 × (Nat → Int32) × (Nat → Int32) × (Nat → Int32) × (Nat → Int32) => o = .inr z) (fun q9 E9 z t => q9 = (r1 0) ∧ E9 = "TideKeep$Wrong" ∧ tk_Post D (va_A [(h0, .inr (6, oX8 (tu (tu (tu (tu (tu (tu (tu i0 0 size) 1 sort) 2 v_at) 3 v_to) 4 v_value) 5 told) 9 hasThings) (tuv (tuv (tuv (tuv v0 6 (.ref (r0 10))) 7 (.ref (r0 7))) 8 (.ref (r0 8))) 10 (.ref (r0 10))))), ((r1 0), .inr (1, oX1 (tu (tu i2 6 kind) 7 place) v2)), ((r0 7), .inr (2, oX2 r3 (tu (tu (tu (tu (tu (tu (tu i3 0 columns) 1 rows) 2 best) 3 top) 4 loss) 5 flags) 6 clauses))), ((r3 10), .inl (ar 2, 64, .inl stones)), ((r3 8), .inl (ar 0, 64, .inl heaps)), ((r3 9), .inl (ar 0, 3, .inl flagCell)), ((r3 7), .inl (ar 0, 6, .inl numbers))] sz) [(h0, .inr (6, oX8 (tu (tu (tu (tu (tu (tu (tu i0 0 size) 1 z.1) 2 z.2.1) 3 z.2.2.1) 4 z.2.2.2.1) 5 z.2.2.2.2.1) 9 z.2.2.2.2.2.1) (tuv (tuv (tuv (tuv v0 6 (.ref (r0 10))) 7 (.ref (r0 7))) 8 (.ref (r0 8))) 10 (.ref (r0 10))))), ((r1 0), .inr (1, oX1 (tu (tu i2 6 z.2.2.2.2.2.2.1) 7 z.2.2.2.2.2.2.2.1) v2)), ((r0 7), .inr (2, oX2 r3 (tu (tu (tu (tu (tu (tu (tu i3 0 z.2.2.2.2.2.2.2.2.1) 1 z.2.2.2.2.2.2.2.2.2.1) 2 z.2.2.2.2.2.2.2.2.2.2.1) 3 z.2.2.2.2.2.2.2.2.2.2.2.1) 4 z.2.2.2.2.2.2.2.2.2.2.2.2.1) 5 z.2.2.2.2.2.2.2.2.2.2.2.2.2.1) 6 z.2.2.2.2.2.2.2.2.2.2.2.2.2.2.1))), ((r3 10), .inl (ar 2, 64, .inl z.2.2.2.2.2.2.2.2.2.2.2.2.2.2.2.1)), ((r3 8), .inl (ar 0, 64, .inl z.2.2.2.2.2.2.2.2.2.2.2.2.2.2.2.2.1)), ((r3 9), .inl (ar 0, 3, .inl z.2.2.2.2.2.2.2.2.2.2.2.2.2.2.2.2.2.1)), ((r3 7), .inl (ar 0, 6, .inl z.2.2.2.2.2.2.2.2.2.2.2.2.2.2.2.2.2.2))] t) (va_A [(h0, .inr (6, oX8 (tu (tu (tu (tu (tu (tu (tu i0 0 size) 1 sort) 2 v_at) 3 v_to) 4 v_value) 5 told) 9 hasThings) (tuv (tuv (tuv (tuv v0 6 (.ref (r0 10))) 7 (.ref (r0 7))) 8 (.ref (r0 8))) 10 (.ref (r0 10))))), ((r1 0), .inr (1, oX1 (tu (tu i2 6 kind) 7 place) v2)), ((r0 7), .inr (2, oX2 r3 (tu (tu (tu (tu (tu (tu (tu i3 0 columns) 1 rows) 2 best) 3 top) 4 loss) 5 flags) 6 clauses))), ((r3 10), .inl (ar 2, 64, .inl stones)), ((r3 8), .inl (ar 0, 64, .inl heaps)), ((r3 9), .inl (ar 0, 3, .inl flagCell)), ((r3 7), .inl (ar 0, 6, .inl numbers))] sz)) 0 0 (va_A [(h0, .inr (6, oX8 (tu (tu (tu (tu (tu (tu (tu i0 0 size) 1 sort) 2 v_at) 3 v_to) 4 v_value) 5 told) 9 hasThings) (tuv (tuv (tuv (tuv v0 6 (.ref (r0 10))) 7 (.ref (r0 7))) 8 (.ref (r0 8))) 10 (.ref (r0 10))))), ((r1 0), .inr (1, oX1 (tu (tu i2 6 kind) 7 place) v2)), ((r0 7), .inr (2, oX2 r3 (tu (tu (tu (tu (tu (tu (tu i3 0 columns) 1 rows) 2 best) 3 top) 4 loss) 5 flags) 6 clauses))), ((r3 10), .inl (ar 2, 64, .inl stones)), ((r3 8), .inl (ar 0, 64, .inl heaps)), ((r3 9), .inl (ar 0, 3, .inl flagCell)), ((r3 7), .inl (ar 0, 6, .inl numbers))] sz) := by
  refine tx_ofW (cc := cX8_read) (maxL := 1) (ret := (some (.object "TideKeep$Beach"))) (by decide) rfl ?_
  intro p e s m args below meth c s₁ B hml htab hv
  obtain ⟨rfl, hsz, hP, hD0, hR, hX, hE⟩ := hv
  have hx := B.exec
  have hb := B.bytes
  have hr := B.returns
  have hts := atoms_spec (ws := (ws_ yX8_read cX8_read 1 (some (.object "TideKeep$Beach")))) B.pre
  have hts : ∀ w ∈ lw_all, w.before _ s = true := fun w h => hts w (List.mem_cons_of_mem _ h)
  have hown : s.vm.findClass RX8 = some m.cls := findClass_of_methodNamed B.named
  have hlocks := B.notSynchronized
  subst hsz
  have hD := hD0.self (sz := s.heap.size)
  generalize hAe : va_A [(h0, .inr (6, oX8 (tu (tu (tu (tu (tu (tu (tu i0 0 size) 1 sort) 2 v_at) 3 v_to) 4 v_value) 5 told) 9 hasThings) (tuv (tuv (tuv (tuv v0 6 (.ref (r0 10))) 7 (.ref (r0 7))) 8 (.ref (r0 8))) 10 (.ref (r0 10))))), ((r1 0), .inr (1, oX1 (tu (tu i2 6 kind) 7 place) v2)), ((r0 7), .inr (2, oX2 r3 (tu (tu (tu (tu (tu (tu (tu i3 0 columns) 1 rows) 2 best) 3 top) 4 loss) 5 flags) 6 clauses))), ((r3 10), .inl (ar 2, 64, .inl stones)), ((r3 8), .inl (ar 0, 64, .inl heaps)), ((r3 9), .inl (ar 0, 3, .inl flagCell)), ((r3 7), .inl (ar 0, 6, .inl numbers))] s.heap.size = A at hD hR hX hE ⊢
  have hA : ∀ q : Nat, s.heap.size ≤ q → A q := fun q h => by rw [← hAe]; exact Or.inr h
  have hS : va_S A s.heap s.heap [] := va_S.rf
  have hK := hE.1
  have hl := lv_entry ([.ref h0]) (n := 1) (Nat.le_of_ble_eq_true rfl)
  rw [lg_entry_eq]
  generalize (lg_sl ([.ref h0]) ++ List.replicate (1 - (lg_sl ([.ref h0])).length) Slot.unset).toArray = ls at hl ⊢
  have hl : lv_has ls 1 [(0, .ref h0)] := hl
  have hP : va_P D tkCl [(h0, .inr (6, oX8 (tu (tu (tu (tu (tu (tu (tu i0 0 size) 1 sort) 2 v_at) 3 v_to) 4 v_value) 5 told) 9 hasThings) (tuv (tuv (tuv (tuv v0 6 (.ref (r0 10))) 7 (.ref (r0 7))) 8 (.ref (r0 8))) 10 (.ref (r0 10))))), ((r1 0), .inr (1, oX1 (tu (tu i2 6 kind) 7 place) v2)), ((r0 7), .inr (2, oX2 r3 (tu (tu (tu (tu (tu (tu (tu i3 0 columns) 1 rows) 2 best) 3 top) 4 loss) 5 flags) 6 clauses))), ((r3 10), .inl (ar 2, 64, .inl stones)), ((r3 8), .inl (ar 0, 64, .inl heaps)), ((r3 9), .inl (ar 0, 3, .inl flagCell)), ((r3 7), .inl (ar 0, 6, .inl numbers))] s.heap := hP
  unfold fX8_read at hF
  refine lv_aload_n hx hb dX8_read_0 rfl (lv_at hl 0 rfl) ?_
  refine va_get (D := D) (ci := 6) (v := .ref (r0 7)) (C := RX8) (T := TX8) (N := 11) hx hb hts in_X8 hown hK hP 0 rfl rfl 7 (by decide) (hts _ q598) (fun _ h9 => h9) rfl dX8_read_1 ?_
  refine lv_aload_n hx hb dX8_read_4 rfl (lv_at hl 0 rfl) ?_
  obtain ⟨u1, hGu1, hF⟩ := tk_pb hF
  refine tx_calli (tx_runU (As := []) (rest := [.ref (r0 7)]) ⟨hx, hb, hml, hown, hts⟩ (mX7_all_X8 (l := l) (D := D) (ar := ar) (ad := ad) (xs := xs) (sz := s.heap.size) (h0 := h0) (r0 := r0) (i0 := (tu (tu (tu (tu (tu (tu (tu i0 0 size) 1 sort) 2 v_at) 3 v_to) 4 v_value) 5 told) 9 hasThings)) (v0 := (tuv (tuv (tuv (tuv v0 6 (.ref (r0 10))) 7 (.ref (r0 7))) 8 (.ref (r0 8))) 10 (.ref (r0 10)))) (r1 := r1) (i1 := i1) (i2 := (tu (tu i2 6 kind) 7 place)) (v2 := v2) (r3 := r3) (i3 := (tu (tu (tu (tu (tu (tu (tu i3 0 columns) 1 rows) 2 best) 3 top) 4 loss) 5 flags) 6 clauses)) (size := size) (tape := tape) (sort := sort) (v_at := v_at) (v_to := v_to) (v_value := v_value) (told := told) (hasThings := hasThings) (kind := kind) (place := place) (columns := columns) (rows := rows) (best := best) (top := top) (loss := loss) (flags := flags) (stones := stones) (heaps := heaps) (flagCell := flagCell) (numbers := numbers) (hF := hGu1)) (tk_cwP (C := "TideKeep$BeachReader") (owner := "TideKeep$Reader") (x := ⟨"TideKeep$BeachReader", "all", "()I"⟩) 0 hts (lw_meth q642) rfl rfl rfl (by decide +kernel) ⟨(Nat.le_of_ble_eq_true rfl), (Nat.le_of_ble_eq_true rfl)⟩ (hts _ q637) (hts _ q638) (va_Decl.of (x := ⟨"TideKeep$Reader", "all", "()I"⟩) (hts _ q641) (hts _ q642)) (hts _ q640) (hts _ q641) (hts _ q102)) ⟨tk_blind, va_recv hK hP (ci := 6) (q0 := 0) rfl rfl, fun U hU hW => ⟨rfl, tk_mk hP hD hS hA hE hR hX [0, 1, 2, 3, 4, 5, 6] [7, 8, 9] rfl rfl rfl rfl U hU hW⟩⟩ rfl rfl hl.1 rfl (lv_room (Nat.le_of_ble_eq_true rfl)) dX8_read_5 ⟨(Nat.le_of_ble_eq_true rfl), (Nat.le_of_ble_eq_true rfl)⟩) hS (fun q _ h => (va_free hD hS hA [0, 1, 2, 3, 4, 5, 6] rfl) q h) (va_free hD hS hA [0, 1, 2, 3, 4, 5, 6] rfl) (fun q _ h => (va_free hD hS hA [0, 1, 2, 3, 4, 5, 6] rfl) q h) (fun E9 ce q9 xu1 zt H1 zl zht zvm zw zB zz zk zS hce hcv hcl => ?_) (fun zr ru1 zt H1 zl zht zvm zw zB zz zk zS => ?_)
  · obtain ⟨zq, zE, zB⟩ := zB
    subst zq
    subst zE
    subst zw
    have hF := tk_psx hF
    obtain ⟨hP, hD⟩ := tk_join hP hD zk [0, 1, 2, 3, 4, 5, 6] rfl rfl (va_free hD hS hA [0, 1, 2, 3, 4, 5, 6] rfl) (zht ▸ zB.1) zB.2 (Nat.le_of_ble_eq_true rfl)
    have hS := zS
    generalize H1 = H at hP hS hce ⊢
    have hP : va_P D tkCl [(h0, .inr (6, oX8 (tu (tu (tu (tu (tu (tu (tu i0 0 size) 1 xu1.1) 2 xu1.2.1) 3 xu1.2.2.1) 4 xu1.2.2.2.1) 5 xu1.2.2.2.2.1) 9 xu1.2.2.2.2.2.1) (tuv (tuv (tuv (tuv v0 6 (.ref (r0 10))) 7 (.ref (r0 7))) 8 (.ref (r0 8))) 10 (.ref (r0 10))))), ((r1 0), .inr (1, oX1 (tu (tu i2 6 xu1.2.2.2.2.2.2.1) 7 xu1.2.2.2.2.2.2.2.1) v2)), ((r0 7), .inr (2, oX2 r3 (tu (tu (tu (tu (tu (tu (tu i3 0 xu1.2.2.2.2.2.2.2.2.1) 1 xu1.2.2.2.2.2.2.2.2.2.1) 2 xu1.2.2.2.2.2.2.2.2.2.2.1) 3 xu1.2.2.2.2.2.2.2.2.2.2.2.1) 4 xu1.2.2.2.2.2.2.2.2.2.2.2.2.1) 5 xu1.2.2.2.2.2.2.2.2.2.2.2.2.2.1) 6 clauses))), ((r3 10), .inl (ar 2, 64, .inl xu1.2.2.2.2.2.2.2.2.2.2.2.2.2.2.1)), ((r3 8), .inl (ar 0, 64, .inl xu1.2.2.2.2.2.2.2.2.2.2.2.2.2.2.2.1)), ((r3 9), .inl (ar 0, 3, .inl xu1.2.2.2.2.2.2.2.2.2.2.2.2.2.2.2.2.1)), ((r3 7), .inl (ar 0, 6, .inl xu1.2.2.2.2.2.2.2.2.2.2.2.2.2.2.2.2.2))] H := hP
    have hD : va_D A [(h0, .inr (6, oX8 (tu (tu (tu (tu (tu (tu (tu i0 0 size) 1 xu1.1) 2 xu1.2.1) 3 xu1.2.2.1) 4 xu1.2.2.2.1) 5 xu1.2.2.2.2.1) 9 xu1.2.2.2.2.2.1) (tuv (tuv (tuv (tuv v0 6 (.ref (r0 10))) 7 (.ref (r0 7))) 8 (.ref (r0 8))) 10 (.ref (r0 10))))), ((r1 0), .inr (1, oX1 (tu (tu i2 6 xu1.2.2.2.2.2.2.1) 7 xu1.2.2.2.2.2.2.2.1) v2)), ((r0 7), .inr (2, oX2 r3 (tu (tu (tu (tu (tu (tu (tu i3 0 xu1.2.2.2.2.2.2.2.2.1) 1 xu1.2.2.2.2.2.2.2.2.2.1) 2 xu1.2.2.2.2.2.2.2.2.2.2.1) 3 xu1.2.2.2.2.2.2.2.2.2.2.2.1) 4 xu1.2.2.2.2.2.2.2.2.2.2.2.2.1) 5 xu1.2.2.2.2.2.2.2.2.2.2.2.2.2.1) 6 clauses))), ((r3 10), .inl (ar 2, 64, .inl xu1.2.2.2.2.2.2.2.2.2.2.2.2.2.2.1)), ((r3 8), .inl (ar 0, 64, .inl xu1.2.2.2.2.2.2.2.2.2.2.2.2.2.2.2.1)), ((r3 9), .inl (ar 0, 3, .inl xu1.2.2.2.2.2.2.2.2.2.2.2.2.2.2.2.2.1)), ((r3 7), .inl (ar 0, 6, .inl xu1.2.2.2.2.2.2.2.2.2.2.2.2.2.2.2.2.2))] := hD
    have eo := tk_pr hF
    subst eo
    exact tx_out (fun x9 hx9 => (htab x9 hx9).elim) hlocks hce hcv hcl (fun t ht hW => ⟨_, rfl, ⟨rfl, rfl, tk_pst ht hP hD⟩, hS.F ht⟩) hS.2.2 (Nat.le_of_ble_eq_true rfl) (Nat.le_of_ble_eq_true rfl)
  obtain ⟨zw, zw2⟩ := zw
  subst zw
  subst zw2
  have hF := tk_pss hF
  obtain ⟨hP, hD⟩ := tk_join hP hD zk [0, 1, 2, 3, 4, 5, 6] rfl rfl (va_free hD hS hA [0, 1, 2, 3, 4, 5, 6] rfl) (zht ▸ zB.1) zB.2 (Nat.le_of_ble_eq_true rfl)
  have hS := zS
  generalize H1 = H at hP hS ⊢
  have hP : va_P D tkCl [(h0, .inr (6, oX8 (tu (tu (tu (tu (tu (tu (tu i0 0 size) 1 ru1.2.1) 2 ru1.2.2.1) 3 ru1.2.2.2.1) 4 ru1.2.2.2.2.1) 5 ru1.2.2.2.2.2.1) 9 ru1.2.2.2.2.2.2.1) (tuv (tuv (tuv (tuv v0 6 (.ref (r0 10))) 7 (.ref (r0 7))) 8 (.ref (r0 8))) 10 (.ref (r0 10))))), ((r1 0), .inr (1, oX1 (tu (tu i2 6 ru1.2.2.2.2.2.2.2.1) 7 ru1.2.2.2.2.2.2.2.2.1) v2)), ((r0 7), .inr (2, oX2 r3 (tu (tu (tu (tu (tu (tu (tu i3 0 ru1.2.2.2.2.2.2.2.2.2.1) 1 ru1.2.2.2.2.2.2.2.2.2.2.1) 2 ru1.2.2.2.2.2.2.2.2.2.2.2.1) 3 ru1.2.2.2.2.2.2.2.2.2.2.2.2.1) 4 ru1.2.2.2.2.2.2.2.2.2.2.2.2.2.1) 5 ru1.2.2.2.2.2.2.2.2.2.2.2.2.2.2.1) 6 clauses))), ((r3 10), .inl (ar 2, 64, .inl ru1.2.2.2.2.2.2.2.2.2.2.2.2.2.2.2.1)), ((r3 8), .inl (ar 0, 64, .inl ru1.2.2.2.2.2.2.2.2.2.2.2.2.2.2.2.2.1)), ((r3 9), .inl (ar 0, 3, .inl ru1.2.2.2.2.2.2.2.2.2.2.2.2.2.2.2.2.2.1)), ((r3 7), .inl (ar 0, 6, .inl ru1.2.2.2.2.2.2.2.2.2.2.2.2.2.2.2.2.2.2))] H := hP
  have hD : va_D A [(h0, .inr (6, oX8 (tu (tu (tu (tu (tu (tu (tu i0 0 size) 1 ru1.2.1) 2 ru1.2.2.1) 3 ru1.2.2.2.1) 4 ru1.2.2.2.2.1) 5 ru1.2.2.2.2.2.1) 9 ru1.2.2.2.2.2.2.1) (tuv (tuv (tuv (tuv v0 6 (.ref (r0 10))) 7 (.ref (r0 7))) 8 (.ref (r0 8))) 10 (.ref (r0 10))))), ((r1 0), .inr (1, oX1 (tu (tu i2 6 ru1.2.2.2.2.2.2.2.1) 7 ru1.2.2.2.2.2.2.2.2.1) v2)), ((r0 7), .inr (2, oX2 r3 (tu (tu (tu (tu (tu (tu (tu i3 0 ru1.2.2.2.2.2.2.2.2.2.1) 1 ru1.2.2.2.2.2.2.2.2.2.2.1) 2 ru1.2.2.2.2.2.2.2.2.2.2.2.1) 3 ru1.2.2.2.2.2.2.2.2.2.2.2.2.1) 4 ru1.2.2.2.2.2.2.2.2.2.2.2.2.2.1) 5 ru1.2.2.2.2.2.2.2.2.2.2.2.2.2.2.1) 6 clauses))), ((r3 10), .inl (ar 2, 64, .inl ru1.2.2.2.2.2.2.2.2.2.2.2.2.2.2.2.1)), ((r3 8), .inl (ar 0, 64, .inl ru1.2.2.2.2.2.2.2.2.2.2.2.2.2.2.2.2.1)), ((r3 9), .inl (ar 0, 3, .inl ru1.2.2.2.2.2.2.2.2.2.2.2.2.2.2.2.2.2.1)), ((r3 7), .inl (ar 0, 6, .inl ru1.2.2.2.2.2.2.2.2.2.2.2.2.2.2.2.2.2.2))] := hD
  refine va_putN (D := D) (ci := 2) (v := .int ru1.1) (ty := .int) (C := RX2) (T := TX2) (N := 11) hx hb hts in_X2 tyX2 tyX2_ok nmX2 hown hK hP hD hS 2 rfl rfl 6 (by decide) (hE.2.1.use q239 rfl rfl) (fun _ h9 => h9) rfl (by decide +kernel) rfl rfl (Nat.le_of_ble_eq_true rfl) dX8_read_8 (fun H locs hP hD hS => ?_)
  have hP : va_P D tkCl [(h0, .inr (6, oX8 (tu (tu (tu (tu (tu (tu (tu i0 0 size) 1 ru1.2.1) 2 ru1.2.2.1) 3 ru1.2.2.2.1) 4 ru1.2.2.2.2.1) 5 ru1.2.2.2.2.2.1) 9 ru1.2.2.2.2.2.2.1) (tuv (tuv (tuv (tuv v0 6 (.ref (r0 10))) 7 (.ref (r0 7))) 8 (.ref (r0 8))) 10 (.ref (r0 10))))), ((r1 0), .inr (1, oX1 (tu (tu i2 6 ru1.2.2.2.2.2.2.2.1) 7 ru1.2.2.2.2.2.2.2.2.1) v2)), ((r0 7), .inr (2, oX2 r3 (tu (tu (tu (tu (tu (tu (tu i3 0 ru1.2.2.2.2.2.2.2.2.2.1) 1 ru1.2.2.2.2.2.2.2.2.2.2.1) 2 ru1.2.2.2.2.2.2.2.2.2.2.2.1) 3 ru1.2.2.2.2.2.2.2.2.2.2.2.2.1) 4 ru1.2.2.2.2.2.2.2.2.2.2.2.2.2.1) 5 ru1.2.2.2.2.2.2.2.2.2.2.2.2.2.2.1) 6 ru1.1))), ((r3 10), .inl (ar 2, 64, .inl ru1.2.2.2.2.2.2.2.2.2.2.2.2.2.2.2.1)), ((r3 8), .inl (ar 0, 64, .inl ru1.2.2.2.2.2.2.2.2.2.2.2.2.2.2.2.2.1)), ((r3 9), .inl (ar 0, 3, .inl ru1.2.2.2.2.2.2.2.2.2.2.2.2.2.2.2.2.2.1)), ((r3 7), .inl (ar 0, 6, .inl ru1.2.2.2.2.2.2.2.2.2.2.2.2.2.2.2.2.2.2))] H := hP
  have hD : va_D A [(h0, .inr (6, oX8 (tu (tu (tu (tu (tu (tu (tu i0 0 size) 1 ru1.2.1) 2 ru1.2.2.1) 3 ru1.2.2.2.1) 4 ru1.2.2.2.2.1) 5 ru1.2.2.2.2.2.1) 9 ru1.2.2.2.2.2.2.1) (tuv (tuv (tuv (tuv v0 6 (.ref (r0 10))) 7 (.ref (r0 7))) 8 (.ref (r0 8))) 10 (.ref (r0 10))))), ((r1 0), .inr (1, oX1 (tu (tu i2 6 ru1.2.2.2.2.2.2.2.1) 7 ru1.2.2.2.2.2.2.2.2.1) v2)), ((r0 7), .inr (2, oX2 r3 (tu (tu (tu (tu (tu (tu (tu i3 0 ru1.2.2.2.2.2.2.2.2.2.1) 1 ru1.2.2.2.2.2.2.2.2.2.2.1) 2 ru1.2.2.2.2.2.2.2.2.2.2.2.1) 3 ru1.2.2.2.2.2.2.2.2.2.2.2.2.1) 4 ru1.2.2.2.2.2.2.2.2.2.2.2.2.2.1) 5 ru1.2.2.2.2.2.2.2.2.2.2.2.2.2.2.1) 6 ru1.1))), ((r3 10), .inl (ar 2, 64, .inl ru1.2.2.2.2.2.2.2.2.2.2.2.2.2.2.2.1)), ((r3 8), .inl (ar 0, 64, .inl ru1.2.2.2.2.2.2.2.2.2.2.2.2.2.2.2.2.1)), ((r3 9), .inl (ar 0, 3, .inl ru1.2.2.2.2.2.2.2.2.2.2.2.2.2.2.2.2.2.1)), ((r3 7), .inl (ar 0, 6, .inl ru1.2.2.2.2.2.2.2.2.2.2.2.2.2.2.2.2.2.2))] := hD
  refine lv_aload_n hx hb dX8_read_11 rfl (lv_at hl 0 rfl) ?_
  refine va_get (D := D) (ci := 6) (v := .ref (r0 7)) (C := RX8) (T := TX8) (N := 11) hx hb hts in_X8 hown hK hP 0 rfl rfl 7 (by decide) (hts _ q598) (fun _ h9 => h9) rfl dX8_read_12 ?_
  have eo := tk_pr hF
  subst eo
  refine tx_ret ?_
  exact W.aret (v := .ref (r0 7)) hx hb hr (Or.inl ⟨_, rfl⟩) (Or.inr ⟨_, rfl⟩) (fun t ht hW => ⟨⟨_, _, rfl, rfl, rfl, tk_pst ht hP hD⟩, hS.F ht⟩) hS.2.2 dX8_read_15
set_option maxHeartbeats 4000000 in
theorem mX7_init_X8 (l : Launch) (D : va_G) (ar : Nat → ClassId) (ad : Nat → Nat → Nat) (xs : va_W) (sz : Nat) (h0 h1 : Nat) (v0 : Nat → Value) (r1 : Nat → Nat) (i1 tape : Nat → Int32) (p1 : Int32) (o : (Int32 × Int32 × Int32 × Int32)) (hF : fX7_init_X8 tape p1 = some o) : Met l yX7_init (ws_ yX7_init cX7_init 3 none) ({ frames := 2, cells := 0, slots := 0, locals := 43 }) (va_Pc [.ref h0, .ref h1, .int p1] (tk_Pre D ar ad [(h0, .inr (6, oX8 (fun _ => 0) (tuv v0 10 (.ref h1))))] [(h1, .inr (0, oX0 r1 i1)), ((r1 1), .inl (ar 1, 900, .inl tape))] xs sz)) (va_Qv (fun _ : Unit => True) (fun _ t => tk_Post D (va_A [(h0, .inr (6, oX8 (fun _ => 0) (tuv v0 10 (.ref h1))))] sz) [(h0, .inr (6, oX8 (tu (tu (tu (tu (tu (tu (tu (fun _ => 0) 0 p1) 1 o.1) 2 o.2.1) 3 o.2.2.1) 4 o.2.2.2) 5 0) 9 0) (tuv (tuv v0 6 (.ref h1)) 10 (.ref h1))))] t) (va_A [(h0, .inr (6, oX8 (fun _ => 0) (tuv v0 10 (.ref h1))))] sz)) 0 0 (va_A [(h0, .inr (6, oX8 (fun _ => 0) (tuv v0 10 (.ref h1))))] sz) := by
  refine Met.ofW (cc := cX7_init) (maxL := 3) (ret := none) (by decide) rfl ?_
  intro p e s m args below meth c s₁ B hml hv
  obtain ⟨rfl, hsz, hP, hD0, hR, hX, hE⟩ := hv
  have hx := B.exec
  have hb := B.bytes
  have hr := B.returns
  have hts := atoms_spec (ws := (ws_ yX7_init cX7_init 3 none)) B.pre
  have hts : ∀ w ∈ lw_all, w.before _ s = true := fun w h => hts w (List.mem_cons_of_mem _ h)
  have hown : s.vm.findClass RX7 = some m.cls := findClass_of_methodNamed B.named
  have hlocks := B.notSynchronized
  have hin : meth.name = "<init>" := (name_of_methodNamed B.named B.method).1
  subst hsz
  have hD := hD0.self (sz := s.heap.size)
  generalize hAe : va_A [(h0, .inr (6, oX8 (fun _ => 0) (tuv v0 10 (.ref h1))))] s.heap.size = A at hD hR hX hE ⊢
  have hA : ∀ q : Nat, s.heap.size ≤ q → A q := fun q h => by rw [← hAe]; exact Or.inr h
  have hS : va_S A s.heap s.heap [] := va_S.rf
  have hK := hE.1
  have hl := lv_entry ([.ref h0, .ref h1, .int p1]) (n := 3) (Nat.le_of_ble_eq_true rfl)
  rw [lg_entry_eq]
  generalize (lg_sl ([.ref h0, .ref h1, .int p1]) ++ List.replicate (3 - (lg_sl ([.ref h0, .ref h1, .int p1])).length) Slot.unset).toArray = ls at hl ⊢
  have hl : lv_has ls 3 [(0, .ref h0), (1, .ref h1), (2, .int p1)] := hl
  have hP : va_P D tkCl [(h0, .inr (6, oX8 (fun _ => 0) (tuv v0 10 (.ref h1))))] s.heap := hP
  unfold fX7_init_X8 at hF
  refine lv_aload_n hx hb dX7_init_0 rfl (lv_at hl 0 rfl) ?_
  refine lv_aload_n hx hb dX7_init_1 rfl (lv_at hl 1 rfl) ?_
  refine tk_putF (D := D) (ci := 6) (v := .ref h1) (ty := (.object "TideKeep")) (C := RX8) (T := TX8) (N := 11) hx hb hts in_X8 tyX8 tyX8_ok nmdX8 hown hK hP hD hS 0 rfl rfl 6 (by decide) (hts _ q609) (fun _ h9 => h9) rfl hin rfl (by decide +kernel) rfl rfl (Nat.le_of_ble_eq_true rfl) dX7_init_2 (fun H locs hP hD hS => ?_)
  have hP : va_P D tkCl [(h0, .inr (6, oX8 (fun _ => 0) (tuv (tuv v0 6 (.ref h1)) 10 (.ref h1))))] H := hP
  have hD : va_D A [(h0, .inr (6, oX8 (fun _ => 0) (tuv (tuv v0 6 (.ref h1)) 10 (.ref h1))))] := hD
  refine lv_aload_n hx hb dX7_init_5 rfl (lv_at hl 0 rfl) ?_
  refine W.objInit hx hb hown (hts _ q563) (hts _ q124) (hts _ q125) rfl (hl.1.trans hml.symm) rfl dX7_init_6 (Nat.le_of_ble_eq_true rfl) (Nat.le_of_ble_eq_true rfl) ?_
  refine W.eq (g2 := F0 m 9 ls []) rfl ?_
  refine lv_aload_n hx hb dX7_init_9 rfl (lv_at hl 0 rfl) ?_
  refine lv_iload_n hx hb dX7_init_10 rfl (lv_at hl 2 rfl) ?_
  refine tk_putF (D := D) (ci := 6) (v := .int p1) (ty := .int) (C := RX8) (T := TX8) (N := 11) hx hb hts in_X8 tyX8 tyX8_ok nmdX8 hown hK hP hD hS 0 rfl rfl 0 (by decide) (hts _ q602) (fun _ h9 => h9) rfl hin rfl (by decide +kernel) rfl rfl (Nat.le_of_ble_eq_true rfl) dX7_init_11 (fun H locs hP hD hS => ?_)
  have hP : va_P D tkCl [(h0, .inr (6, oX8 (tu (tu (tu (tu (tu (tu (tu (fun _ => 0) 0 p1) 1 0) 2 0) 3 0) 4 0) 5 0) 9 0) (tuv (tuv v0 6 (.ref h1)) 10 (.ref h1))))] H := hP
  have hD : va_D A [(h0, .inr (6, oX8 (tu (tu (tu (tu (tu (tu (tu (fun _ => 0) 0 p1) 1 0) 2 0) 3 0) 4 0) 5 0) 9 0) (tuv (tuv v0 6 (.ref h1)) 10 (.ref h1))))] := hD
  refine lv_aload_n hx hb dX7_init_14 rfl (lv_at hl 0 rfl) ?_
  have hP : va_P D tkCl [(h0, .inr (6, oX8 (tu (tu (tu (tu (tu (tu (tu (fun _ => 0) 0 p1) 1 0) 2 0) 3 0) 4 0) 5 0) 9 0) (tuv (tuv v0 6 (.ref h1)) 10 (.ref h1))))] H := hP
  have hD : va_D A [(h0, .inr (6, oX8 (tu (tu (tu (tu (tu (tu (tu (fun _ => 0) 0 p1) 1 0) 2 0) 3 0) 4 0) 5 0) 9 0) (tuv (tuv v0 6 (.ref h1)) 10 (.ref h1))))] := hD
  obtain ⟨u1, hGu1, hF⟩ := tk_pb hF
  refine va_callv (va_runU (As := []) (rest := []) ⟨hx, hb, hml, hown, hts⟩ (mX7_goOn_X8 (l := l) (D := D) (ar := ar) (ad := ad) (xs := xs) (sz := H.size) (h0 := h0) (r0 := (tur (tur (fun _ => 0) 6 h1) 10 h1)) (i0 := (tu (tu (tu (tu (tu (tu (tu (fun _ => 0) 0 p1) 1 0) 2 0) 3 0) 4 0) 5 0) 9 0)) (v0 := (tuv (tuv v0 6 (.ref h1)) 10 (.ref h1))) (r1 := r1) (i1 := i1) (size := p1) (tape := tape) (sort := 0) (v_at := 0) (v_to := 0) (v_value := 0) (hF := hGu1)) (tk_cwP (C := "TideKeep$BeachReader") (owner := "TideKeep$Reader") (x := ⟨"TideKeep$Reader", "goOn", "()V"⟩) 0 hts (lw_meth q570) rfl rfl rfl (by decide +kernel) ⟨(Nat.le_of_ble_eq_true rfl), (Nat.le_of_ble_eq_true rfl)⟩ (hts _ q564) (hts _ q566) (va_Decl.of (x := ⟨"TideKeep$Reader", "goOn", "()V"⟩) (hts _ q565) (hts _ q570)) (hts _ q567) (hts _ q565) (hts _ q102)) ⟨tk_blind, va_recv hK hP (ci := 6) (q0 := 0) rfl rfl, fun U hU hW => ⟨rfl, tk_mk hP hD hS hA hE hR hX [0] [1, 2] rfl rfl rfl rfl U hU hW⟩⟩ rfl rfl hl.1 rfl (lv_room (Nat.le_of_ble_eq_true rfl)) dX7_init_15 ⟨(Nat.le_of_ble_eq_true rfl), (Nat.le_of_ble_eq_true rfl)⟩) hS (fun q _ h => (va_free hD hS hA [0] rfl) q h) (va_free hD hS hA [0] rfl) (fun zu zt H1 zl zht zvm zw zB zz zk zS => ?_)
  obtain ⟨hP, hD⟩ := tk_join hP hD zk [0] rfl rfl (va_free hD hS hA [0] rfl) (zht ▸ zB.1) zB.2 (Nat.le_of_ble_eq_true rfl)
  have hS := zS
  generalize H1 = H at hP hS ⊢
  have hP : va_P D tkCl [(h0, .inr (6, oX8 (tu (tu (tu (tu (tu (tu (tu (fun _ => 0) 0 p1) 1 u1.1) 2 u1.2.1) 3 u1.2.2.1) 4 u1.2.2.2) 5 0) 9 0) (tuv (tuv v0 6 (.ref h1)) 10 (.ref h1))))] H := hP
  have hD : va_D A [(h0, .inr (6, oX8 (tu (tu (tu (tu (tu (tu (tu (fun _ => 0) 0 p1) 1 u1.1) 2 u1.2.1) 3 u1.2.2.1) 4 u1.2.2.2) 5 0) 9 0) (tuv (tuv v0 6 (.ref h1)) 10 (.ref h1))))] := hD
  have eo := tk_pr hF
  subst eo
  exact W.vret hx hb hr (fun t ht hW => ⟨⟨(), rfl, trivial, tk_pst ht hP hD⟩, hS.F ht⟩) hS.2.2 dX7_init_18
set_option maxHeartbeats 4000000 in
theorem mX8_init (l : Launch) (D : va_G) (ar : Nat → ClassId) (ad : Nat → Nat → Nat) (xs : va_W) (sz : Nat) (h0 h1 : Nat) (r1 : Nat → Nat) (i1 tape : Nat → Int32) (p1 : Int32) (o : (Int32 × Int32 × Int32 × Int32) × (Nat → Int32)) (hF : fX8_init tape p1 = some o) : Met l yX8_init (ws_ yX8_init cX8_init 3 none) ({ frames := 3, cells := 6, slots := 154, locals := 65 }) (va_Pc [.ref h0, .ref h1, .int p1] (tk_Pre D ar ad [(h0, .inr (6, oX8 (fun _ => 0) (fun _ => .null)))] [(h1, .inr (0, oX0 r1 i1)), ((r1 1), .inl (ar 1, 900, .inl tape))] xs sz)) (va_Qv (fun _ : Nat × Nat × Nat × Nat × Nat × Nat => True) (fun z t => tk_Post D (va_A [(h0, .inr (6, oX8 (fun _ => 0) (fun _ => .null)))] sz) [(h0, .inr (6, oX8 (tu (tu (tu (tu (tu (tu (tu (fun _ => 0) 0 p1) 1 o.1.1) 2 o.1.2.1) 3 o.1.2.2.1) 4 o.1.2.2.2) 5 0) 9 0) (tuv (tuv (tuv (tuv (fun _ => .null) 6 (.ref h1)) 7 (.ref z.1)) 8 (.ref z.2.2.2.2.2)) 10 (.ref h1)))), (z.1, .inr (2, oX2 (tur (tur (tur (tur (fun _ => 0) 7 z.2.1) 8 z.2.2.1) 9 z.2.2.2.1) 10 z.2.2.2.2.1) (tu (tu (tu (tu (tu (tu (tu (fun _ => 0) 0 5) 1 5) 2 4) 3 6) 4 1) 5 0) 6 0))), (z.2.1, .inl (ar 0, 6, .inl o.2)), (z.2.2.1, .inl (ar 0, 64, .inl (fun _ => 0))), (z.2.2.2.1, .inl (ar 0, 3, .inl (fun _ => 0))), (z.2.2.2.2.1, .inl (ar 2, 64, .inl (fun _ => 0))), (z.2.2.2.2.2, .inl (ar 5, 6, .inr (.inr (.inr (.inr (tk_kd ad))))))] t) (va_A [(h0, .inr (6, oX8 (fun _ => 0) (fun _ => .null)))] sz)) 6 154 (va_A [(h0, .inr (6, oX8 (fun _ => 0) (fun _ => .null)))] sz) := by
  refine Met.ofW (cc := cX8_init) (maxL := 3) (ret := none) (by decide) rfl ?_
  intro p e s m args below meth c s₁ B hml hv
  obtain ⟨rfl, hsz, hP, hD0, hR, hX, hE⟩ := hv
  have hx := B.exec
  have hb := B.bytes
  have hr := B.returns
  have hts := atoms_spec (ws := (ws_ yX8_init cX8_init 3 none)) B.pre
  have hts : ∀ w ∈ lw_all, w.before _ s = true := fun w h => hts w (List.mem_cons_of_mem _ h)
  have hown : s.vm.findClass RX8 = some m.cls := findClass_of_methodNamed B.named
  have hlocks := B.notSynchronized
  have hin : meth.name = "<init>" := (name_of_methodNamed B.named B.method).1
  subst hsz
  have hD := hD0.self (sz := s.heap.size)
  generalize hAe : va_A [(h0, .inr (6, oX8 (fun _ => 0) (fun _ => .null)))] s.heap.size = A at hD hR hX hE ⊢
  have hA : ∀ q : Nat, s.heap.size ≤ q → A q := fun q h => by rw [← hAe]; exact Or.inr h
  have hS : va_S A s.heap s.heap [] := va_S.rf
  have hK := hE.1
  have hl := lv_entry ([.ref h0, .ref h1, .int p1]) (n := 3) (Nat.le_of_ble_eq_true rfl)
  rw [lg_entry_eq]
  generalize (lg_sl ([.ref h0, .ref h1, .int p1]) ++ List.replicate (3 - (lg_sl ([.ref h0, .ref h1, .int p1])).length) Slot.unset).toArray = ls at hl ⊢
  have hl : lv_has ls 3 [(0, .ref h0), (1, .ref h1), (2, .int p1)] := hl
  have hP : va_P D tkCl [(h0, .inr (6, oX8 (fun _ => 0) (fun _ => .null)))] s.heap := hP
  unfold fX8_init at hF
  refine lv_aload_n hx hb dX8_init_0 rfl (lv_at hl 0 rfl) ?_
  refine lv_aload_n hx hb dX8_init_1 rfl (lv_at hl 1 rfl) ?_
  refine tk_putF (D := D) (ci := 6) (v := .ref h1) (ty := (.object "TideKeep")) (C := RX8) (T := TX8) (N := 11) hx hb hts in_X8 tyX8 tyX8_ok nmdX8 hown hK hP hD hS 0 rfl rfl 10 (by decide) (hts _ q601) (fun _ h9 => h9) rfl hin rfl (by decide +kernel) rfl rfl (Nat.le_of_ble_eq_true rfl) dX8_init_2 (fun H locs hP hD hS => ?_)
  have hP : va_P D tkCl [(h0, .inr (6, oX8 (fun _ => 0) (tuv (fun _ => .null) 10 (.ref h1))))] H := hP
  have hD : va_D A [(h0, .inr (6, oX8 (fun _ => 0) (tuv (fun _ => .null) 10 (.ref h1))))] := hD
  refine lv_aload_n hx hb dX8_init_5 rfl (lv_at hl 0 rfl) ?_
  refine lv_aload_n hx hb dX8_init_6 rfl (lv_at hl 1 rfl) ?_
  refine lv_iload_n hx hb dX8_init_7 rfl (lv_at hl 2 rfl) ?_
  obtain ⟨u1, hGu1, hF⟩ := tk_pb hF
  refine va_callv (va_runI (As := [.ref h1, .int p1]) (rest := []) ⟨hx, hb, hml, hown, hts⟩ (mX7_init_X8 (l := l) (D := D) (ar := ar) (ad := ad) (xs := xs) (sz := H.size) (h0 := h0) (h1 := h1) (v0 := (tuv (fun _ => .null) 10 (.ref h1))) (r1 := r1) (i1 := i1) (tape := tape) (p1 := p1) (hF := hGu1)) (cwI 2 hts (lw_meth q562) rfl rfl rfl (hts _ q102) (hts _ q560) (hts _ q561) rfl (by decide +kernel) ⟨(Nat.le_of_ble_eq_true rfl), (Nat.le_of_ble_eq_true rfl)⟩) ⟨tk_blind, fun U hU hW => ⟨rfl, tk_mk hP hD hS hA hE hR hX [0] [1, 2] rfl rfl rfl rfl U hU hW⟩⟩ rfl rfl hl.1 rfl (lv_room (Nat.le_of_ble_eq_true rfl)) dX8_init_8 ⟨(Nat.le_of_ble_eq_true rfl), (Nat.le_of_ble_eq_true rfl)⟩) hS (fun q _ h => (va_free hD hS hA [0] rfl) q h) (va_free hD hS hA [0] rfl) (fun zu zt H1 zl zht zvm zw zB zz zk zS => ?_)
  obtain ⟨hP, hD⟩ := tk_join hP hD zk [0] rfl rfl (va_free hD hS hA [0] rfl) (zht ▸ zB.1) zB.2 (Nat.le_of_ble_eq_true rfl)
  have hS := zS
  generalize H1 = H at hP hS ⊢
  have hP : va_P D tkCl [(h0, .inr (6, oX8 (tu (tu (tu (tu (tu (tu (tu (fun _ => 0) 0 p1) 1 u1.1) 2 u1.2.1) 3 u1.2.2.1) 4 u1.2.2.2) 5 0) 9 0) (tuv (tuv (fun _ => .null) 6 (.ref h1)) 10 (.ref h1))))] H := hP
  have hD : va_D A [(h0, .inr (6, oX8 (tu (tu (tu (tu (tu (tu (tu (fun _ => 0) 0 p1) 1 u1.1) 2 u1.2.1) 3 u1.2.2.1) 4 u1.2.2.2) 5 0) 9 0) (tuv (tuv (fun _ => .null) 6 (.ref h1)) 10 (.ref h1))))] := hD
  refine lv_aload_n hx hb dX8_init_11 rfl (lv_at hl 0 rfl) ?_
  refine va_new (ci := 2) (fs := zX2) (C := RX2) (T := TX2) (N := 11) hx hb hts in_X2 tyX2 tyX2_ok hown (hts _ q583) (hts _ q194) (hts _ q92) hK hP hD hS hA rfl dfX2 (Nat.le_of_ble_eq_true rfl) (Nat.le_of_ble_eq_true rfl) dX8_init_12 (fun n12 H hP hD hS => ?_)
  have hP : va_P D tkCl [(h0, .inr (6, oX8 (tu (tu (tu (tu (tu (tu (tu (fun _ => 0) 0 p1) 1 u1.1) 2 u1.2.1) 3 u1.2.2.1) 4 u1.2.2.2) 5 0) 9 0) (tuv (tuv (fun _ => .null) 6 (.ref h1)) 10 (.ref h1)))), (n12, .inr (2, [.int 0, .int 0, .int 0, .int 0, .int 0, .int 0, .int 0, .null, .null, .null, .null]))] H := hP
  have hD : va_D A [(h0, .inr (6, oX8 (tu (tu (tu (tu (tu (tu (tu (fun _ => 0) 0 p1) 1 u1.1) 2 u1.2.1) 3 u1.2.2.1) 4 u1.2.2.2) 5 0) 9 0) (tuv (tuv (fun _ => .null) 6 (.ref h1)) 10 (.ref h1)))), (n12, .inr (2, [.int 0, .int 0, .int 0, .int 0, .int 0, .int 0, .int 0, .null, .null, .null, .null]))] := hD
  refine lv_dup hx hb dX8_init_15 rfl ?_
  obtain ⟨u2, hGu2, hF⟩ := tk_pb hF
  refine va_callv (va_runI (As := []) (rest := [.ref n12, .ref h0]) ⟨hx, hb, hml, hown, hts⟩ (mX2_init (l := l) (D := D) (ar := ar) (ad := ad) (xs := xs) (sz := H.size) (h0 := n12) (hF := hGu2)) (cwI 0 hts (lw_meth q197) rfl rfl rfl (hts _ q92) (hts _ q584) (hts _ q196) rfl (by decide +kernel) ⟨(Nat.le_of_ble_eq_true rfl), (Nat.le_of_ble_eq_true rfl)⟩) ⟨tk_blind, fun U hU hW => ⟨rfl, tk_mk hP hD hS hA hE hR hX [1] [] rfl rfl rfl rfl U hU hW⟩⟩ rfl rfl hl.1 rfl (lv_room (Nat.le_of_ble_eq_true rfl)) dX8_init_16 ⟨(Nat.le_of_ble_eq_true rfl), (Nat.le_of_ble_eq_true rfl)⟩) hS (fun q _ h => (va_free hD hS hA [1] rfl) q h) (va_free hD hS hA [1] rfl) (fun zu zt H1 zl zht zvm zw zB zz zk zS => ?_)
  obtain ⟨n16_33, n16_41, n16_48, n16_56⟩ := zu
  obtain ⟨hP, hD⟩ := tk_join hP hD zk [1] rfl rfl (va_free hD hS hA [1] rfl) (zht ▸ zB.1) zB.2 (Nat.le_of_ble_eq_true rfl)
  have hS := zS
  generalize H1 = H at hP hS ⊢
  have hP : va_P D tkCl [(h0, .inr (6, oX8 (tu (tu (tu (tu (tu (tu (tu (fun _ => 0) 0 p1) 1 u1.1) 2 u1.2.1) 3 u1.2.2.1) 4 u1.2.2.2) 5 0) 9 0) (tuv (tuv (fun _ => .null) 6 (.ref h1)) 10 (.ref h1)))), (n12, .inr (2, oX2 (tur (tur (tur (tur (fun _ => 0) 7 n16_33) 8 n16_41) 9 n16_48) 10 n16_56) (tu (tu (tu (tu (tu (tu (tu (fun _ => 0) 0 5) 1 5) 2 4) 3 6) 4 1) 5 0) 6 0))), (n16_33, .inl (ar 0, 6, .inl u2)), (n16_41, .inl (ar 0, 64, .inl (fun _ => 0))), (n16_48, .inl (ar 0, 3, .inl (fun _ => 0))), (n16_56, .inl (ar 2, 64, .inl (fun _ => 0)))] H := hP
  have hD : va_D A [(h0, .inr (6, oX8 (tu (tu (tu (tu (tu (tu (tu (fun _ => 0) 0 p1) 1 u1.1) 2 u1.2.1) 3 u1.2.2.1) 4 u1.2.2.2) 5 0) 9 0) (tuv (tuv (fun _ => .null) 6 (.ref h1)) 10 (.ref h1)))), (n12, .inr (2, oX2 (tur (tur (tur (tur (fun _ => 0) 7 n16_33) 8 n16_41) 9 n16_48) 10 n16_56) (tu (tu (tu (tu (tu (tu (tu (fun _ => 0) 0 5) 1 5) 2 4) 3 6) 4 1) 5 0) 6 0))), (n16_33, .inl (ar 0, 6, .inl u2)), (n16_41, .inl (ar 0, 64, .inl (fun _ => 0))), (n16_48, .inl (ar 0, 3, .inl (fun _ => 0))), (n16_56, .inl (ar 2, 64, .inl (fun _ => 0)))] := hD
  refine tk_putF (D := D) (ci := 6) (v := .ref n12) (ty := (.object "TideKeep$Beach")) (C := RX8) (T := TX8) (N := 11) hx hb hts in_X8 tyX8 tyX8_ok nmdX8 hown hK hP hD hS 0 rfl rfl 7 (by decide) (hts _ q598) (fun _ h9 => h9) rfl hin rfl (by decide +kernel) rfl rfl (Nat.le_of_ble_eq_true rfl) dX8_init_19 (fun H locs hP hD hS => ?_)
  have hP : va_P D tkCl [(h0, .inr (6, oX8 (tu (tu (tu (tu (tu (tu (tu (fun _ => 0) 0 p1) 1 u1.1) 2 u1.2.1) 3 u1.2.2.1) 4 u1.2.2.2) 5 0) 9 0) (tuv (tuv (tuv (fun _ => .null) 6 (.ref h1)) 7 (.ref n12)) 10 (.ref h1)))), (n12, .inr (2, oX2 (tur (tur (tur (tur (fun _ => 0) 7 n16_33) 8 n16_41) 9 n16_48) 10 n16_56) (tu (tu (tu (tu (tu (tu (tu (fun _ => 0) 0 5) 1 5) 2 4) 3 6) 4 1) 5 0) 6 0))), (n16_33, .inl (ar 0, 6, .inl u2)), (n16_41, .inl (ar 0, 64, .inl (fun _ => 0))), (n16_48, .inl (ar 0, 3, .inl (fun _ => 0))), (n16_56, .inl (ar 2, 64, .inl (fun _ => 0)))] H := hP
  have hD : va_D A [(h0, .inr (6, oX8 (tu (tu (tu (tu (tu (tu (tu (fun _ => 0) 0 p1) 1 u1.1) 2 u1.2.1) 3 u1.2.2.1) 4 u1.2.2.2) 5 0) 9 0) (tuv (tuv (tuv (fun _ => .null) 6 (.ref h1)) 7 (.ref n12)) 10 (.ref h1)))), (n12, .inr (2, oX2 (tur (tur (tur (tur (fun _ => 0) 7 n16_33) 8 n16_41) 9 n16_48) 10 n16_56) (tu (tu (tu (tu (tu (tu (tu (fun _ => 0) 0 5) 1 5) 2 4) 3 6) 4 1) 5 0) 6 0))), (n16_33, .inl (ar 0, 6, .inl u2)), (n16_41, .inl (ar 0, 64, .inl (fun _ => 0))), (n16_48, .inl (ar 0, 3, .inl (fun _ => 0))), (n16_56, .inl (ar 2, 64, .inl (fun _ => 0)))] := hD
  refine lv_aload_n hx hb dX8_init_22 rfl (lv_at hl 0 rfl) ?_
  refine va_callr (va_runS (As := []) (rest := [.ref h0]) ⟨hx, hb, hml, hown, hts⟩ (mX3_values (l := l) (D := D) (ar := ar) (ad := ad) (xs := xs) (sz := H.size)) (va_cwS 0 hts (lw_S q585 q586 q94 q587) rfl rfl rfl (by decide +kernel) ⟨(Nat.le_of_ble_eq_true rfl), (Nat.le_of_ble_eq_true rfl)⟩) ⟨tk_blind, fun U hU hW => ⟨rfl, tk_mk hP hD hS hA hE hR hX [] [] rfl rfl rfl rfl U hU hW⟩⟩ rfl rfl hl.1 rfl (lv_room (Nat.le_of_ble_eq_true rfl)) dX8_init_23 ⟨(Nat.le_of_ble_eq_true rfl), (Nat.le_of_ble_eq_true rfl)⟩) hS (fun q _ h => (va_free hD hS hA [] rfl) q h) (va_free hD hS hA [] rfl) (fun zu n23 zt H1 zl zht zvm zw zB zz zk zS => ?_)
  obtain ⟨hP, hD⟩ := tk_join hP hD zk [] rfl rfl (va_free hD hS hA [] rfl) (zht ▸ zB.1) zB.2 (Nat.le_of_ble_eq_true rfl)
  have hS := zS
  generalize H1 = H at hP hS ⊢
  have hP : va_P D tkCl [(h0, .inr (6, oX8 (tu (tu (tu (tu (tu (tu (tu (fun _ => 0) 0 p1) 1 u1.1) 2 u1.2.1) 3 u1.2.2.1) 4 u1.2.2.2) 5 0) 9 0) (tuv (tuv (tuv (fun _ => .null) 6 (.ref h1)) 7 (.ref n12)) 10 (.ref h1)))), (n12, .inr (2, oX2 (tur (tur (tur (tur (fun _ => 0) 7 n16_33) 8 n16_41) 9 n16_48) 10 n16_56) (tu (tu (tu (tu (tu (tu (tu (fun _ => 0) 0 5) 1 5) 2 4) 3 6) 4 1) 5 0) 6 0))), (n16_33, .inl (ar 0, 6, .inl u2)), (n16_41, .inl (ar 0, 64, .inl (fun _ => 0))), (n16_48, .inl (ar 0, 3, .inl (fun _ => 0))), (n16_56, .inl (ar 2, 64, .inl (fun _ => 0))), (n23, .inl (ar 5, 6, .inr (.inr (.inr (.inr (tk_kd ad))))))] H := hP
  have hD : va_D A [(h0, .inr (6, oX8 (tu (tu (tu (tu (tu (tu (tu (fun _ => 0) 0 p1) 1 u1.1) 2 u1.2.1) 3 u1.2.2.1) 4 u1.2.2.2) 5 0) 9 0) (tuv (tuv (tuv (fun _ => .null) 6 (.ref h1)) 7 (.ref n12)) 10 (.ref h1)))), (n12, .inr (2, oX2 (tur (tur (tur (tur (fun _ => 0) 7 n16_33) 8 n16_41) 9 n16_48) 10 n16_56) (tu (tu (tu (tu (tu (tu (tu (fun _ => 0) 0 5) 1 5) 2 4) 3 6) 4 1) 5 0) 6 0))), (n16_33, .inl (ar 0, 6, .inl u2)), (n16_41, .inl (ar 0, 64, .inl (fun _ => 0))), (n16_48, .inl (ar 0, 3, .inl (fun _ => 0))), (n16_56, .inl (ar 2, 64, .inl (fun _ => 0))), (n23, .inl (ar 5, 6, .inr (.inr (.inr (.inr (tk_kd ad))))))] := hD
  refine tk_putF (D := D) (ci := 6) (v := .ref n23) (ty := (.array (.object "TideKeep$Told"))) (C := RX8) (T := TX8) (N := 11) hx hb hts in_X8 tyX8 tyX8_ok nmdX8 hown hK hP hD hS 0 rfl rfl 8 (by decide) (hts _ q599) (fun _ h9 => h9) rfl hin rfl (by decide +kernel) rfl rfl (Nat.le_of_ble_eq_true rfl) dX8_init_26 (fun H locs hP hD hS => ?_)
  have hP : va_P D tkCl [(h0, .inr (6, oX8 (tu (tu (tu (tu (tu (tu (tu (fun _ => 0) 0 p1) 1 u1.1) 2 u1.2.1) 3 u1.2.2.1) 4 u1.2.2.2) 5 0) 9 0) (tuv (tuv (tuv (tuv (fun _ => .null) 6 (.ref h1)) 7 (.ref n12)) 8 (.ref n23)) 10 (.ref h1)))), (n12, .inr (2, oX2 (tur (tur (tur (tur (fun _ => 0) 7 n16_33) 8 n16_41) 9 n16_48) 10 n16_56) (tu (tu (tu (tu (tu (tu (tu (fun _ => 0) 0 5) 1 5) 2 4) 3 6) 4 1) 5 0) 6 0))), (n16_33, .inl (ar 0, 6, .inl u2)), (n16_41, .inl (ar 0, 64, .inl (fun _ => 0))), (n16_48, .inl (ar 0, 3, .inl (fun _ => 0))), (n16_56, .inl (ar 2, 64, .inl (fun _ => 0))), (n23, .inl (ar 5, 6, .inr (.inr (.inr (.inr (tk_kd ad))))))] H := hP
  have hD : va_D A [(h0, .inr (6, oX8 (tu (tu (tu (tu (tu (tu (tu (fun _ => 0) 0 p1) 1 u1.1) 2 u1.2.1) 3 u1.2.2.1) 4 u1.2.2.2) 5 0) 9 0) (tuv (tuv (tuv (tuv (fun _ => .null) 6 (.ref h1)) 7 (.ref n12)) 8 (.ref n23)) 10 (.ref h1)))), (n12, .inr (2, oX2 (tur (tur (tur (tur (fun _ => 0) 7 n16_33) 8 n16_41) 9 n16_48) 10 n16_56) (tu (tu (tu (tu (tu (tu (tu (fun _ => 0) 0 5) 1 5) 2 4) 3 6) 4 1) 5 0) 6 0))), (n16_33, .inl (ar 0, 6, .inl u2)), (n16_41, .inl (ar 0, 64, .inl (fun _ => 0))), (n16_48, .inl (ar 0, 3, .inl (fun _ => 0))), (n16_56, .inl (ar 2, 64, .inl (fun _ => 0))), (n23, .inl (ar 5, 6, .inr (.inr (.inr (.inr (tk_kd ad))))))] := hD
  have eo := tk_pr hF
  subst eo
  exact W.vret hx hb hr (fun t ht hW => ⟨⟨(n12, n16_33, n16_41, n16_48, n16_56, n23), rfl, trivial, tk_pst ht hP hD⟩, hS.F ht⟩) hS.2.2 dX8_init_29
