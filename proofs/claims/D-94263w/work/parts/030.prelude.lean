/-! TK PRELUDE: pure machinery of tail-calling blocks, worlds in one piece, calls in one piece -/
set_option maxRecDepth 100000
def tk_it {S O : Type} (f : S → Option (S ⊕ O)) : Nat → S → Option O
  | 0, _ => none
  | n + 1, s => match f s with
    | none => none
    | some (.inl t) => tk_it f n t
    | some (.inr o) => some o
def tk_k {S O : Type} (f : S → Option (S ⊕ O)) (n : Nat) (x : Option (S ⊕ O)) : Option O :=
  match x with
  | none => none
  | some (.inl t) => tk_it f n t
  | some (.inr o) => some o
def tk_l {α β : Type} (v : α) (k : α → β) : β := k v
theorem tk_it_s {S O : Type} {f : S → Option (S ⊕ O)} {n : Nat} {s : S} : tk_it f (n + 1) s = tk_k f n (f s) := rfl
theorem tk_it_mono {S O : Type} {f : S → Option (S ⊕ O)} : ∀ (n : Nat) (s : S) (o : O), tk_it f n s = some o → tk_it f (n + 1) s = some o := by
  intro n
  induction n with
  | zero => intro s o h; cases h
  | succ n ih =>
    intro s o h
    rw [tk_it_s] at h ⊢
    cases hx : f s with
    | none => rw [hx] at h; cases h
    | some y =>
      rw [hx] at h
      cases y with
      | inl t => exact ih t o h
      | inr q => exact h
theorem tk_it_add {S O : Type} {f : S → Option (S ⊕ O)} {n : Nat} {s : S} {o : O} (h : tk_it f n s = some o) : ∀ k : Nat, tk_it f (n + k) s = some o := by
  intro k
  induction k with
  | zero => exact h
  | succ k ih => exact tk_it_mono _ _ _ ih
theorem tk_it_det {S O : Type} {f : S → Option (S ⊕ O)} {n m : Nat} {s : S} {o q : O} (h : tk_it f n s = some o) (g : tk_it f m s = some q) : o = q := by
  have h1 := tk_it_add h m
  have g1 := tk_it_add g n
  rw [Nat.add_comm] at g1
  exact Option.some.inj (h1.symm.trans g1)
/-- run the blocks to their end -/
noncomputable def tk_lp {S O : Type} (f : S → Option (S ⊕ O)) (s : S) : Option O :=
  @dite (Option O) (∃ (o : O) (n : Nat), tk_it f n s = some o) (Classical.propDecidable _) (fun h => some (Classical.choose h)) (fun _ => none)
theorem tk_lp_of {S O : Type} {f : S → Option (S ⊕ O)} {n : Nat} {s : S} {o : O} (h : tk_it f n s = some o) : tk_lp f s = some o := by
  have hx : ∃ (o : O) (n : Nat), tk_it f n s = some o := ⟨o, n, h⟩
  obtain ⟨m, hm⟩ := Classical.choose_spec hx
  unfold tk_lp
  rw [dif_pos hx, tk_it_det hm h]
theorem tk_lp_it {S O : Type} {f : S → Option (S ⊕ O)} {s : S} {o : O} (h : tk_lp f s = some o) : ∃ n : Nat, tk_it f n s = some o := by
  by_cases hx : ∃ (o : O) (n : Nat), tk_it f n s = some o
  · unfold tk_lp at h
    rw [dif_pos hx] at h
    obtain ⟨n, hn⟩ := Classical.choose_spec hx
    rw [Option.some.inj h] at hn
    exact ⟨n, hn⟩
  · unfold tk_lp at h
    rw [dif_neg hx] at h
    cases h
noncomputable def tk_fin {S O : Type} (f : S → Option (S ⊕ O)) (x : Option (S ⊕ O)) : Option O :=
  match x with
  | none => none
  | some (.inl t) => tk_lp f t
  | some (.inr o) => some o
theorem tk_lp_eq {S O : Type} (f : S → Option (S ⊕ O)) (s : S) : tk_lp f s = tk_fin f (f s) := by
  cases hx : f s with
  | none =>
    cases hl : tk_lp f s with
    | none => rfl
    | some o =>
      obtain ⟨n, hn⟩ := tk_lp_it hl
      cases n with
      | zero => cases hn
      | succ n =>
        rw [tk_it_s, hx] at hn
        cases hn
  | some y =>
    cases y with
    | inr o => exact tk_lp_of (n := 1) (by rw [tk_it_s, hx]; rfl)
    | inl t =>
      show tk_lp f s = tk_lp f t
      cases hl : tk_lp f t with
      | some o =>
        obtain ⟨n, hn⟩ := tk_lp_it hl
        exact tk_lp_of (n := n + 1) (by rw [tk_it_s, hx]; exact hn)
      | none =>
        cases hs : tk_lp f s with
        | none => rfl
        | some o =>
          obtain ⟨n, hn⟩ := tk_lp_it hs
          cases n with
          | zero => cases hn
          | succ n =>
            rw [tk_it_s, hx] at hn
            rw [tk_lp_of hn] at hl
            cases hl
theorem tk_fin_t {S O : Type} {f : S → Option (S ⊕ O)} {c : Prop} [Decidable c] {a b : Option (S ⊕ O)} : tk_fin f (if c then a else b) = if c then tk_fin f a else tk_fin f b := by
  split <;> rfl
theorem tk_fin_b {S O α : Type} {f : S → Option (S ⊕ O)} {x : Option α} {k : α → Option (S ⊕ O)} : tk_fin f (x.bind k) = x.bind (fun a => tk_fin f (k a)) := by
  cases x <;> rfl
theorem tk_fin_l {S O α : Type} {f : S → Option (S ⊕ O)} {v : α} {k : α → Option (S ⊕ O)} : tk_fin f (tk_l v k) = tk_l v (fun a => tk_fin f (k a)) := of_eq_true (eq_true rfl)
theorem tk_fin_n {S O : Type} {f : S → Option (S ⊕ O)} : tk_fin f none = none := of_eq_true (eq_true rfl)
theorem tk_fin_i {S O : Type} {f : S → Option (S ⊕ O)} {t : S} : tk_fin f (some (.inl t)) = tk_lp f t := of_eq_true (eq_true rfl)
theorem tk_fin_r {S O : Type} {f : S → Option (S ⊕ O)} {o : O} : tk_fin f (some (.inr o)) = some o := of_eq_true (eq_true rfl)
-- plain trees
theorem tk_pt {α : Type} {c : Prop} [Decidable c] {a b : Option α} {o : α} (h : (if c then a else b) = some o) (hc : c) : a = some o := by rwa [if_pos hc] at h
theorem tk_pf {α : Type} {c : Prop} [Decidable c] {a b : Option α} {o : α} (h : (if c then a else b) = some o) (hc : ¬ c) : b = some o := by rwa [if_neg hc] at h
theorem tk_pg {α : Type} {c : Prop} [Decidable c] {a : Option α} {o : α} (h : (if c then a else none) = some o) : c ∧ a = some o := by
  by_cases hc : c
  · rw [if_pos hc] at h; exact ⟨hc, h⟩
  · rw [if_neg hc] at h; cases h
theorem tk_pb {α β : Type} {x : Option β} {k : β → Option α} {o : α} (h : x.bind k = some o) : ∃ r, x = some r ∧ k r = some o := by
  cases x with
  | none => cases h
  | some r => exact ⟨r, rfl, h⟩
theorem tk_pl {α β : Type} {v : β} {k : β → Option α} {o : α} (h : tk_l v k = some o) : ∃ y, y = v ∧ k y = some o := ⟨v, rfl, h⟩
theorem tk_pr {α : Type} {a o : α} (h : some a = some o) : a = o := Option.some.inj h
-- trees of a block
theorem tk_kt {S O : Type} {f : S → Option (S ⊕ O)} {n : Nat} {c : Prop} [Decidable c] {a b : Option (S ⊕ O)} {o : O} (h : tk_k f n (if c then a else b) = some o) (hc : c) : tk_k f n a = some o := by rwa [if_pos hc] at h
theorem tk_kf {S O : Type} {f : S → Option (S ⊕ O)} {n : Nat} {c : Prop} [Decidable c] {a b : Option (S ⊕ O)} {o : O} (h : tk_k f n (if c then a else b) = some o) (hc : ¬ c) : tk_k f n b = some o := by rwa [if_neg hc] at h
theorem tk_kg {S O : Type} {f : S → Option (S ⊕ O)} {n : Nat} {c : Prop} [Decidable c] {a : Option (S ⊕ O)} {o : O} (h : tk_k f n (if c then a else none) = some o) : c ∧ tk_k f n a = some o := by
  by_cases hc : c
  · rw [if_pos hc] at h; exact ⟨hc, h⟩
  · rw [if_neg hc] at h; cases h
theorem tk_kb {S O β : Type} {f : S → Option (S ⊕ O)} {n : Nat} {x : Option β} {k : β → Option (S ⊕ O)} {o : O} (h : tk_k f n (x.bind k) = some o) : ∃ r, x = some r ∧ tk_k f n (k r) = some o := by
  cases x with
  | none => cases h
  | some r => exact ⟨r, rfl, h⟩
theorem tk_kl {S O β : Type} {f : S → Option (S ⊕ O)} {n : Nat} {v : β} {k : β → Option (S ⊕ O)} {o : O} (h : tk_k f n (tk_l v k) = some o) : ∃ y, y = v ∧ tk_k f n (k y) = some o := ⟨v, rfl, h⟩
theorem tk_kr {S O : Type} {f : S → Option (S ⊕ O)} {n : Nat} {a o : O} (h : tk_k f n (some (.inr a)) = some o) : a = o := Option.some.inj h
/-- a file of a kind of fields, one of them changed -/
def tu (f : Nat → Int32) (k : Nat) (x : Int32) : Nat → Int32 := fun j => bif Nat.beq j k then x else f j
def tul (f : Nat → Int64) (k : Nat) (x : Int64) : Nat → Int64 := fun j => bif Nat.beq j k then x else f j
def tuv (f : Nat → Value) (k : Nat) (x : Value) : Nat → Value := fun j => bif Nat.beq j k then x else f j
def tur (f : Nat → Nat) (k : Nat) (x : Nat) : Nat → Nat := fun j => bif Nat.beq j k then x else f j
-- objects by their fields: addresses r, whole numbers i, longs j, other values v
abbrev zX0 : List Value := [.null, .null, .int 0, .int 0, .int 0, .null, .null, .null, .null, .null, .null, .null, .null, .int 0, .int 0, .int 0, .null, .null, .null, .null, .null, .null, .null, .null, .int 0]
theorem dfX0 : ∀ j, j < 25 → defaultValue (tyX0 j) = vp_V zX0 j := by
  intro j hj
  match j, hj with
  | 0, _ => rfl
  | 1, _ => rfl
  | 2, _ => rfl
  | 3, _ => rfl
  | 4, _ => rfl
  | 5, _ => rfl
  | 6, _ => rfl
  | 7, _ => rfl
  | 8, _ => rfl
  | 9, _ => rfl
  | 10, _ => rfl
  | 11, _ => rfl
  | 12, _ => rfl
  | 13, _ => rfl
  | 14, _ => rfl
  | 15, _ => rfl
  | 16, _ => rfl
  | 17, _ => rfl
  | 18, _ => rfl
  | 19, _ => rfl
  | 20, _ => rfl
  | 21, _ => rfl
  | 22, _ => rfl
  | 23, _ => rfl
  | 24, _ => rfl
  | n + 25, hj => exact absurd hj (by omega)
abbrev zX1 : List Value := [.null, .null, .null, .null, .null, .int 0, .int 0, .int 0]
theorem dfX1 : ∀ j, j < 8 → defaultValue (tyX1 j) = vp_V zX1 j := by
  intro j hj
  match j, hj with
  | 0, _ => rfl
  | 1, _ => rfl
  | 2, _ => rfl
  | 3, _ => rfl
  | 4, _ => rfl
  | 5, _ => rfl
  | 6, _ => rfl
  | 7, _ => rfl
  | n + 8, hj => exact absurd hj (by omega)
abbrev zX2 : List Value := [.int 0, .int 0, .int 0, .int 0, .int 0, .int 0, .int 0, .null, .null, .null, .null]
theorem dfX2 : ∀ j, j < 11 → defaultValue (tyX2 j) = vp_V zX2 j := by
  intro j hj
  match j, hj with
  | 0, _ => rfl
  | 1, _ => rfl
  | 2, _ => rfl
  | 3, _ => rfl
  | 4, _ => rfl
  | 5, _ => rfl
  | 6, _ => rfl
  | 7, _ => rfl
  | 8, _ => rfl
  | 9, _ => rfl
  | 10, _ => rfl
  | n + 11, hj => exact absurd hj (by omega)
abbrev zX4 : List Value := [.null, .null, .null, .null, .int 0, .int 0]
theorem dfX4 : ∀ j, j < 6 → defaultValue (tyX4 j) = vp_V zX4 j := by
  intro j hj
  match j, hj with
  | 0, _ => rfl
  | 1, _ => rfl
  | 2, _ => rfl
  | 3, _ => rfl
  | 4, _ => rfl
  | 5, _ => rfl
  | n + 6, hj => exact absurd hj (by omega)
abbrev zX5 : List Value := [.null, .null, .null, .null, .null, .null, .null, .null, .null, .int 0, .int 0, .int 0, .int 0, .int 0, .int 0, .int 0, .long 0, .null]
theorem dfX5 : ∀ j, j < 18 → defaultValue (tyX5 j) = vp_V zX5 j := by
  intro j hj
  match j, hj with
  | 0, _ => rfl
  | 1, _ => rfl
  | 2, _ => rfl
  | 3, _ => rfl
  | 4, _ => rfl
  | 5, _ => rfl
  | 6, _ => rfl
  | 7, _ => rfl
  | 8, _ => rfl
  | 9, _ => rfl
  | 10, _ => rfl
  | 11, _ => rfl
  | 12, _ => rfl
  | 13, _ => rfl
  | 14, _ => rfl
  | 15, _ => rfl
  | 16, _ => rfl
  | 17, _ => rfl
  | n + 18, hj => exact absurd hj (by omega)
abbrev zX6 : List Value := [.null, .int 0, .int 0, .int 0, .int 0, .int 0, .int 0, .int 0, .int 0, .int 0, .int 0, .int 0, .int 0, .int 0, .int 0, .int 0, .int 0, .int 0, .int 0, .null, .null, .null, .null, .null, .null, .null, .null, .int 0, .int 0, .int 0, .int 0, .null, .null, .null, .null, .null, .null, .null, .null, .int 0, .int 0, .int 0, .int 0, .null, .null, .null, .null, .null, .null, .null, .null, .int 0, .int 0, .int 0, .null, .null, .null, .null, .null, .null, .null, .null]
theorem dfX6 : ∀ j, j < 62 → defaultValue (tyX6 j) = vp_V zX6 j := by
  intro j hj
  match j, hj with
  | 0, _ => rfl
  | 1, _ => rfl
  | 2, _ => rfl
  | 3, _ => rfl
  | 4, _ => rfl
  | 5, _ => rfl
  | 6, _ => rfl
  | 7, _ => rfl
  | 8, _ => rfl
  | 9, _ => rfl
  | 10, _ => rfl
  | 11, _ => rfl
  | 12, _ => rfl
  | 13, _ => rfl
  | 14, _ => rfl
  | 15, _ => rfl
  | 16, _ => rfl
  | 17, _ => rfl
  | 18, _ => rfl
  | 19, _ => rfl
  | 20, _ => rfl
  | 21, _ => rfl
  | 22, _ => rfl
  | 23, _ => rfl
  | 24, _ => rfl
  | 25, _ => rfl
  | 26, _ => rfl
  | 27, _ => rfl
  | 28, _ => rfl
  | 29, _ => rfl
  | 30, _ => rfl
  | 31, _ => rfl
  | 32, _ => rfl
  | 33, _ => rfl
  | 34, _ => rfl
  | 35, _ => rfl
  | 36, _ => rfl
  | 37, _ => rfl
  | 38, _ => rfl
  | 39, _ => rfl
  | 40, _ => rfl
  | 41, _ => rfl
  | 42, _ => rfl
  | 43, _ => rfl
  | 44, _ => rfl
  | 45, _ => rfl
  | 46, _ => rfl
  | 47, _ => rfl
  | 48, _ => rfl
  | 49, _ => rfl
  | 50, _ => rfl
  | 51, _ => rfl
  | 52, _ => rfl
  | 53, _ => rfl
  | 54, _ => rfl
  | 55, _ => rfl
  | 56, _ => rfl
  | 57, _ => rfl
  | 58, _ => rfl
  | 59, _ => rfl
  | 60, _ => rfl
  | 61, _ => rfl
  | n + 62, hj => exact absurd hj (by omega)
abbrev zX8 : List Value := [.int 0, .int 0, .int 0, .int 0, .int 0, .int 0, .null, .null, .null, .int 0, .null]
theorem dfX8 : ∀ j, j < 11 → defaultValue (tyX8 j) = vp_V zX8 j := by
  intro j hj
  match j, hj with
  | 0, _ => rfl
  | 1, _ => rfl
  | 2, _ => rfl
  | 3, _ => rfl
  | 4, _ => rfl
  | 5, _ => rfl
  | 6, _ => rfl
  | 7, _ => rfl
  | 8, _ => rfl
  | 9, _ => rfl
  | 10, _ => rfl
  | n + 11, hj => exact absurd hj (by omega)
abbrev zX9 : List Value := [.null]
theorem dfX9 : ∀ j, j < 1 → defaultValue (tyX9 j) = vp_V zX9 j := by
  intro j hj
  match j, hj with
  | 0, _ => rfl
  | n + 1, hj => exact absurd hj (by omega)
abbrev zX10 : List Value := [.int 0, .int 0, .int 0]
theorem dfX10 : ∀ j, j < 3 → defaultValue (tyX10 j) = vp_V zX10 j := by
  intro j hj
  match j, hj with
  | 0, _ => rfl
  | 1, _ => rfl
  | 2, _ => rfl
  | n + 3, hj => exact absurd hj (by omega)
abbrev zX11 : List Value := [.int 0, .int 0, .int 0]
theorem dfX11 : ∀ j, j < 3 → defaultValue (tyX11 j) = vp_V zX11 j := by
  intro j hj
  match j, hj with
  | 0, _ => rfl
  | 1, _ => rfl
  | 2, _ => rfl
  | n + 3, hj => exact absurd hj (by omega)
abbrev zX12 : List Value := [.int 0, .int 0, .int 0, .int 0, .int 0, .int 0, .null, .null, .null]
theorem dfX12 : ∀ j, j < 9 → defaultValue (tyX12 j) = vp_V zX12 j := by
  intro j hj
  match j, hj with
  | 0, _ => rfl
  | 1, _ => rfl
  | 2, _ => rfl
  | 3, _ => rfl
  | 4, _ => rfl
  | 5, _ => rfl
  | 6, _ => rfl
  | 7, _ => rfl
  | 8, _ => rfl
  | n + 9, hj => exact absurd hj (by omega)
abbrev zX13 : List Value := [.int 0, .int 0, .int 0, .int 0, .int 0, .int 0, .null, .null, .null]
theorem dfX13 : ∀ j, j < 9 → defaultValue (tyX13 j) = vp_V zX13 j := by
  intro j hj
  match j, hj with
  | 0, _ => rfl
  | 1, _ => rfl
  | 2, _ => rfl
  | 3, _ => rfl
  | 4, _ => rfl
  | 5, _ => rfl
  | 6, _ => rfl
  | 7, _ => rfl
  | 8, _ => rfl
  | n + 9, hj => exact absurd hj (by omega)
abbrev zX14 : List Value := [.null]
theorem dfX14 : ∀ j, j < 1 → defaultValue (tyX14 j) = vp_V zX14 j := by
  intro j hj
  match j, hj with
  | 0, _ => rfl
  | n + 1, hj => exact absurd hj (by omega)
abbrev zJ5 : List Value := [.int 0, .null, .int 0]
theorem dfJ5 : ∀ j, j < 3 → defaultValue (tyJ5 j) = vp_V zJ5 j := by
  intro j hj
  match j, hj with
  | 0, _ => rfl
  | 1, _ => rfl
  | 2, _ => rfl
  | n + 3, hj => exact absurd hj (by omega)
def oX0 (r : Nat → Nat) (i : Nat → Int32) : List Value := [.ref (r 0), .ref (r 1), .int (i 2), .int (i 3), .int (i 4), .ref (r 5), .ref (r 6), .ref (r 7), .ref (r 8), .ref (r 9), .ref (r 10), .ref (r 11), .ref (r 12), .int (i 13), .int (i 14), .int (i 15), .ref (r 16), .ref (r 17), .ref (r 18), .ref (r 19), .ref (r 20), .ref (r 21), .ref (r 22), .ref (r 23), .int (i 24)]
def oX1 (i : Nat → Int32) (v : Nat → Value) : List Value := [v 0, v 1, v 2, v 3, v 4, .int (i 5), .int (i 6), .int (i 7)]
def oX2 (r : Nat → Nat) (i : Nat → Int32) : List Value := [.int (i 0), .int (i 1), .int (i 2), .int (i 3), .int (i 4), .int (i 5), .int (i 6), .ref (r 7), .ref (r 8), .ref (r 9), .ref (r 10)]
def oX4 (r : Nat → Nat) (i : Nat → Int32) : List Value := [.ref (r 0), .ref (r 1), .ref (r 2), .ref (r 3), .int (i 4), .int (i 5)]
def oX5 (r : Nat → Nat) (i : Nat → Int32) (j : Nat → Int64) : List Value := [.ref (r 0), .ref (r 1), .ref (r 2), .ref (r 3), .ref (r 4), .ref (r 5), .ref (r 6), .ref (r 7), .ref (r 8), .int (i 9), .int (i 10), .int (i 11), .int (i 12), .int (i 13), .int (i 14), .int (i 15), .long (j 16), .ref (r 17)]
def oX6 (r : Nat → Nat) (i : Nat → Int32) : List Value := [.ref (r 0), .int (i 1), .int (i 2), .int (i 3), .int (i 4), .int (i 5), .int (i 6), .int (i 7), .int (i 8), .int (i 9), .int (i 10), .int (i 11), .int (i 12), .int (i 13), .int (i 14), .int (i 15), .int (i 16), .int (i 17), .int (i 18), .ref (r 19), .ref (r 20), .ref (r 21), .ref (r 22), .ref (r 23), .ref (r 24), .ref (r 25), .ref (r 26), .int (i 27), .int (i 28), .int (i 29), .int (i 30), .ref (r 31), .ref (r 32), .ref (r 33), .ref (r 34), .ref (r 35), .ref (r 36), .ref (r 37), .ref (r 38), .int (i 39), .int (i 40), .int (i 41), .int (i 42), .ref (r 43), .ref (r 44), .ref (r 45), .ref (r 46), .ref (r 47), .ref (r 48), .ref (r 49), .ref (r 50), .int (i 51), .int (i 52), .int (i 53), .ref (r 54), .ref (r 55), .ref (r 56), .ref (r 57), .ref (r 58), .ref (r 59), .ref (r 60), .ref (r 61)]
def oX8 (i : Nat → Int32) (v : Nat → Value) : List Value := [.int (i 0), .int (i 1), .int (i 2), .int (i 3), .int (i 4), .int (i 5), v 6, v 7, v 8, .int (i 9), v 10]
def oX9 (r : Nat → Nat) : List Value := [.ref (r 0)]
def oX10 (i : Nat → Int32) : List Value := [.int (i 0), .int (i 1), .int (i 2)]
def oX11 (i : Nat → Int32) : List Value := [.int (i 0), .int (i 1), .int (i 2)]
def oX12 (i : Nat → Int32) (v : Nat → Value) : List Value := [.int (i 0), .int (i 1), .int (i 2), .int (i 3), .int (i 4), .int (i 5), v 6, v 7, v 8]
def oX13 (i : Nat → Int32) (v : Nat → Value) : List Value := [.int (i 0), .int (i 1), .int (i 2), .int (i 3), .int (i 4), .int (i 5), v 6, v 7, v 8]
def oX14 (r : Nat → Nat) : List Value := [.ref (r 0)]
def oJ5 (r : Nat → Nat) (i : Nat → Int32) : List Value := [.int (i 0), .ref (r 1), .int (i 2)]
abbrev tkCl : List vw_C := [(RX0, TX0, 25), (RX1, TX1, 8), (RX2, TX2, 11), (RX4, TX4, 6), (RX5, TX5, 18), (RX6, TX6, 62), (RX8, TX8, 11), (RX9, TX9, 1), (RX10, TX10, 3), (RX11, TX11, 3), (RX12, TX12, 9), (RX13, TX13, 9), (RX14, TX14, 1), (RJ5, TJ5, 3)]
abbrev tk_in (i : Int32) (n : Nat) : Prop := ¬ (i < 0 ∨ n ≤ i.toNatClampNeg)
abbrev tk_ty (ar : Nat → ClassId) : List (ClassId × FieldType) := [(ar 0, .int), (ar 1, .byte), (ar 2, .boolean), (ar 3, .object "java/lang/Object"), (ar 4, .object "TideKeep$Shore"), (ar 5, .object "TideKeep$Told")]
/-- words of nest mates -/
def tk_isN : Cond → Bool
  | .fieldLinkNest _ _ _ _ _ _ => true
  | .methodLinkNest _ _ _ _ => true
  | .castable _ _ => true
  | .declares _ => true
  | .privateMethod _ => true
  | _ => false
def tk_N (U : State) : Prop := ∀ w ∈ lw_tbl, tk_isN w = true → va_Nw w U
theorem tk_N.warm {s U : State} (hW : s.WarmedH U.vm) (h : tk_N s) : tk_N U := by
  intro w hw hn
  have h1 := h w hw hn
  cases w <;> first
    | exact va_Nw.warmF hW h1
    | exact va_Nw.warmM hW h1
    | exact va_Nw.warmC hW h1
    | exact va_Nw.warmD hW h1
    | exact va_tabs rfl (rfl : (s.setVm U.vm).vm = U.vm) (by rw [Cond.privateMethod_setVm hW.alike]; exact h1)
    | (cases hn)
theorem tk_N.same {u U : State} (hv : u.vm = U.vm) (h : tk_N u) : tk_N U := by
  intro w hw hn
  have h1 := h w hw hn
  cases w <;> first
    | exact va_Nw.same rfl hv h1
    | (cases hn)
theorem tk_N.raw {s : State} {w : Cond} (h : tk_N s) (q : w ∈ lw_tbl) (hn : tk_isN w = true) : va_Nw w s := h w q hn
theorem tk_N.use {s : State} {args : Array Value} {w : Cond} (h : tk_N s) (q : w ∈ lw_tbl) (hn : tk_isN w = true) (ho : w.onTables = true) : w.before args s = true := va_Nw.use ho (h w q hn)
/-- the enum's constants -/
abbrev tk_nm : List String := ["SAND", "PACK", "DRY", "DAMP", "FALL", "TIRE"]
abbrev tk_ord : List Int32 := [0, 1, 2, 3, 4, 5]
abbrev tk_lows : List Int32 := [0, 0, 1, 0, 0, 0]
abbrev tk_highs : List Int32 := [40, 5, 60, 16, 20, 20]
abbrev tk_firsts : List Int32 := [6, 2, 10, 4, 1, 0]
abbrev tk_F : List (String × String × String × List Int32) := [("java/lang/Enum", "ordinal", "I", tk_ord), ("TideKeep$Told", "low", "I", tk_lows), ("TideKeep$Told", "high", "I", tk_highs), ("TideKeep$Told", "first", "I", tk_firsts)]
/-- the enum's constants, in the statics -/
abbrev tk_En (ad : Nat → Nat → Nat) (A : Nat → Prop) (U : State) (H : Heap) : Prop := va_En "TideKeep$Told" "LTideKeep$Told;" tk_nm tk_F (ad 2) A U H
abbrev tk_str : List (String × Nat × String × List Int32) := [("TideKeep$SeaReader", 32, "wave", [119, 97, 118, 101]), ("TideKeep$SeaReader", 67, "tide", [116, 105, 100, 101]), ("TideKeep$SeaReader", 76, "reach", [114, 101, 97, 99, 104]), ("TideKeep$SeaReader", 80, "level", [108, 101, 118, 101, 108]), ("TideKeep$SeaReader", 84, "cut", [99, 117, 116]), ("TideKeep$PlanReader", 28, "hand", [104, 97, 110, 100]), ("TideKeep$PlanReader", 67, "dig", [100, 105, 103]), ("TideKeep$PlanReader", 69, "pack", [112, 97, 99, 107]), ("TideKeep$PlanReader", 71, "wet", [119, 101, 116]), ("TideKeep$PlanReader", 73, "wall", [119, 97, 108, 108]), ("TideKeep$PlanReader", 75, "rest", [114, 101, 115, 116]), ("TideKeep$Told", 56, "sand", [115, 97, 110, 100]), ("TideKeep$Told", 62, "pack", [112, 97, 99, 107]), ("TideKeep$Told", 65, "dry", [100, 114, 121]), ("TideKeep$Told", 68, "damp", [100, 97, 109, 112]), ("TideKeep$Told", 71, "fall", [102, 97, 108, 108]), ("TideKeep$Told", 74, "tire", [116, 105, 114, 101]), ("TideKeepModel", 137, "beach", [98, 101, 97, 99, 104]), ("TideKeepModel", 143, "heap", [104, 101, 97, 112]), ("TideKeepModel", 147, "stone", [115, 116, 111, 110, 101]), ("TideKeepModel", 151, "flag", [102, 108, 97, 103]), ("TideKeepModel", 104, "sand", [115, 97, 110, 100]), ("TideKeepModel", 110, "pack", [112, 97, 99, 107]), ("TideKeepModel", 112, "dry", [100, 114, 121]), ("TideKeepModel", 114, "damp", [100, 97, 109, 112]), ("TideKeepModel", 116, "fall", [102, 97, 108, 108]), ("TideKeepModel", 118, "tire", [116, 105, 114, 101]), ("TideKeepModel", 120, "hump", [104, 117, 109, 112]), ("TideKeepModel", 194, "wave", [119, 97, 118, 101]), ("TideKeepModel", 171, "tide", [116, 105, 100, 101]), ("TideKeepModel", 173, "reach", [114, 101, 97, 99, 104]), ("TideKeepModel", 175, "level", [108, 101, 118, 101, 108]), ("TideKeepModel", 177, "cut", [99, 117, 116]), ("TideKeepModel", 221, "hand", [104, 97, 110, 100]), ("TideKeepModel", 213, "dig", [100, 105, 103]), ("TideKeepModel", 215, "wet", [119, 101, 116]), ("TideKeepModel", 217, "wall", [119, 97, 108, 108]), ("TideKeepModel", 219, "rest", [114, 101, 115, 116]), ("TideKeep$BeachReader", 42, "beach", [98, 101, 97, 99, 104]), ("TideKeep$BeachReader", 74, "heap", [104, 101, 97, 112]), ("TideKeep$BeachReader", 76, "stone", [115, 116, 111, 110, 101]), ("TideKeep$BeachReader", 78, "flag", [102, 108, 97, 103]), ("TideKeep$BeachReader", 83, "hump", [104, 117, 109, 112])]
abbrev tk_tw : List Nat := [11, 12, 13, 14, 15, 16]
def tk_S1 (ad : Nat → Nat → Nat) (A : Nat → Prop) (U : State) (H : Heap) (k : Nat) (q : String × Nat × String × List Int32) : Prop :=
  vk_R q.1 q.2.1 q.2.2.1 (ad 0 k) U ∧ va_O "java/lang/String" (ad 0 k) A U H ∧ va_OF "java/lang/String" "coder" "B" (.int 0) (ad 0 k) A U H ∧ va_OF "java/lang/String" "value" "[B" (.ref (ad 1 k)) (ad 0 k) A U H ∧ va_T .byte (ad 1 k) q.2.2.2.length (fun j => .int (q.2.2.2.getD j 0)) A U H
def tk_S (ad : Nat → Nat → Nat) (A : Nat → Prop) (U : State) (H : Heap) : Prop := ∀ (k : Nat) (q : String × Nat × String × List Int32), tk_str[k]? = some q → tk_S1 ad A U H k q
abbrev tk_wf (ad : Nat → Nat → Nat) (A : Nat → Prop) (U : State) (H : Heap) : Prop := ∀ k : Nat, k < 6 → va_OF "TideKeep$Told" "word" "Ljava/lang/String;" (.ref (ad 0 (tk_tw.getD k 0))) (ad 2 k) A U H
abbrev tk_e0 : String × String × String := ("java/util/ArrayList", "DEFAULTCAPACITY_EMPTY_ELEMENTDATA", "[Ljava/lang/Object;")
/-- the enum's own array of its constants: it is cloned -/
def tk_V (t : Nat) (ad2 : Nat → Nat) (A : Nat → Prop) (U : State) (H : Heap) : Prop := ∃ cell : Cell, H[t]? = some cell ∧ (∀ k, cell.vm ≠ .statics k) ∧ cell.vm ≠ .unknown ∧ U.vm.findClass "[LTideKeep$Told;" = some cell.cls ∧ cell.slots = (arrV cell.cls 6 (fun j => .ref (ad2 j))).slots ∧ ¬ A t
theorem tk_V.moved {t : Nat} {ad2 : Nat → Nat} {A : Nat → Prop} {u U : State} {H : Heap} (hvm : u.vm.Alike U.vm) (h : tk_V t ad2 A u H) : tk_V t ad2 A U H := by
  obtain ⟨cell, h1, h2, h3, h4, h5⟩ := h
  exact ⟨cell, h1, h2, h3, by rw [hvm.findClass]; exact h4, h5⟩
theorem tk_V.kept {t : Nat} {ad2 : Nat → Nat} {A : Nat → Prop} {U : State} {H H1 : Heap} (h : tk_V t ad2 A U H) (hq : ∀ a : Nat, a < H.size → ¬ A a → H1[a]? = H[a]?) : tk_V t ad2 A U H1 := by
  obtain ⟨cell, h1, h2, h3, h4, h5, h6⟩ := h
  exact ⟨cell, by rw [hq t (Array.getElem?_eq_some_iff.mp h1).1 h6]; exact h1, h2, h3, h4, h5, h6⟩
theorem tk_V.narrow {t : Nat} {ad2 : Nat → Nat} {A B : Nat → Prop} {U : State} {H : Heap} (h : tk_V t ad2 A U H) (hAB : ∀ q, B q → A q) : tk_V t ad2 B U H := by
  obtain ⟨cell, h1, h2, h3, h4, h5, h6⟩ := h
  exact ⟨cell, h1, h2, h3, h4, h5, fun z => h6 (hAB _ z)⟩
/-- what stands beside the world: it is never written -/
def tk_St (ad : Nat → Nat → Nat) (A : Nat → Prop) (U : State) (H : Heap) : Prop :=
  tk_En ad A U H ∧ tk_S ad A U H ∧ tk_wf ad A U H ∧ va_Z "java/lang/String" "COMPACT_STRINGS" "Z" (.int 1) A U H ∧ va_Zq "jdk/internal/util/Preconditions" "SIOOBE_FORMATTER" "Ljava/util/function/BiFunction;" A U H ∧
  va_Z tk_e0.1 tk_e0.2.1 tk_e0.2.2 (.ref (ad 3 0)) A U H ∧ va_T (.object "java/lang/Object") (ad 3 0) 0 (fun _ => .null) A U H ∧ va_Zq "java/lang/Throwable" "UNASSIGNED_STACK" "[Ljava/lang/StackTraceElement;" A U H ∧ va_Zq "java/lang/Throwable" "SUPPRESSED_SENTINEL" "Ljava/util/List;" A U H ∧
  va_Z "TideKeep$Told" "$VALUES" "[LTideKeep$Told;" (.ref (ad 3 1)) A U H ∧ tk_V (ad 3 1) (ad 2) A U H ∧ (va_AO "java/lang/Object" U ∧ va_AO "TideKeep$Shore" U ∧ va_AO "TideKeep$Told" U) ∧ va_Mi "[Ljava/lang/Object;" (ad 3 2) U ∧ va_Dc U
theorem tk_S.warm {ad : Nat → Nat → Nat} {A : Nat → Prop} {s U : State} {H : Heap} (hW : s.WarmedH U.vm) (h : tk_S ad A s H) : tk_S ad A U H := by
  intro k q hk
  obtain ⟨h1, h2, h3, h4, h5⟩ := h k q hk
  exact ⟨vk_R.warm hW h1, va_O.moved hW.alike h2, va_OF.moved hW.alike h3, va_OF.moved hW.alike h4, va_T.moved hW.alike h5⟩
theorem tk_S.same {ad : Nat → Nat → Nat} {A : Nat → Prop} {u U : State} {H : Heap} (hv : U.vm = u.vm) (h : tk_S ad A u H) : tk_S ad A U H := by
  have hal : u.vm.Alike U.vm := by rw [hv]; exact Vm.Alike.refl u.vm
  intro k q hk
  obtain ⟨h1, h2, h3, h4, h5⟩ := h k q hk
  exact ⟨vk_R.same hv h1, va_O.moved hal h2, va_OF.moved hal h3, va_OF.moved hal h4, va_T.moved hal h5⟩
theorem tk_S.kept {ad : Nat → Nat → Nat} {A : Nat → Prop} {U : State} {H H1 : Heap} (h : tk_S ad A U H) (hq : ∀ a : Nat, a < H.size → ¬ A a → H1[a]? = H[a]?) : tk_S ad A U H1 := by
  intro k q hk
  obtain ⟨h1, h2, h3, h4, h5⟩ := h k q hk
  exact ⟨h1, h2.kept hq, h3.kept hq, h4.kept hq, h5.kept hq⟩
theorem tk_S.narrow {ad : Nat → Nat → Nat} {A B : Nat → Prop} {U : State} {H : Heap} (h : tk_S ad A U H) (hAB : ∀ q, B q → A q) : tk_S ad B U H := by
  intro k q hk
  obtain ⟨h1, h2, h3, h4, h5⟩ := h k q hk
  exact ⟨h1, h2.narrow hAB, h3.narrow hAB, h4.narrow hAB, h5.narrow hAB⟩
theorem tk_St.rest {ad : Nat → Nat → Nat} {A : Nat → Prop} {u U : State} {H : Heap} (hvm : u.vm.Alike U.vm) (hs : tk_S ad A U H) (h : tk_St ad A u H) : tk_St ad A U H := by
  obtain ⟨h1, -, h3, h4, h5, h6, h7, h8, h9, h10, h11, h12, h13, h14⟩ := h
  exact ⟨va_En.moved hvm h1, hs, fun k hk => va_OF.moved hvm (h3 k hk), va_Z.moved hvm h4, va_Zq.moved hvm h5, va_Z.moved hvm h6, va_T.moved hvm h7, va_Zq.moved hvm h8, va_Zq.moved hvm h9, va_Z.moved hvm h10, tk_V.moved hvm h11, ⟨va_AO.moved hvm h12.1, va_AO.moved hvm h12.2.1, va_AO.moved hvm h12.2.2⟩, va_Mi.moved hvm h13, va_Dc.moved hvm h14⟩
theorem tk_St.warm {ad : Nat → Nat → Nat} {A : Nat → Prop} {s U : State} {H : Heap} (hW : s.WarmedH U.vm) (h : tk_St ad A s H) : tk_St ad A U H := tk_St.rest hW.alike (h.2.1.warm hW) h
theorem tk_St.same {ad : Nat → Nat → Nat} {A : Nat → Prop} {u U : State} {H : Heap} (hv : U.vm = u.vm) (h : tk_St ad A u H) : tk_St ad A U H := tk_St.rest (by rw [hv]; exact Vm.Alike.refl u.vm) (h.2.1.same hv) h
theorem tk_St.kept {ad : Nat → Nat → Nat} {A : Nat → Prop} {U : State} {H H1 : Heap} (h : tk_St ad A U H) (hq : ∀ a : Nat, a < H.size → ¬ A a → H1[a]? = H[a]?) : tk_St ad A U H1 := by
  obtain ⟨h1, h2, h3, h4, h5, h6, h7, h8, h9, h10, h11, h12⟩ := h
  exact ⟨va_En.kept h1 hq, h2.kept hq, fun k hk => (h3 k hk).kept hq, h4.kept hq, h5.kept hq, h6.kept hq, h7.kept hq, h8.kept hq, h9.kept hq, h10.kept hq, h11.kept hq, h12⟩
theorem tk_St.narrow {ad : Nat → Nat → Nat} {A B : Nat → Prop} {U : State} {H : Heap} (h : tk_St ad A U H) (hAB : ∀ q, B q → A q) : tk_St ad B U H := by
  obtain ⟨h1, h2, h3, h4, h5, h6, h7, h8, h9, h10, h11, h12⟩ := h
  exact ⟨va_En.narrow h1 hAB, h2.narrow hAB, fun k hk => (h3 k hk).narrow hAB, h4.narrow hAB, h5.narrow hAB, h6.narrow hAB, h7.narrow hAB, h8.narrow hAB, h9.narrow hAB, h10.narrow hAB, h11.narrow hAB, h12⟩
def tk_E (D : va_G) (ar : Nat → ClassId) (ad : Nat → Nat → Nat) (A : Nat → Prop) (U : State) (H : Heap) : Prop := va_K D tkCl (tk_ty ar) U ∧ tk_N U ∧ tk_St ad A U H
def tk_R (D : va_G) (A : Nat → Prop) (rs : va_W) (H : Heap) : Prop := va_P D tkCl rs H ∧ ∀ (k : Nat) (q : Nat × va_E), rs[k]? = some q → ¬ A q.1
theorem tk_R.at {D : va_G} {A : Nat → Prop} {rs : va_W} {H0 H : Heap} {locs : List Loc} (h : tk_R D A rs H0) (hS : va_S A H0 H locs) : va_P D tkCl rs H := fun k q hk => (h.1 k q hk).kept (hS.2.1 q.1 (h.1 k q hk).lt (h.2 k q hk))
def tk_Pre (D : va_G) (ar : Nat → ClassId) (ad : Nat → Nat → Nat) (ws rs xs : va_W) (sz : Nat) (U : State) : Prop :=
  U.heap.size = sz ∧ va_P D tkCl ws U.heap ∧ va_D (fun _ => True) ws ∧ tk_R D (va_A ws sz) rs U.heap ∧ tk_R D (va_A ws sz) xs U.heap ∧ tk_E D ar ad (va_A ws sz) U U.heap
def tk_Post (D : va_G) (A : Nat → Prop) (ws : va_W) (t : State) : Prop := va_P D tkCl ws t.heap ∧ va_D A ws
theorem tk_blind {D : va_G} {ar : Nat → ClassId} {ad : Nat → Nat → Nat} {ws rs xs : va_W} {sz : Nat} {av : List Value} : FrameBlind (va_Pc av (tk_Pre D ar ad ws rs xs sz)) := by
  intro a U g mk h
  obtain ⟨h0, h1, h2, h3, h4, hx, h5, h6, h7⟩ := h
  exact ⟨h0, h1, h2, h3, h4, hx, va_K.moved (u := U) (U := U.calling g mk a) (Vm.Alike.refl U.vm) h5, tk_N.same (u := U) (U := U.calling g mk a) rfl h6, tk_St.same (u := U) (U := U.calling g mk a) rfl h7⟩
theorem tk_fm {α β : Type} {f : α → Option β} : ∀ {is : List α} {l : List β}, is.map f = l.map some → is.filterMap f = l := by
  intro is
  induction is with
  | nil =>
    intro l h
    cases l with
    | nil => rfl
    | cons b l => cases h
  | cons i is ih =>
    intro l h
    cases l with
    | nil => cases h
    | cons b l =>
      simp only [List.map_cons, List.cons.injEq] at h
      rw [List.filterMap_cons, h.1]
      show b :: List.filterMap f is = b :: l
      rw [ih h.2]
theorem tk_mapAt {ws wc : va_W} {is : List Nat} (hs : is.map (fun i => ws[i]?) = wc.map some) {k : Nat} {q : Nat × va_E} (hk : wc[k]? = some q) : ∃ i, is[k]? = some i ∧ ws[i]? = some q := by
  have h1 : (is.map (fun i => ws[i]?))[k]? = some (some q) := by rw [hs, List.getElem?_map, hk]; rfl
  rw [List.getElem?_map] at h1
  cases hi : is[k]? with
  | none => rw [hi] at h1; cases h1
  | some i => rw [hi] at h1; exact ⟨i, rfl, Option.some.inj h1⟩
/-- a callee's start out of its caller's world -/
theorem tk_mk {D : va_G} {ar : Nat → ClassId} {ad : Nat → Nat → Nat} {A : Nat → Prop} {ws rs xs wc rc : va_W} {s : State} {H : Heap} {locs : List Loc} (hP : va_P D tkCl ws H) (hD : va_D A ws) (hS : va_S A s.heap H locs) (hA : ∀ q, s.heap.size ≤ q → A q) (hE : tk_E D ar ad A s s.heap) (hR : tk_R D A rs s.heap) (hX : tk_R D A xs s.heap) (isC isR : List Nat)
    (hC : isC.map (fun i => ws[i]?) = wc.map some) (hn : va_nd isC = true) (hr : isR.map (fun i => (ws ++ rs)[i]?) = rc.map some) (hd : isR.all (fun i => !isC.contains i) = true) (U : State) (hU : U.heap = H) (hW : s.WarmedH U.vm) : tk_Pre D ar ad wc rc xs H.size U := by
  have hF : ∀ q, va_A wc H.size q → A q := va_free hD hS hA isC hC
  refine ⟨by rw [hU], by rw [hU]; exact hP.sub isC (tk_fm hC), (hD.sub isC hn hC).weaken (fun _ _ _ _ => trivial), ?_, by rw [hU]; exact ⟨hX.at hS, fun k q hk hz => hX.2 k q hk (hF _ hz)⟩, ?_⟩
  · rw [hU]
    have key : ∀ (k : Nat) (q : Nat × va_E), rc[k]? = some q → va_at D tkCl q H ∧ ¬ va_A wc H.size q.1 := by
      intro k q hk
      obtain ⟨i, hi, hq⟩ := tk_mapAt hr hk
      by_cases hl : i < ws.length
      · rw [List.getElem?_append_left hl] at hq
        refine ⟨hP i q hq, fun hz => ?_⟩
        rcases hz with ⟨j, e, hj⟩ | hz
        · obtain ⟨i2, hi2, hq2⟩ := tk_mapAt hC hj
          have := hD.1 i i2 q (q.1, e) hq hq2 rfl
          subst this
          have h1 := List.all_eq_true.mp hd i (List.mem_of_getElem? hi)
          have h2 : isC.contains i = true := List.contains_iff_mem.mpr (List.mem_of_getElem? hi2)
          rw [h2] at h1
          cases h1
        · exact absurd (hP i q hq).lt (Nat.not_lt.mpr hz)
      · rw [List.getElem?_append_right (Nat.not_lt.mp hl)] at hq
        exact ⟨(hR.at hS) _ q hq, fun hz => hR.2 _ q hq (hF _ hz)⟩
    exact ⟨fun k q hk => (key k q hk).1, fun k q hk => (key k q hk).2⟩
  · rw [hU]
    exact ⟨va_K.moved hW.alike hE.1, tk_N.warm hW hE.2.1, ((tk_St.warm hW hE.2.2).kept hS.2.1).narrow hF⟩
def tk_sets (ws : va_W) : List Nat → va_W → va_W
  | i :: is, q :: qs => tk_sets (ws.set i q) is qs
  | _, _ => ws
theorem tk_sets_get : ∀ (is : List Nat) (w1 ws : va_W), is.length ≤ w1.length → ∀ (k : Nat) (q : Nat × va_E), (tk_sets ws is w1)[k]? = some q → (k ∉ is ∧ ws[k]? = some q) ∨ ∃ j : Nat, is[j]? = some k ∧ w1[j]? = some q := by
  intro is
  induction is with
  | nil =>
    intro w1 ws _ k q h
    exact Or.inl ⟨List.not_mem_nil, by cases w1 <;> exact h⟩
  | cons i is ih =>
    intro w1 ws hl k q h
    cases w1 with
    | nil => exact absurd hl (by simp)
    | cons q0 qs =>
      rcases ih qs (ws.set i q0) (by simpa using hl) k q h with ⟨h1, h2⟩ | ⟨j, h1, h2⟩
      · by_cases hk : k = i
        · subst hk
          by_cases hlt : k < ws.length
          · rw [List.getElem?_set_self hlt] at h2
            exact Or.inr ⟨0, rfl, h2⟩
          · have h3 := (List.getElem?_eq_some_iff.mp h2).1
            rw [List.length_set] at h3
            exact absurd h3 hlt
        · rw [List.getElem?_set_ne (Ne.symm hk)] at h2
          refine Or.inl ⟨fun hm => ?_, h2⟩
          rcases List.mem_cons.mp hm with e | e
          · exact hk e
          · exact h1 e
      · exact Or.inr ⟨j + 1, h1, h2⟩
theorem tk_sets_len : ∀ (is : List Nat) (w1 ws : va_W), (tk_sets ws is w1).length = ws.length := by
  intro is
  induction is with
  | nil => intro w1 ws; cases w1 <;> rfl
  | cons i is ih =>
    intro w1 ws
    cases w1 with
    | nil => rfl
    | cons q0 qs => show (tk_sets (ws.set i q0) is qs).length = _; rw [ih, List.length_set]
/-- behind a call: every cell at its old place, the callee's as it left them, the new ones behind -/
theorem tk_join {A : Nat → Prop} {D : va_G} {ws wc w1 : va_W} {H H1 : Heap} (hP : va_P D tkCl ws H) (hD : va_D A ws) (hk : ∀ q : Nat, q < H.size → ¬ va_A wc H.size q → H1[q]? = H[q]?) (isC : List Nat) (hC : isC.map (fun i => ws[i]?) = wc.map some) (hn : va_nd isC = true) (hF : ∀ q, va_A wc H.size q → A q) (hP1 : va_P D tkCl w1 H1) (hD1 : va_D (va_A wc H.size) w1) (hl : isC.length ≤ w1.length) : va_P D tkCl (tk_sets ws isC w1 ++ w1.drop isC.length) H1 ∧ va_D A (tk_sets ws isC w1 ++ w1.drop isC.length) := by
  have rest : ∀ (k : Nat) (q : Nat × va_E), k ∉ isC → ws[k]? = some q → ¬ va_A wc H.size q.1 := by
    intro k q hk1 hq hz
    rcases hz with ⟨j, e, hj⟩ | hz
    · obtain ⟨i, hi, hq2⟩ := tk_mapAt hC hj
      have := hD.1 k i q (q.1, e) hq hq2 rfl
      subst this
      exact hk1 (List.mem_of_getElem? hi)
    · exact absurd (hP k q hq).lt (Nat.not_lt.mpr hz)
  have src : ∀ (k : Nat) (q : Nat × va_E), (tk_sets ws isC w1 ++ w1.drop isC.length)[k]? = some q → (k < ws.length ∧ k ∉ isC ∧ ws[k]? = some q) ∨ ∃ j : Nat, w1[j]? = some q ∧ ((k < ws.length ∧ isC[j]? = some k) ∨ (ws.length ≤ k ∧ j = isC.length + (k - ws.length))) := by
    intro k q hq
    by_cases hkl : k < ws.length
    · rw [List.getElem?_append_left (by rw [tk_sets_len]; exact hkl)] at hq
      rcases tk_sets_get isC w1 ws hl k q hq with ⟨h1, h2⟩ | ⟨j, h1, h2⟩
      · exact Or.inl ⟨hkl, h1, h2⟩
      · exact Or.inr ⟨j, h2, Or.inl ⟨hkl, h1⟩⟩
    · have hkl := Nat.not_lt.mp hkl
      rw [List.getElem?_append_right (by rw [tk_sets_len]; exact hkl), tk_sets_len, List.getElem?_drop] at hq
      exact Or.inr ⟨_, hq, Or.inr ⟨hkl, rfl⟩⟩
  refine ⟨fun k q hq => ?_, fun i j p q hi hj hpq => ?_, fun k q hq => ?_⟩
  · rcases src k q hq with ⟨-, h1, h2⟩ | ⟨j, h1, -⟩
    · exact (hP k q h2).kept (hk q.1 (hP k q h2).lt (rest k q h1 h2))
    · exact hP1 j q h1
  · rcases src i p hi with ⟨-, a1, a2⟩ | ⟨x, a1, a2⟩ <;> rcases src j q hj with ⟨-, b1, b2⟩ | ⟨y, b1, b2⟩
    · exact hD.1 i j p q a2 b2 hpq
    · exact absurd (by rw [hpq]; exact hD1.2 y q b1) (rest i p a1 a2)
    · exact absurd (by rw [← hpq]; exact hD1.2 x p a1) (rest j q b1 b2)
    · have hxy := hD1.1 x y p q a1 b1 hpq
      subst hxy
      rcases a2 with ⟨c1, c2⟩ | ⟨c1, c2⟩ <;> rcases b2 with ⟨d1, d2⟩ | ⟨d1, d2⟩
      · exact Option.some.inj (c2.symm.trans d2)
      · have := (List.getElem?_eq_some_iff.mp c2).1
        omega
      · have := (List.getElem?_eq_some_iff.mp d2).1
        omega
      · omega
  · rcases src k q hq with ⟨-, h1, h2⟩ | ⟨j, h1, -⟩
    · exact hD.2 k q h2
    · exact hF _ (hD1.2 j q h1)
/-- the frame of a caller, taken over a call: the kit's rows say it as va_S; here the cells that a callee may write -/
theorem tk_fr {A : Nat → Prop} {ws wc : va_W} {H0 H : Heap} {locs : List Loc} (hD : va_D A ws) (hS : va_S A H0 H locs) (hA : ∀ q, H0.size ≤ q → A q) (isC : List Nat) (hC : isC.map (fun i => ws[i]?) = wc.map some) : ∀ q, va_A wc H.size q → A q := va_free hD hS hA isC hC
theorem tk_nz0 : vp_nar .boolean 0 = 0 := by decide
theorem tk_nz1 : vp_nar .boolean 1 = 1 := by decide
theorem tk_nb {x : Int32} (h : vp_nar .boolean x = x) : narrow .boolean (.int x) = .int x := by
  have h1 : narrow .boolean (.int x) = .int (vp_nar .boolean x) := rfl
  rw [h1, h]
theorem tk_fin_it {S O : Type} {f : S → Option (S ⊕ O)} {x : Option (S ⊕ O)} {o : O} (h : tk_fin f x = some o) : ∃ n, tk_k f n x = some o := by
  cases x with
  | none => cases h
  | some y =>
    cases y with
    | inl t => obtain ⟨n, hn⟩ := tk_lp_it h; exact ⟨n, hn⟩
    | inr q => exact ⟨0, h⟩
theorem tk_pst {D : va_G} {A : Nat → Prop} {ws : va_W} {t : State} {H : Heap} (ht : t.heap = H) (hP : va_P D tkCl ws H) (hD : va_D A ws) : tk_Post D A ws t := ⟨by rw [ht]; exact hP, hD⟩
theorem tk_E.z {D : va_G} {ar : Nat → ClassId} {ad : Nat → Nat → Nat} {A : Nat → Prop} {s : State} (h : tk_E D ar ad A s s.heap) (k : Nat) (hk : k < 6) : va_Z "TideKeep$Told" (tk_nm.getD k "") "LTideKeep$Told;" (.ref (ad 2 k)) A s s.heap := (h.2.2.1.1 k hk).1
/-- what a call of an inherited method asks -/
theorem tk_lwU {own : String} {idx : Nat} {C owner : String} {x y : MethodName} {b : ByteArray} {L : Nat} {r : Option FieldType} (h1 : Cond.methodLink own idx x ∈ lw_all) (h2 : Cond.sameMethod x.cls owner x.name x.desc ∈ lw_all) (h3 : Cond.selects C x y ∈ lw_all) (h4 : Cond.instanceMethod y ∈ lw_all) (h5 : Cond.initialized y.cls ∈ lw_all) (h6 : Cond.code y b L r ∈ lw_all) : GoodIn lw_all (va_wsU own idx C owner x y (ws_ y b L r)) := by
  refine lw_app ?_ (lw_meth h6)
  intro w hw
  simp only [List.mem_cons, List.not_mem_nil, or_false] at hw
  rcases hw with e | e | e | e | e
  · rw [e]; exact h1
  · rw [e]; exact h2
  · rw [e]; exact h3
  · rw [e]; exact h4
  · rw [e]; exact h5
theorem tk_E.recv {D : va_G} {ar : Nat → ClassId} {ad : Nat → Nat → Nat} {A : Nat → Prop} {s : State} {H : Heap} {locs : List Loc} (h : tk_E D ar ad A s s.heap) (hS : va_S A s.heap H locs) (k : Nat) (hk : k < 6) : ∃ cell : Cell, H[ad 2 k]? = some cell ∧ cell.vm.isStatics = false ∧ s.vm.findClass "TideKeep$Told" = some cell.cls := va_recvE h.2.2.1 hk hS
set_option maxHeartbeats 4000000 in
theorem mJ2_ordinal (l : Launch) (D : va_G) (ar : Nat → ClassId) (ad : Nat → Nat → Nat) (xs : va_W) (sz : Nat) (k : Nat) (hk : k < 6) : Met l yJ2_ordinal (ws_ yJ2_ordinal cJ2_ordinal 1 (some .int)) ({ frames := 0, cells := 0, slots := 0, locals := 0 }) (va_Pc [.ref (ad 2 k)] (tk_Pre D ar ad [] [] xs sz)) (va_Qi (fun (r9 : Int32) (_ : Unit) => r9 = tk_ord.getD k 0) (fun _ t => tk_Post D (va_A [] sz) [] t) (va_A [] sz)) 0 0 (va_A [] sz) := by
  refine Met.ofW (cc := cJ2_ordinal) (maxL := 1) (ret := (some .int)) (by decide) rfl ?_
  intro p e s m args below meth c s₁ B hml hv
  obtain ⟨rfl, hsz, hP, hD0, hR, hX, hE⟩ := hv
  have hx := B.exec
  have hb := B.bytes
  have hr := B.returns
  have hts := atoms_spec (ws := ws_ yJ2_ordinal cJ2_ordinal 1 (some .int)) B.pre
  have hts : ∀ w ∈ lw_all, w.before _ s = true := fun w h => hts w (List.mem_cons_of_mem _ h)
  have hown : s.vm.findClass RJ2 = some m.cls := findClass_of_methodNamed B.named
  have hlocks := B.notSynchronized
  subst hsz
  have hD := hD0.self (sz := s.heap.size)
  generalize hAe : va_A [] s.heap.size = A at hD hR hX hE ⊢
  have hS : va_S A s.heap s.heap [] := va_S.rf
  have hl := lv_entry ([.ref (ad 2 k)]) (n := 1) (Nat.le_of_ble_eq_true rfl)
  rw [lg_entry_eq]
  generalize (lg_sl ([.ref (ad 2 k)]) ++ List.replicate (1 - (lg_sl ([.ref (ad 2 k)])).length) Slot.unset).toArray = ls at hl ⊢
  have hl : lv_has ls 1 [(0, .ref (ad 2 k))] := hl
  refine lv_aload_n hx hb dJ2_ordinal_0 rfl (lv_at hl 0 rfl) ?_
  refine va_getE (q := ("java/lang/Enum", "ordinal", "I", tk_ord)) hx hb hE.2.2.1 hk hS hown List.mem_cons_self (hts _ q2031) (fun _ h9 => h9) dJ2_ordinal_1 ?_
  exact W.iret (v := tk_ord.getD k 0) hx hb hr (fun t ht hW => ⟨⟨_, (), rfl, rfl, tk_pst ht hP hD⟩, hS.F ht⟩) hS.2.2 dJ2_ordinal_4
theorem tk_cAI {D : va_G} {ar : Nat → ClassId} {s : State} {cA : ClassId} (h : va_K D tkCl (tk_ty ar ++ [(cA, .int)]) s) : cA = ar 0 := by
  have a : s.vm.findClass ("[" ++ FieldType.int.toString) = some cA := (h.2 6 _ rfl).2
  have b : s.vm.findClass ("[" ++ FieldType.int.toString) = some (ar 0) := (h.2 0 _ rfl).2
  exact Option.some.inj (a.symm.trans b)
theorem tk_cAB {D : va_G} {ar : Nat → ClassId} {s : State} {cA : ClassId} (h : va_K D tkCl (tk_ty ar ++ [(cA, .byte)]) s) : cA = ar 1 := by
  have a : s.vm.findClass ("[" ++ FieldType.byte.toString) = some cA := (h.2 6 _ rfl).2
  have b : s.vm.findClass ("[" ++ FieldType.byte.toString) = some (ar 1) := (h.2 1 _ rfl).2
  exact Option.some.inj (a.symm.trans b)
theorem tk_cAZ {D : va_G} {ar : Nat → ClassId} {s : State} {cA : ClassId} (h : va_K D tkCl (tk_ty ar ++ [(cA, .boolean)]) s) : cA = ar 2 := by
  have a : s.vm.findClass ("[" ++ FieldType.boolean.toString) = some cA := (h.2 6 _ rfl).2
  have b : s.vm.findClass ("[" ++ FieldType.boolean.toString) = some (ar 2) := (h.2 2 _ rfl).2
  exact Option.some.inj (a.symm.trans b)
theorem tk_cAO {D : va_G} {ar : Nat → ClassId} {s : State} {cA : ClassId} (h : va_K D tkCl (tk_ty ar ++ [(cA, .object "java/lang/Object")]) s) : cA = ar 3 := by
  obtain ⟨-, -, -, -, -, a⟩ := (h.2 6 _ rfl).2
  obtain ⟨-, -, -, -, -, b⟩ := (h.2 3 _ rfl).2
  exact Option.some.inj (a.symm.trans b)
theorem tk_cAS {D : va_G} {ar : Nat → ClassId} {s : State} {cA : ClassId} (h : va_K D tkCl (tk_ty ar ++ [(cA, .object "TideKeep$Shore")]) s) : cA = ar 4 := by
  obtain ⟨-, -, -, -, -, a⟩ := (h.2 6 _ rfl).2
  obtain ⟨-, -, -, -, -, b⟩ := (h.2 4 _ rfl).2
  exact Option.some.inj (a.symm.trans b)
section TKG
variable {p : Program} {l : Launch} {e : Env} {R : Room} {s : State} {m : MethodId} {args : Array Value} {below : List Frame} {meth : Method} {c : Code} {H : Heap} {locs : List Loc} {cells slots : Nat} {Q : State → Prop}
variable {cc : ByteArray} {pc : Nat} {ls : Array Slot} {rest : List Value} {A : Nat → Prop} {D : va_G} {ar : Nat → ClassId} {ad : Nat → Nat → Nat}
/-- a nest mate's field of an object that is never written -/
theorem tk_getEN (hexec : p.tables.exec = Jvm.exec) (hb : c.code = cc) {o n d own ref host : String} {index q : Nat} {v : Value} (hF : va_OF o n d v q A s s.heap) (hS : va_S A s.heap H locs) (hown : s.vm.findClass own = some m.cls) (hlink : (Cond.fieldLinkNest own index ref n d host).before args s = true) (hsame : ∀ x, s.fieldFound? o n d = some x → s.fieldFound? ref n d = some x) (hdg : decode cc pc = .ok (.getfield index, 3))
    (kk : W p l e R s m args below meth c H locs cells slots Q (F0 m (pc + 3) ls (v :: rest))) : W p l e R s m args below meth c H locs cells slots Q (F0 m pc ls (.ref q :: rest)) := by
  obtain ⟨cf, k, fi, f, cell, h1, h2, h3, h4, h5, h6⟩ := hF.kept hS.2.1
  exact va_Wgetf hexec hb hown hlink (hsame _ h1) h2 h3 h4 (v := v) h5 rfl rfl hdg kk
theorem tk_E.low (h : tk_E D ar ad A s s.heap) (k : Nat) (hk : k < 6) : va_OF "TideKeep$Told" "low" "I" (.int (tk_lows.getD k 0)) (ad 2 k) A s s.heap := (h.2.2.1.1 k hk).2.2 ("TideKeep$Told", "low", "I", tk_lows) (List.mem_cons_of_mem _ List.mem_cons_self)
theorem tk_E.high (h : tk_E D ar ad A s s.heap) (k : Nat) (hk : k < 6) : va_OF "TideKeep$Told" "high" "I" (.int (tk_highs.getD k 0)) (ad 2 k) A s s.heap := (h.2.2.1.1 k hk).2.2 ("TideKeep$Told", "high", "I", tk_highs) (List.mem_cons_of_mem _ (List.mem_cons_of_mem _ List.mem_cons_self))
theorem tk_E.first (h : tk_E D ar ad A s s.heap) (k : Nat) (hk : k < 6) : va_OF "TideKeep$Told" "first" "I" (.int (tk_firsts.getD k 0)) (ad 2 k) A s s.heap := (h.2.2.1.1 k hk).2.2 ("TideKeep$Told", "first", "I", tk_firsts) (List.mem_cons_of_mem _ (List.mem_cons_of_mem _ (List.mem_cons_of_mem _ List.mem_cons_self)))
theorem tk_E.word (h : tk_E D ar ad A s s.heap) (k : Nat) (hk : k < 6) : va_OF "TideKeep$Told" "word" "Ljava/lang/String;" (.ref (ad 0 (tk_tw.getD k 0))) (ad 2 k) A s s.heap := h.2.2.2.2.1 k hk
end TKG
