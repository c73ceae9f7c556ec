/-! PURE SIDE: the class's state. Kinds of cells: 0 the object, 1 tape, 2 refusals, 3 told (list), 4 its row, 5 asking, 6 its told, 7 askedFor, 8 became, 9 acts (list), 10 its row, 11 bringing, 12 most, 13 liked, 14 rows, 15 image, 16 rows of most, 17 rows of liked, 20 the zoo, 21 beasts (list), 22 its row, 23 guests (list), 24 its row, 25 a beast, 26 taste, 27 saw, 28 today, 29 a guest, 30 traits, 31 Scan -/
set_option maxRecDepth 100000
abbrev zW : Type := (Nat → Nat → Nat) × (Nat → Nat → Nat → Int32) × (Nat → Nat → Nat → Int64) × (Nat → Nat) × (Nat → Nat → Nat → Option Nat)
def ztag : Nat → Nat := fun k => match k with
  | 0 => 0 | 1 => 101 | 2 => 100 | 3 => 24 | 4 => 105 | 5 => 2 | 6 => 104 | 7 => 106 | 8 => 100 | 9 => 24 | 10 => 105 | 11 => 3 | 12 => 108 | 13 => 108 | 14 => 100 | 15 => 101 | 16 => 100 | 17 => 100
  | 20 => 1 | 21 => 24 | 22 => 105 | 23 => 24 | 24 => 105 | 25 => 8 | 26 => 100 | 27 => 100 | 28 => 100 | 29 => 9 | 30 => 100 | 31 => 5 | _ => 100
def zlen (W : zW) : Nat → Nat := fun k => match k with
  | 0 => 21 | 1 => 1600 | 2 => 6 | 3 => 3 | 4 => W.2.2.2.1 4 | 5 => 1 | 6 => 9 | 7 => 6 | 8 => 6 | 9 => 3 | 10 => W.2.2.2.1 10 | 11 => 3 | 12 => 7 | 13 => 6 | 14 => 32 | 15 => 160 | 16 => 256 | 17 => 8
  | 20 => 10 | 21 => 3 | 22 => W.2.2.2.1 22 | 23 => 3 | 24 => W.2.2.2.1 24 | 25 => 8 | 26 => 3 | 27 => 8 | 28 => 8 | 29 => 8 | 30 => 3 | 31 => 13 | _ => 0
/-- how many cells of a kind there are; the place 0 of nu: beasts, 1: guests -/
def zn (W : zW) : Nat → Nat := fun k => match k with
  | 0 => 1 | 1 => 1 | 2 => 1 | 3 => 1 | 4 => if W.2.2.2.1 4 = 0 then 0 else 1 | 5 => 1 | 6 => 1 | 7 => 1 | 8 => 1 | 9 => 1 | 10 => if W.2.2.2.1 10 = 0 then 0 else 1 | 11 => 1 | 12 => 1 | 13 => 1 | 14 => 1 | 15 => 1 | 16 => 7 | 17 => 6
  | 20 => 1 | 21 => 1 | 22 => if W.2.2.2.1 22 = 0 then 0 else 1 | 23 => 1 | 24 => if W.2.2.2.1 24 = 0 then 0 else 1 | 25 => W.2.2.2.1 0 | 26 => W.2.2.2.1 0 | 27 => W.2.2.2.1 0 | 28 => W.2.2.2.1 0 | 29 => W.2.2.2.1 1 | 30 => W.2.2.2.1 1 | _ => 0
/-- what a place holds: 0 an int, 1 a long, 2 a cell of the system, 3 a numbered cell or none, 4 another cell or none -/
def zty : Nat → Nat → Nat := fun k i => match k with
  | 0 => if i = 15 then 1 else if ([0, 2, 3, 9, 10, 11, 12, 14, 16, 17, 19] : List Nat).contains i then 2 else 0
  | 3 => if i = 1 then 2 else 0 | 9 => if i = 1 then 2 else 0 | 21 => if i = 1 then 2 else 0 | 23 => if i = 1 then 2 else 0
  | 4 => 4 | 10 => 4 | 5 => 2 | 6 => 1 | 7 => 3 | 11 => 2 | 12 => 2 | 13 => 2
  | 20 => if i = 6 then 4 else if i = 7 then 4 else if i = 8 then 2 else if i = 9 then 2 else 0
  | 22 => 2 | 24 => 2
  | 25 => if i = 0 then 4 else if i = 5 then 2 else if i = 6 then 2 else if i = 7 then 2 else 0
  | 29 => if i = 0 then 4 else if i = 4 then 2 else if i = 7 then 3 else 0
  | 31 => if i = 1 then 2 else if i = 11 then 4 else if i = 12 then 4 else 0
  | _ => 0
/-- a place that holds a cell of the system -/
def zr (W : zW) : Nat → Nat → Nat → Option Nat := fun k j i => match k with
  | 0 => match i with
    | 0 => some (W.1 1 0) | 2 => some (W.1 2 0) | 3 => some (W.1 20 0) | 9 => some (W.1 3 0) | 10 => some (W.1 5 0) | 11 => some (W.1 7 0) | 12 => some (W.1 8 0) | 14 => some (W.1 9 0) | 16 => some (W.1 11 0) | 17 => some (W.1 14 0) | _ => some (W.1 15 0)
  | 3 => some (W.1 4 0) | 9 => some (W.1 10 0) | 21 => some (W.1 22 0) | 23 => some (W.1 24 0)
  | 5 => some (W.1 6 0)
  | 11 => match i with
    | 0 => some (W.1 12 0) | 1 => some (W.1 13 0) | _ => some (W.1 0 0)
  | 12 => some (W.1 16 i) | 13 => some (W.1 17 i)
  | 20 => match i with
    | 8 => some (W.1 21 0) | _ => some (W.1 23 0)
  | 22 => if i < W.2.2.2.1 0 then some (W.1 25 i) else none
  | 24 => if i < W.2.2.2.1 1 then some (W.1 29 i) else none
  | 25 => match i with
    | 5 => some (W.1 26 j) | 6 => some (W.1 27 j) | _ => some (W.1 28 j)
  | 29 => some (W.1 30 j)
  | 31 => some (W.1 20 0)
  | _ => none
/-- a numbered cell: of kind t; none: -1 -/
def zenc (W : zW) (t : Nat) (v : Int32) : Option Nat := if v = -1 then none else some (W.1 t v.toNatClampNeg)
def zek : Nat → Nat := fun k => match k with
  | 7 => 29
  | _ => 25
def zv (W : zW) (k j i : Nat) : Value := match zty k i with
  | 0 => .int (W.2.1 k j i)
  | 1 => .long (W.2.2.1 k j i)
  | 2 => va_rf (zr W k j i)
  | 3 => va_rf (zenc W (zek k) (W.2.1 k j i))
  | _ => va_rf (W.2.2.2.2 k j i)
def zc (W : zW) (k j : Nat) : hx_C := (ztag k, zlen W k, zv W k j)
def CR (V : hx_V) (h : hx_S) (W : zW) (g : Nat → Option hx_C) : Prop := RS V h (fun k j => j < zn W k) W.1 (zc W) g
def zset {α : Type} (A : Nat → Nat → Nat → α) (k j i : Nat) (v : α) : Nat → Nat → Nat → α := fun k' j' i' => if k' = k ∧ j' = j ∧ i' = i then v else A k' j' i'
def zA (W : zW) (k j i : Nat) (v : Int32) : zW := (W.1, zset W.2.1 k j i v, W.2.2)
def zB (W : zW) (k j i : Nat) (v : Int64) : zW := (W.1, W.2.1, zset W.2.2.1 k j i v, W.2.2.2)
def zF (W : zW) (k j i : Nat) (v : Option Nat) : zW := (W.1, W.2.1, W.2.2.1, W.2.2.2.1, zset W.2.2.2.2 k j i v)
theorem va_hvR (x : Option Nat) : hvR (va_rf x) = some x := by cases x <;> rfl
section CRs
variable {V : hx_V} {h : hx_S} {W : zW} {g : Nat → Option hx_C}
theorem CR.at (C : CR V h W g) {k j : Nat} (hl : j < zn W k) : ∃ f, h.2.2 (W.1 k j) = some (ztag k, zlen W k, f) ∧ ∀ i, i < zlen W k → f i = zv W k j i := by
  obtain ⟨⟨t, n, f⟩, e1, e2, e3, e4⟩ := C.1 k j hl
  have a1 : t = ztag k := e2
  have a2 : n = zlen W k := e3
  subst a1 a2
  exact ⟨f, e1, e4⟩
theorem CR.gI (C : CR V h W g) {k j i : Nat} {ts : List Nat} (hl : j < zn W k) (hty : zty k i = 0) (hts : ts.contains (ztag k) = true) (hi : i < zlen W k) : hgI h (W.1 k j) ts i = some (W.2.1 k j i) := by
  obtain ⟨f, e, hf⟩ := C.at hl
  simp only [hgI, hg, e]
  rw [if_pos (by simp [hi]; simpa using hts), Option.bind_some, hf i hi]
  simp only [zv, hty]
  rfl
theorem CR.gL (C : CR V h W g) {k j i : Nat} {ts : List Nat} (hl : j < zn W k) (hty : zty k i = 1) (hts : ts.contains (ztag k) = true) (hi : i < zlen W k) : hgL h (W.1 k j) ts i = some (W.2.2.1 k j i) := by
  obtain ⟨f, e, hf⟩ := C.at hl
  simp only [hgL, hg, e]
  rw [if_pos (by simp [hi]; simpa using hts), Option.bind_some, hf i hi]
  simp only [zv, hty]
  rfl
theorem CR.gX (C : CR V h W g) {k j i : Nat} {ts : List Nat} {r : Option Nat} (hl : j < zn W k) (hv : zv W k j i = va_rf r) (hts : ts.contains (ztag k) = true) (hi : i < zlen W k) : hgR h (W.1 k j) ts i = some r := by
  obtain ⟨f, e, hf⟩ := C.at hl
  simp only [hgR, hg, e]
  rw [if_pos (by simp [hi]; simpa using hts), Option.bind_some, hf i hi, hv]
  exact va_hvR _
theorem CR.gR (C : CR V h W g) {k j i : Nat} {ts : List Nat} (hl : j < zn W k) (hty : zty k i = 2) (hts : ts.contains (ztag k) = true) (hi : i < zlen W k) : hgR h (W.1 k j) ts i = some (zr W k j i) := C.gX hl (by simp only [zv, hty]) hts hi
theorem CR.gE (C : CR V h W g) {k j i : Nat} {ts : List Nat} (hl : j < zn W k) (hty : zty k i = 3) (hts : ts.contains (ztag k) = true) (hi : i < zlen W k) : hgR h (W.1 k j) ts i = some (zenc W (zek k) (W.2.1 k j i)) := C.gX hl (by simp only [zv, hty]) hts hi
theorem CR.gF (C : CR V h W g) {k j i : Nat} {ts : List Nat} (hl : j < zn W k) (hty : zty k i = 4) (hts : ts.contains (ztag k) = true) (hi : i < zlen W k) : hgR h (W.1 k j) ts i = some (W.2.2.2.2 k j i) := C.gX hl (by simp only [zv, hty]) hts hi
theorem CR.kk (C : CR V h W g) {k j : Nat} {ts : List Nat} (hl : j < zn W k) (hts : ts.contains (ztag k) = true) : hk h (W.1 k j) ts = true := by
  obtain ⟨f, e, hf⟩ := C.at hl
  simp only [hk, e]
  exact hts
theorem CR.tag (C : CR V h W g) {k j : Nat} (hl : j < zn W k) : htag h (W.1 k j) = some (ztag k) := by
  obtain ⟨f, e, hf⟩ := C.at hl
  simp only [htag, e]
  rfl
theorem CR.kck (C : CR V h W g) {k j : Nat} {ts : List Nat} (hl : j < zn W k) (hts : ts.contains (ztag k) = true) : hck h (some (W.1 k j)) ts = true := C.kk hl hts
theorem CR.gAI (C : CR V h W g) {k j i : Nat} (hl : j < zn W k) (hty : zty k i = 0) (hi : i < zlen W k) (hb : zlen W k < 2 ^ 31) : hgAI h (W.1 k j) (ztag k) (nI i) = some (W.2.1 k j i) := by
  obtain ⟨f, e, hf⟩ := C.at hl
  simp only [hgAI, hgA, e, pl_cl (Nat.lt_trans hi hb)]
  rw [if_pos (by simp [pl_in hi hb]), Option.bind_some, hf i hi]
  simp only [zv, hty]
  rfl
theorem CR.gAL (C : CR V h W g) {k j i : Nat} (hl : j < zn W k) (hty : zty k i = 1) (hi : i < zlen W k) (hb : zlen W k < 2 ^ 31) : hgAL h (W.1 k j) (ztag k) (nI i) = some (W.2.2.1 k j i) := by
  obtain ⟨f, e, hf⟩ := C.at hl
  simp only [hgAL, hgA, e, pl_cl (Nat.lt_trans hi hb)]
  rw [if_pos (by simp [pl_in hi hb]), Option.bind_some, hf i hi]
  simp only [zv, hty]
  rfl
theorem CR.gQ (C : CR V h W g) {k j i : Nat} {r : Option Nat} (hl : j < zn W k) (hr : zv W k j i = va_rf r) (ht : 105 ≤ ztag k ∧ ztag k < 109) (hi : i < zlen W k) (hb : zlen W k < 2 ^ 31) : hgQ h (W.1 k j) (nI i) = some r := by
  obtain ⟨f, e, hf⟩ := C.at hl
  simp only [hgQ, e, pl_cl (Nat.lt_trans hi hb)]
  rw [if_pos (by simp [pl_in hi hb, ht]), hf i hi, hr]
  exact va_hvR _
theorem CR.ln (C : CR V h W g) {k j : Nat} (hl : j < zn W k) (ht : 100 ≤ ztag k ∧ ztag k < 109) : hln h (W.1 k j) = some (nI (zlen W k)) := by
  obtain ⟨f, e, hf⟩ := C.at hl
  simp only [hln, e]
  rw [if_pos (by simp [ht])]
theorem zv_A {W : zW} {k j i : Nat} {v : Int32} (hty : zty k i = 0 ∨ zty k i = 3) (k' j' i' : Nat) : zv (zA W k j i v) k' j' i' = if k' = k ∧ j' = j ∧ i' = i then (match zty k i with | 0 => .int v | _ => va_rf (zenc W (zek k) v)) else zv W k' j' i' := by
  by_cases e : k' = k ∧ j' = j ∧ i' = i
  · rw [if_pos e]
    obtain ⟨rfl, rfl, rfl⟩ := e
    rcases hty with hty | hty <;> simp only [zv, hty, zA, zset, and_self, if_true] <;> rfl
  · rw [if_neg e]
    simp only [zv, zA, zset, e, if_false]
    split <;> rfl
/-- a cell one of whose places is other -/
theorem csim.put {c : hx_C} {t n : Nat} {z z' : Nat → Value} {i : Nat} {x : Value} (h : csim c (t, n, z)) (h1 : z' i = x) (h2 : ∀ i', i' ≠ i → z' i' = z i') : csim (hx_putv c i x) (t, n, z') := by
  refine ⟨h.1, h.2.1, fun i' hi' => ?_⟩
  show updV c.2.2 i x i' = z' i'
  by_cases e : i' = i
  · subst e
    simp [updV, h1]
  · have := h.2.2 i' hi'
    simp only [updV, e, if_false, h2 i' e]
    exact this
theorem zlen_A (W : zW) (k j i : Nat) (v : Int32) : zlen (zA W k j i v) = zlen W := rfl
theorem zlen_B (W : zW) (k j i : Nat) (v : Int64) : zlen (zB W k j i v) = zlen W := rfl
theorem CR.putA (C : CR V h W g) {k j i : Nat} {v : Int32} {x : Value} {c : hx_C} (hl : j < zn W k) (hc : h.2.2 (W.1 k j) = some c) (hx : (zty k i = 0 ∧ x = .int v) ∨ (zty k i = 3 ∧ x = va_rf (zenc W (zek k) v))) : CR V (hx_set h (W.1 k j) (hx_putv c i x)) (zA W k j i v) g := by
  have ht : zty k i = 0 ∨ zty k i = 3 := hx.imp (·.1) (·.1)
  obtain ⟨c', e1, e2⟩ := C.1 k j hl
  cases hc.symm.trans e1
  have z1 : zv (zA W k j i v) k j i = x := by
    rw [zv_A ht, if_pos ⟨rfl, rfl, rfl⟩]
    rcases hx with ⟨h1, rfl⟩ | ⟨h1, rfl⟩ <;> simp only [h1]
  have z2 : ∀ i', i' ≠ i → zv (zA W k j i v) k j i' = zv W k j i' := fun i' hi' => by rw [zv_A ht, if_neg (fun q => hi' q.2.2)]
  have s1 : csim (hx_putv c i x) (zc (zA W k j i v) k j) := by
    unfold zc at e2 ⊢
    rw [zlen_A]
    exact csim.put e2 z1 z2
  have s2 : ∀ k' j', j' < zn W k' → ¬ (k' = k ∧ j' = j) → csim (zc W k' j') (zc (zA W k j i v) k' j') := by
    intro k' j' _ e
    unfold zc
    rw [zlen_A]
    refine ⟨rfl, rfl, fun i' _ => ?_⟩
    show zv W k' j' i' = zv (zA W k j i v) k' j' i'
    rw [zv_A ht, if_neg (fun q => e ⟨q.1, q.2.1⟩)]
  exact RS.set (cl := zc W) C hl _ s1 s2
theorem CR.pX (C : CR V h W g) {k j i : Nat} {ts : List Nat} (v : Int32) {x : Value} (hl : j < zn W k) (hx : (zty k i = 0 ∧ x = .int v) ∨ (zty k i = 3 ∧ x = va_rf (zenc W (zek k) v))) (hts : ts.contains (ztag k) = true) (hnf : zlen W k = hx_nf (ztag k)) :
    ∃ h', hp V h (W.1 k j) ts i x = some h' ∧ CR V h' (zA W k j i v) g ∧ h'.1 = h.1 ∧ h'.2.1 = h.2.1 := by
  obtain ⟨f, e, hf⟩ := C.at hl
  refine ⟨_, ?_, C.putA hl e hx, rfl, rfl⟩
  have hB := (C.2.1 k j hl).1
  simp only [hp, e]
  rw [if_pos (by simp [hnf, hB]; simpa using hts)]
theorem CR.pI (C : CR V h W g) {k j i : Nat} {ts : List Nat} (v : Int32) (hl : j < zn W k) (hty : zty k i = 0) (hts : ts.contains (ztag k) = true) (hnf : zlen W k = hx_nf (ztag k)) :
    ∃ h', hp V h (W.1 k j) ts i (.int v) = some h' ∧ CR V h' (zA W k j i v) g ∧ h'.1 = h.1 ∧ h'.2.1 = h.2.1 := C.pX v hl (Or.inl ⟨hty, rfl⟩) hts hnf
theorem CR.pE (C : CR V h W g) {k j i : Nat} {ts : List Nat} (v : Int32) (hl : j < zn W k) (hty : zty k i = 3) (hts : ts.contains (ztag k) = true) (hnf : zlen W k = hx_nf (ztag k)) :
    ∃ h', hp V h (W.1 k j) ts i (va_rf (zenc W (zek k) v)) = some h' ∧ CR V h' (zA W k j i v) g ∧ h'.1 = h.1 ∧ h'.2.1 = h.2.1 := C.pX v hl (Or.inr ⟨hty, rfl⟩) hts hnf
theorem CR.pAI (C : CR V h W g) {k j i : Nat} (v : Int32) (hl : j < zn W k) (hty : zty k i = 0) (hi : i < zlen W k) (hb : zlen W k < 2 ^ 31) :
    ∃ h', hpA V h (W.1 k j) (ztag k) (nI i) (.int v) = some h' ∧ CR V h' (zA W k j i v) g ∧ h'.1 = h.1 ∧ h'.2.1 = h.2.1 := by
  obtain ⟨f, e, hf⟩ := C.at hl
  refine ⟨_, ?_, C.putA hl e (Or.inl ⟨hty, rfl⟩), rfl, rfl⟩
  have hB := (C.2.1 k j hl).1
  simp only [hpA, e, pl_cl (Nat.lt_trans hi hb)]
  rw [if_pos (by simp [hB, pl_in hi hb])]
theorem CR.putB (C : CR V h W g) {k j i : Nat} {v : Int64} {c : hx_C} (hl : j < zn W k) (hc : h.2.2 (W.1 k j) = some c) (hx : zty k i = 1) : CR V (hx_set h (W.1 k j) (hx_putv c i (.long v))) (zB W k j i v) g := by
  have hv : ∀ k' j' i', zv (zB W k j i v) k' j' i' = if k' = k ∧ j' = j ∧ i' = i then .long v else zv W k' j' i' := by
    intro k' j' i'
    by_cases e : k' = k ∧ j' = j ∧ i' = i
    · rw [if_pos e]
      obtain ⟨rfl, rfl, rfl⟩ := e
      simp only [zv, hx, zB, zset, and_self, if_true]
    · rw [if_neg e]
      simp only [zv, zB, zset, e, if_false]
      split <;> rfl
  obtain ⟨c', e1, e2⟩ := C.1 k j hl
  cases hc.symm.trans e1
  have z1 : zv (zB W k j i v) k j i = .long v := by rw [hv, if_pos ⟨rfl, rfl, rfl⟩]
  have z2 : ∀ i', i' ≠ i → zv (zB W k j i v) k j i' = zv W k j i' := fun i' hi' => by rw [hv, if_neg (fun q => hi' q.2.2)]
  have s1 : csim (hx_putv c i (.long v)) (zc (zB W k j i v) k j) := by
    unfold zc at e2 ⊢
    rw [zlen_B]
    exact csim.put e2 z1 z2
  have s2 : ∀ k' j', j' < zn W k' → ¬ (k' = k ∧ j' = j) → csim (zc W k' j') (zc (zB W k j i v) k' j') := by
    intro k' j' _ e
    unfold zc
    rw [zlen_B]
    refine ⟨rfl, rfl, fun i' _ => ?_⟩
    show zv W k' j' i' = zv (zB W k j i v) k' j' i'
    rw [hv, if_neg (fun q => e ⟨q.1, q.2.1⟩)]
  exact RS.set (cl := zc W) C hl _ s1 s2
theorem CR.pL (C : CR V h W g) {k j i : Nat} {ts : List Nat} (v : Int64) (hl : j < zn W k) (hty : zty k i = 1) (hts : ts.contains (ztag k) = true) (hnf : zlen W k = hx_nf (ztag k)) :
    ∃ h', hp V h (W.1 k j) ts i (.long v) = some h' ∧ CR V h' (zB W k j i v) g ∧ h'.1 = h.1 ∧ h'.2.1 = h.2.1 := by
  obtain ⟨f, e, hf⟩ := C.at hl
  refine ⟨_, ?_, C.putB hl e hty, rfl, rfl⟩
  have hB := (C.2.1 k j hl).1
  simp only [hp, e]
  rw [if_pos (by simp [hnf, hB]; simpa using hts)]
theorem CR.pAL (C : CR V h W g) {k j i : Nat} (v : Int64) (hl : j < zn W k) (hty : zty k i = 1) (hi : i < zlen W k) (hb : zlen W k < 2 ^ 31) :
    ∃ h', hpA V h (W.1 k j) (ztag k) (nI i) (.long v) = some h' ∧ CR V h' (zB W k j i v) g ∧ h'.1 = h.1 ∧ h'.2.1 = h.2.1 := by
  obtain ⟨f, e, hf⟩ := C.at hl
  refine ⟨_, ?_, C.putB hl e hty, rfl, rfl⟩
  have hB := (C.2.1 k j hl).1
  simp only [hpA, e, pl_cl (Nat.lt_trans hi hb)]
  rw [if_pos (by simp [hB, pl_in hi hb])]
end CRs
/-- what is asked (kind 6) may be anything; kinds 3, 4, 9, 10 (told, acts) are kept in T, all others in W -/
def zk : Nat → Bool := fun k => match k with
  | 3 => true | 4 => true | 9 => true | 10 => true | _ => false
def zmix (W T : zW) (f : Nat → Int64) : zW :=
  (fun k j => if zk k = true then T.1 k j else W.1 k j, fun k j i => if zk k = true then T.2.1 k j i else W.2.1 k j i, fun k j i => if k = 6 ∧ j = 0 then f i else W.2.2.1 k j i,
   fun k => if zk k = true then T.2.2.2.1 k else W.2.2.2.1 k, fun k j i => if zk k = true then T.2.2.2.2 k j i else W.2.2.2.2 k j i)
def CS (V : hx_V) (h : hx_S) (W T : zW) (g : Nat → Option hx_C) : Prop := ∃ f, CR V h (zmix W T f) g
theorem zA_mix {W T : zW} {f : Nat → Int64} {k j i : Nat} {v : Int32} (hk : zk k = false) : zA (zmix W T f) k j i v = zmix (zA W k j i v) T f := by
  refine congrArg (fun x => ((zmix W T f).1, x, (zmix W T f).2.2)) (funext fun k' => funext fun j' => funext fun i' => ?_)
  simp only [zmix, zset, zA]
  by_cases e : zk k' = true
  · rw [if_pos e, if_pos e, if_neg (fun q => by rw [q.1, hk] at e; cases e)]
  · rw [if_neg e, if_neg e]
theorem zA_mixT {W T : zW} {f : Nat → Int64} {k j i : Nat} {v : Int32} (hk : zk k = true) : zA (zmix W T f) k j i v = zmix W (zA T k j i v) f := by
  refine congrArg (fun x => ((zmix W T f).1, x, (zmix W T f).2.2)) (funext fun k' => funext fun j' => funext fun i' => ?_)
  simp only [zmix, zset, zA]
  by_cases e : zk k' = true
  · rw [if_pos e, if_pos e]
  · rw [if_neg e, if_neg e, if_neg (fun q => by rw [q.1] at e; exact e hk)]
theorem zB_mix {W T : zW} {f : Nat → Int64} {k j i : Nat} {v : Int64} (hk : k ≠ 6) : zB (zmix W T f) k j i v = zmix (zB W k j i v) T f := by
  refine congrArg (fun x => ((zmix W T f).1, (zmix W T f).2.1, x, (zmix W T f).2.2.2)) (funext fun k' => funext fun j' => funext fun i' => ?_)
  simp only [zmix, zset, zB]
  by_cases e : k' = 6 ∧ j' = 0
  · rw [if_pos e, if_pos e, if_neg (fun q => hk (q.1.symm.trans e.1))]
  · rw [if_neg e, if_neg e]
theorem zB_mix6 {W T : zW} {f : Nat → Int64} {i : Nat} {v : Int64} : zB (zmix W T f) 6 0 i v = zmix W T (fun j => if j = i then v else f j) := by
  refine congrArg (fun x => ((zmix W T f).1, (zmix W T f).2.1, x, (zmix W T f).2.2.2)) (funext fun k' => funext fun j' => funext fun i' => ?_)
  simp only [zmix, zset]
  by_cases a : k' = 6 ∧ j' = 0
  · obtain ⟨rfl, rfl⟩ := a
    by_cases b : i' = i
    · simp [b]
    · simp [b]
  · rw [if_neg (fun q => a ⟨q.1, q.2.1⟩), if_neg a, if_neg a]
theorem zmix_at {W T : zW} {f : Nat → Int64} {k : Nat} (hk : zk k = false) (j : Nat) : (zmix W T f).1 k j = W.1 k j := by
  show (if zk k = true then _ else _) = _
  rw [if_neg (by rw [hk]; decide)]
section CSs
variable {V : hx_V} {h : hx_S} {W T : zW} {g : Nat → Option hx_C}
theorem CS.pI (C : CS V h W T g) {k j i : Nat} {ts : List Nat} (v : Int32) (hl : j < zn W k) (hty : zty k i = 0) (hts : ts.contains (ztag k) = true) (hnf : zlen W k = hx_nf (ztag k)) (hk : zk k = false) (hn : ∀ f, zn (zmix W T f) k = zn W k) (hle : ∀ f, zlen (zmix W T f) k = zlen W k) :
    ∃ h', hp V h (W.1 k j) ts i (.int v) = some h' ∧ CS V h' (zA W k j i v) T g ∧ h'.1 = h.1 ∧ h'.2.1 = h.2.1 := by
  obtain ⟨f, C⟩ := C
  obtain ⟨h', e, C', r⟩ := CR.pI (W := zmix W T f) C v (by rw [hn]; exact hl) hty hts (by rw [hle]; exact hnf)
  rw [zmix_at hk] at e
  rw [zA_mix hk] at C'
  exact ⟨h', e, ⟨f, C'⟩, r⟩
theorem CS.pE (C : CS V h W T g) {k j i : Nat} {ts : List Nat} (v : Int32) (hl : j < zn W k) (hty : zty k i = 3) (hts : ts.contains (ztag k) = true) (hnf : zlen W k = hx_nf (ztag k)) (hk : zk k = false) (hn : ∀ f, zn (zmix W T f) k = zn W k) (hle : ∀ f, zlen (zmix W T f) k = zlen W k) (he : zk (zek k) = false) :
    ∃ h', hp V h (W.1 k j) ts i (va_rf (zenc W (zek k) v)) = some h' ∧ CS V h' (zA W k j i v) T g ∧ h'.1 = h.1 ∧ h'.2.1 = h.2.1 := by
  obtain ⟨f, C⟩ := C
  obtain ⟨h', e, C', r⟩ := CR.pE (W := zmix W T f) C v (by rw [hn]; exact hl) hty hts (by rw [hle]; exact hnf)
  have e2 : zenc (zmix W T f) (zek k) v = zenc W (zek k) v := by
    unfold zenc
    rw [zmix_at he]
  rw [zmix_at hk, e2] at e
  rw [zA_mix hk] at C'
  exact ⟨h', e, ⟨f, C'⟩, r⟩
theorem CS.pAI (C : CS V h W T g) {k j i : Nat} (v : Int32) (hl : j < zn W k) (hty : zty k i = 0) (hi : i < zlen W k) (hb : zlen W k < 2 ^ 31) (hk : zk k = false) (hn : ∀ f, zn (zmix W T f) k = zn W k) (hle : ∀ f, zlen (zmix W T f) k = zlen W k) :
    ∃ h', hpA V h (W.1 k j) (ztag k) (nI i) (.int v) = some h' ∧ CS V h' (zA W k j i v) T g ∧ h'.1 = h.1 ∧ h'.2.1 = h.2.1 := by
  obtain ⟨f, C⟩ := C
  obtain ⟨h', e, C', r⟩ := CR.pAI (W := zmix W T f) C v (by rw [hn]; exact hl) hty (by rw [hle]; exact hi) (by rw [hle]; exact hb)
  rw [zmix_at hk] at e
  rw [zA_mix hk] at C'
  exact ⟨h', e, ⟨f, C'⟩, r⟩
theorem CS.pL (C : CS V h W T g) {k j i : Nat} {ts : List Nat} (v : Int64) (hl : j < zn W k) (hty : zty k i = 1) (hts : ts.contains (ztag k) = true) (hnf : zlen W k = hx_nf (ztag k)) (hk : zk k = false) (hn : ∀ f, zn (zmix W T f) k = zn W k) (hle : ∀ f, zlen (zmix W T f) k = zlen W k) (h6 : k ≠ 6) :
    ∃ h', hp V h (W.1 k j) ts i (.long v) = some h' ∧ CS V h' (zB W k j i v) T g ∧ h'.1 = h.1 ∧ h'.2.1 = h.2.1 := by
  obtain ⟨f, C⟩ := C
  obtain ⟨h', e, C', r⟩ := CR.pL (W := zmix W T f) C v (by rw [hn]; exact hl) hty hts (by rw [hle]; exact hnf)
  rw [zmix_at hk] at e
  rw [zB_mix h6] at C'
  exact ⟨h', e, ⟨f, C'⟩, r⟩
/-- a numbered cell laid into a row of guests (askedFor) -/
theorem CS.pQ7 (C : CS V h W T g) {i : Nat} (v : Int32) (hi : i < 6) (hv : v = -1 ∨ v.toNatClampNeg < W.2.2.2.1 1) : ∃ h', hpQ V h (W.1 7 0) (nI i) (zenc W 29 v) = some h' ∧ CS V h' (zA W 7 0 i v) T g ∧ h'.1 = h.1 ∧ h'.2.1 = h.2.1 := by
  obtain ⟨f, C⟩ := C
  obtain ⟨c, hc, -⟩ := CR.at (W := zmix W T f) (k := 7) (j := 0) C (show 0 < 1 from Nat.zero_lt_one)
  replace hc : h.2.2 (W.1 7 0) = some (106, 6, c) := hc
  have C' := CR.putA (W := zmix W T f) (k := 7) (j := 0) (i := i) (v := v) C (show 0 < 1 from Nat.zero_lt_one) hc (Or.inr ⟨rfl, rfl⟩)
  rw [zA_mix (k := 7) rfl] at C'
  refine ⟨_, ?_, ⟨f, C'⟩, rfl, rfl⟩
  have hB : V.2.1.size ≤ W.1 7 0 := (C.2.1 7 0 (show 0 < 1 from Nat.zero_lt_one)).1
  have hz : ∀ b, zenc W 29 v = some b → hk h b [9] = true := by
    unfold zenc
    intro b hb
    by_cases e : v = -1
    · rw [if_pos e] at hb; cases hb
    · rw [if_neg e] at hb
      cases hb
      exact CR.kk (W := zmix W T f) (k := 29) (ts := [9]) C (hv.resolve_left e) rfl
  unfold hpQ
  rw [hc]
  show (if _ then some (hx_set h (W.1 7 0) (hx_putv (106, 6, c) (nI i).toNatClampNeg (va_rf (zenc W 29 v)))) else none) = _
  rw [pl_cl (by omega), if_pos]
  · rfl
  · have h1 : hx_in (nI i) 6 = true := pl_in (n := 6) hi (by decide)
    show ((decide ((106 : Nat) = 105) || decide ((106 : Nat) = 106)) && (hx_in (nI i) 6 && (decide (V.2.1.size ≤ W.1 7 0) && _))) = true
    rw [h1]
    cases ee : zenc W 29 v with
    | none => simp [hB]
    | some b => simp [hB, hz b ee]
end CSs
