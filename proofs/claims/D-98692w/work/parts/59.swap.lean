/-! PURE SIDE: the call swap -/
set_option maxRecDepth 100000
def zpi (a b j : Nat) : Nat := if j = b then a else if j = a then b else j
def zsg (a b k j : Nat) : Nat := if k = 27 ∨ k = 28 then zpi a b j else j
/-- two beasts swap what they saw -/
def zsw (W : zW) (a b : Nat) : zW := (fun k j => W.1 k (zsg a b k j), fun k j i => W.2.1 k (zsg a b k j) i, W.2.2)
theorem zsg_o {a b k : Nat} (h : k ≠ 27) (h' : k ≠ 28) (j : Nat) : zsg a b k j = j := by
  unfold zsg
  rw [if_neg (by omega)]
theorem zpi_lt {a b j n : Nat} (ha : a < n) (hb : b < n) (hj : j < n) : zpi a b j < n := by
  unfold zpi
  split
  · exact ha
  · split
    · exact hb
    · exact hj
theorem zpi_inj {a b j j' : Nat} (h : zpi a b j = zpi a b j') : j = j' := by
  unfold zpi at h
  split at h <;> split at h <;> (try split at h) <;> (try split at h) <;> omega
/-- cells while two beasts swap -/
def clp (W : zW) (p q : Nat → Nat) (k j : Nat) : hx_C := if k = 25 then (8, 8, fun i => if i = 6 then va_rf (some (W.1 27 (p j))) else if i = 7 then va_rf (some (W.1 28 (q j))) else zv W 25 j i) else zc W k j
section SW
variable {V : hx_V} {h : hx_S} {W X T : zW} {G gt : Nat → Option hx_C} {ms : mx_S} {bk : Nat} {lk my : zL} {L : List (Nat → Int32)} {As : List zU} {p q : Nat → Nat}
theorem clp_0 (C : CR V h W G) : RS V h (fun k j => j < zn W k) W.1 (clp W id id) G := by
  refine RS.cells (cl := zc W) C (fun _ _ hl => hl) (fun k j _ => ?_)
  unfold clp
  by_cases e : k = 25
  · subst e
    rw [if_pos rfl]
    refine ⟨rfl, rfl, fun i _ => ?_⟩
    show zv W 25 j i = if i = 6 then _ else if i = 7 then _ else zv W 25 j i
    by_cases e6 : i = 6
    · subst e6; rfl
    · rw [if_neg e6]
      by_cases e7 : i = 7
      · subst e7; rfl
      · rw [if_neg e7]
  · rw [if_neg e]; exact csim.refl _
theorem clp_r {x : Option Nat} {j i : Nat} (R : RS V h (fun k j => j < zn W k) W.1 (clp W p q) G) (hj : j < W.2.2.2.1 0) (hi : i < 8) (hx : (clp W p q 25 j).2.2 i = va_rf x) : hgR h (W.1 25 j) [8] i = some x := by
  obtain ⟨⟨t, n, f⟩, e1, e2, e3, e4⟩ := R.1 25 j hj
  have a1 : t = 8 := e2
  have a2 : n = 8 := e3
  subst a1 a2
  have a3 : f i = va_rf x := (e4 i hi).trans hx
  simp only [hgR, hg, e1]
  rw [if_pos (by simp [hi]), Option.bind_some, a3]
  exact va_hvR _
theorem clp_w {x : Value} {j i : Nat} {p' q' : Nat → Nat} (R : RS V h (fun k j => j < zn W k) W.1 (clp W p q) G) (hj : j < W.2.2.2.1 0) (h1 : (clp W p' q' 25 j).2.2 i = x) (h2 : ∀ i', i' ≠ i → (clp W p' q' 25 j).2.2 i' = (clp W p q 25 j).2.2 i') (h3 : ∀ j', j' ≠ j → p' j' = p j' ∧ q' j' = q j') : ∃ h', hp V h (W.1 25 j) [8] i x = some h' ∧ RS V h' (fun k j => j < zn W k) W.1 (clp W p' q') G ∧ h'.1 = h.1 ∧ h'.2.1 = h.2.1 := by
  obtain ⟨⟨t, n, f⟩, e1, e2, e3, e4⟩ := R.1 25 j hj
  have a1 : t = 8 := e2
  have a2 : n = 8 := e3
  subst a1 a2
  have hB := (R.2.1 25 j hj).1
  have sm : csim (hx_putv (8, 8, f) i x) (clp W p' q' 25 j) := csim.put (t := 8) (n := 8) (z := (clp W p q 25 j).2.2) (z' := (clp W p' q' 25 j).2.2) ⟨rfl, rfl, e4⟩ h1 h2
  refine ⟨_, ?_, RS.set R (k := 25) (j := j) hj (hx_putv (8, 8, f) i x) sm (fun k' j' _ e => ?_), rfl, rfl⟩
  · simp only [hp, e1]
    rw [if_pos (by simp [hB]; decide)]
  · unfold clp
    by_cases e5 : k' = 25
    · rw [if_pos e5, if_pos e5, (h3 j' (fun q => e ⟨e5, q⟩)).1, (h3 j' (fun q => e ⟨e5, q⟩)).2]
      exact csim.refl _
    · rw [if_neg e5, if_neg e5]; exact csim.refl _
theorem RS.perm {V : hx_V} {h : hx_S} {L : Nat → Nat → Prop} {ad : Nat → Nat → Nat} {cl : Nat → Nat → hx_C} {g : Nat → Option hx_C} (C : RS V h L ad cl g) (s : Nat → Nat → Nat) (h1 : ∀ k j, L k j → L k (s k j)) (h2 : ∀ k j j', s k j = s k j' → j = j') : RS V h L (fun k j => ad k (s k j)) (fun k j => cl k (s k j)) g := by
  obtain ⟨c1, c2, c3, c4⟩ := C
  refine ⟨fun k j hl => c1 k _ (h1 k j hl), fun k j hl => c2 k _ (h1 k j hl), fun k j k' j' hl hl' e => ?_, fun q c hq => ⟨(c4 q c hq).1, (c4 q c hq).2.1, fun k j hl => (c4 q c hq).2.2 k _ (h1 k j hl)⟩⟩
  obtain ⟨rfl, e2⟩ := c3 k _ k' _ (h1 k j hl) (h1 k' j' hl') e
  exact ⟨rfl, h2 k j j' e2⟩
theorem zr_sw {a b k : Nat} (hk : k ≠ 25) (j i : Nat) : zr (zsw W a b) k j i = zr W k (zsg a b k j) i := by
  have n1 : ∀ k j, k ≠ 27 → k ≠ 28 → (zsw W a b).1 k j = W.1 k j := fun k j h1 h2 => by show W.1 k (zsg a b k j) = _; rw [zsg_o h1 h2]
  have n2 : (zsw W a b).2.2.2.1 = W.2.2.2.1 := rfl
  unfold zr
  rw [n2]
  split <;> (try split) <;> (try rw [n1 _ _ (by decide) (by decide)]) <;> (try rfl)
  all_goals first
    | exact absurd rfl hk
    | (rw [zsg_o (by decide) (by decide)])
theorem zv_sw {a b k : Nat} (hk : k ≠ 25) (h6 : k ≠ 6) (j i : Nat) : zv (zsw W a b) k j i = zv W k (zsg a b k j) i := by
  have ze : ∀ v, zenc (zsw W a b) (zek k) v = zenc W (zek k) v := fun v => by
    unfold zenc
    rw [show (zsw W a b).1 (zek k) v.toNatClampNeg = W.1 (zek k) v.toNatClampNeg by
      show W.1 (zek k) (zsg a b (zek k) _) = _
      rw [zsg_o (by unfold zek; split <;> decide) (by unfold zek; split <;> decide)]]
  unfold zv
  rw [zr_sw hk, ze]
  have : ∀ t, t = zty k i → (match t with | 0 => Value.int ((zsw W a b).2.1 k j i) | 1 => .long ((zsw W a b).2.2.1 k j i) | 2 => va_rf (zr W k (zsg a b k j) i) | 3 => va_rf (zenc W (zek k) ((zsw W a b).2.1 k j i)) | _ => va_rf ((zsw W a b).2.2.2.2 k j i)) = (match t with | 0 => Value.int (W.2.1 k (zsg a b k j) i) | 1 => .long (W.2.2.1 k (zsg a b k j) i) | 2 => va_rf (zr W k (zsg a b k j) i) | 3 => va_rf (zenc W (zek k) (W.2.1 k (zsg a b k j) i)) | _ => va_rf (W.2.2.2.2 k (zsg a b k j) i)) := by
    intro t ht
    by_cases e : k = 27 ∨ k = 28
    · have : t = 0 := by rw [ht]; rcases e with rfl | rfl <;> rfl
      subst this
      rfl
    · rw [zsg_o (by omega) (by omega)]
      have e1 : (zsw W a b).2.1 k j i = W.2.1 k j i := by show W.2.1 k (zsg a b k j) i = _; rw [zsg_o (by omega) (by omega)]
      rw [e1]
      rfl
  exact this _ rfl
theorem CR.swap {a b : Nat} (R : RS V h (fun k j => j < zn W k) W.1 (clp W (zpi a b) (zpi a b)) G) (ha : a < W.2.2.2.1 0) (hb : b < W.2.2.2.1 0) : CR V h (zsw W a b) G := by
  have R1 := R.perm (zsg a b) (fun k j hl => ?_) (fun k j j' e => ?_)
  · refine RS.cells (cl := fun k j => clp W (zpi a b) (zpi a b) k (zsg a b k j)) R1 (fun _ _ hl => hl) (fun k j _ => ?_)
    show csim (clp W (zpi a b) (zpi a b) k (zsg a b k j)) _
    unfold clp
    by_cases e : k = 25
    · subst e
      rw [if_pos rfl, zsg_o (by decide) (by decide)]
      refine ⟨rfl, rfl, fun i _ => ?_⟩
      show (if i = 6 then va_rf (some (W.1 27 (zpi a b j))) else if i = 7 then va_rf (some (W.1 28 (zpi a b j))) else zv W 25 j i) = zv (zsw W a b) 25 j i
      by_cases e6 : i = 6
      · subst e6; rfl
      · rw [if_neg e6]
        by_cases e7 : i = 7
        · subst e7; rfl
        · rw [if_neg e7]
          unfold zv
          by_cases e0 : i = 0
          · subst e0; rfl
          · by_cases e5 : i = 5
            · subst e5; rfl
            · have : zty 25 i = 0 := by simp [zty, e0, e5, e6, e7]
              rw [this]
              rfl
    · rw [if_neg e]
      by_cases e6 : k = 6
      · subst e6
        exact ⟨rfl, rfl, fun i _ => rfl⟩
      · refine ⟨rfl, rfl, fun i _ => (zv_sw e e6 j i).symm⟩
  · unfold zsg
    by_cases e : k = 27 ∨ k = 28
    · rw [if_pos e]
      rcases e with rfl | rfl
      · exact zpi_lt ha hb hl
      · exact zpi_lt ha hb hl
    · rw [if_neg e]; exact hl
  · unfold zsg at e
    by_cases q : k = 27 ∨ k = 28
    · rw [if_pos q, if_pos q] at e; exact zpi_inj e
    · rw [if_neg q, if_neg q] at e; exact e
theorem zsw_mix {f : Nat → Int64} (a b : Nat) : zsw (zmix W T f) a b = zmix (zsw W a b) T f := by
  have e1 : (zsw (zmix W T f) a b).1 = (zmix (zsw W a b) T f).1 := funext fun k => funext fun j => by
    show (if zk k = true then T.1 k (zsg a b k j) else W.1 k (zsg a b k j)) = (if zk k = true then T.1 k j else W.1 k (zsg a b k j))
    by_cases q : zk k = true
    · rw [if_pos q, if_pos q, zsg_o (fun e => by subst e; cases q) (fun e => by subst e; cases q)]
    · rw [if_neg q, if_neg q]
  have e2 : (zsw (zmix W T f) a b).2.1 = (zmix (zsw W a b) T f).2.1 := funext fun k => funext fun j => funext fun i => by
    show (if zk k = true then T.2.1 k (zsg a b k j) i else W.2.1 k (zsg a b k j) i) = (if zk k = true then T.2.1 k j i else W.2.1 k (zsg a b k j) i)
    by_cases q : zk k = true
    · rw [if_pos q, if_pos q, zsg_o (fun e => by subst e; cases q) (fun e => by subst e; cases q)]
    · rw [if_neg q, if_neg q]
  exact Prod.ext e1 (Prod.ext e2 rfl)
theorem CS.swap (C : CS V h W T G) {a b : Nat} (ha : a < W.2.2.2.1 0) (hb : b < W.2.2.2.1 0) (hab : a ≠ b) :
    ∃ h1 h2 h3 h4, hgR h (W.1 25 a) [8] 6 = some (some (W.1 27 a)) ∧ hgR h (W.1 25 a) [8] 7 = some (some (W.1 28 a)) ∧ hgR h (W.1 25 b) [8] 6 = some (some (W.1 27 b)) ∧ hp V h (W.1 25 a) [8] 6 (va_rf (some (W.1 27 b))) = some h1 ∧ hgR h1 (W.1 25 b) [8] 7 = some (some (W.1 28 b)) ∧ hp V h1 (W.1 25 a) [8] 7 (va_rf (some (W.1 28 b))) = some h2 ∧ hp V h2 (W.1 25 b) [8] 6 (va_rf (some (W.1 27 a))) = some h3 ∧ hp V h3 (W.1 25 b) [8] 7 (va_rf (some (W.1 28 a))) = some h4 ∧ CS V h4 (zsw W a b) T G ∧ h4.1 = h.1 ∧ h4.2.1 = h.2.1 := by
  obtain ⟨f, C⟩ := C
  have m25 : ∀ j, (zmix W T f).1 25 j = W.1 25 j := fun j => zmix_at rfl j
  have m27 : ∀ j, (zmix W T f).1 27 j = W.1 27 j := fun j => zmix_at rfl j
  have m28 : ∀ j, (zmix W T f).1 28 j = W.1 28 j := fun j => zmix_at rfl j
  have R0 := clp_0 C
  have c6 : ∀ p q j, (clp (zmix W T f) p q 25 j).2.2 6 = va_rf (some (W.1 27 (p j))) := fun p q j => by simp [clp, m27]
  have c7 : ∀ p q j, (clp (zmix W T f) p q 25 j).2.2 7 = va_rf (some (W.1 28 (q j))) := fun p q j => by simp [clp, m28]
  have co : ∀ p q p' q' j i, (i ≠ 6 ∨ p j = p' j) → (i ≠ 7 ∨ q j = q' j) → (clp (zmix W T f) p' q' 25 j).2.2 i = (clp (zmix W T f) p q 25 j).2.2 i := fun p q p' q' j i h6 h7 => by
    unfold clp
    rw [if_pos rfl, if_pos rfl]
    show (if i = 6 then va_rf (some ((zmix W T f).1 27 (p' j))) else if i = 7 then va_rf (some ((zmix W T f).1 28 (q' j))) else _) = (if i = 6 then va_rf (some ((zmix W T f).1 27 (p j))) else if i = 7 then va_rf (some ((zmix W T f).1 28 (q j))) else _)
    by_cases e6 : i = 6
    · rw [if_pos e6, if_pos e6, h6.resolve_left (fun q => q e6)]
    · rw [if_neg e6, if_neg e6]
      by_cases e7 : i = 7
      · rw [if_pos e7, if_pos e7, h7.resolve_left (fun q => q e7)]
      · rw [if_neg e7, if_neg e7]
  have hba : b ≠ a := fun e => hab e.symm
  obtain ⟨h1, e1, R1, s1, s1'⟩ := clp_w (p' := fun j => if j = a then b else j) (q' := id) R0 (j := a) (i := 6) ha (c6 _ _ _) (fun i' hi' => co _ _ _ _ _ _ (Or.inl hi') (Or.inr rfl)) (fun j' hj' => ⟨by show (if j' = a then b else j') = j'; rw [if_neg hj'], rfl⟩)
  obtain ⟨h2, e2, R2, s2, s2'⟩ := clp_w (p' := fun j => if j = a then b else j) (q' := fun j => if j = a then b else j) R1 (j := a) (i := 7) ha (c7 _ _ _) (fun i' hi' => co _ _ _ _ _ _ (Or.inr rfl) (Or.inl hi')) (fun j' hj' => ⟨rfl, by show (if j' = a then b else j') = j'; rw [if_neg hj']⟩)
  obtain ⟨h3, e3, R3, s3, s3'⟩ := clp_w (p' := zpi a b) (q' := fun j => if j = a then b else j) R2 (j := b) (i := 6) hb (c6 _ _ _) (fun i' hi' => co _ _ _ _ _ _ (Or.inl hi') (Or.inr rfl)) (fun j' hj' => ⟨by unfold zpi; rw [if_neg hj'], rfl⟩)
  obtain ⟨h4, e4, R4, s4, s4'⟩ := clp_w (p' := zpi a b) (q' := zpi a b) R3 (j := b) (i := 7) hb (c7 _ _ _) (fun i' hi' => co _ _ _ _ _ _ (Or.inr rfl) (Or.inl hi')) (fun j' hj' => ⟨rfl, by unfold zpi; rw [if_neg hj']⟩)
  have C4 := CR.swap R4 ha hb
  rw [zsw_mix] at C4
  have g1 := clp_r R0 (j := a) (i := 6) ha (by decide) (c6 _ _ _)
  have g2 := clp_r R0 (j := a) (i := 7) ha (by decide) (c7 _ _ _)
  have g3 := clp_r R0 (j := b) (i := 6) hb (by decide) (c6 _ _ _)
  have g4 := clp_r R1 (j := b) (i := 7) hb (by decide) (c7 _ _ _)
  simp only [m25, if_pos rfl, id] at e1 e2 e3 e4 g1 g2 g3 g4
  have pb : zpi a b b = a := by unfold zpi; rw [if_pos rfl]
  rw [pb] at e3 e4
  exact ⟨h1, h2, h3, h4, g1, g2, g3, e1, g4, e2, e3, e4, ⟨f, C4⟩, by omega, by omega⟩
/-- the reference's rows, j of eight places being swapped -/
def fsw (ms : mx_S) (a b j ar i : Nat) : Int32 := if (ar = 32 ∨ ar = 33) ∧ 8 * a ≤ i ∧ i < 8 * a + j then ms.2.2.1 ar (i + 8 * b - 8 * a) else if (ar = 32 ∨ ar = 33) ∧ 8 * b ≤ i ∧ i < 8 * b + j then ms.2.2.1 ar (i + 8 * a - 8 * b) else ms.2.2.1 ar i
theorem fsw_s {a b j : Nat} (hab : a ≠ b) (hj : j < 8) {A : Nat → Nat → Int32} (hA : ∀ ar i, A ar i = fsw ms a b j ar i) (ar i : Nat) :
    (if ar = 33 ∧ i = 8 * b + j then A 33 (8 * a + j) else if ar = 32 ∧ i = 8 * b + j then A 32 (8 * a + j) else if ar = 33 ∧ i = 8 * a + j then A 33 (8 * b + j) else if ar = 32 ∧ i = 8 * a + j then A 32 (8 * b + j) else A ar i) = fsw ms a b (j + 1) ar i := by
  have oa : ∀ ar, A ar (8 * a + j) = ms.2.2.1 ar (8 * a + j) := fun ar => by
    rw [hA]; unfold fsw
    rw [if_neg (by omega), if_neg (by omega)]
  have ob : ∀ ar, A ar (8 * b + j) = ms.2.2.1 ar (8 * b + j) := fun ar => by
    rw [hA]; unfold fsw
    rw [if_neg (by omega), if_neg (by omega)]
  rw [oa, oa, ob, ob, hA]
  by_cases e1 : (ar = 32 ∨ ar = 33) ∧ i = 8 * b + j
  · have : fsw ms a b (j + 1) ar i = ms.2.2.1 ar (8 * a + j) := by
      unfold fsw
      rw [if_neg (by omega), if_pos (by omega)]
      exact congrArg (ms.2.2.1 ar) (by omega)
    rw [this]
    rcases e1 with ⟨rfl | rfl, e⟩
    · rw [if_neg (by omega), if_pos ⟨rfl, e⟩]
    · rw [if_pos ⟨rfl, e⟩]
  · rw [if_neg (by omega), if_neg (by omega)]
    by_cases e2 : (ar = 32 ∨ ar = 33) ∧ i = 8 * a + j
    · have : fsw ms a b (j + 1) ar i = ms.2.2.1 ar (8 * b + j) := by
        unfold fsw
        rw [if_pos (by omega)]
        exact congrArg (ms.2.2.1 ar) (by omega)
      rw [this]
      rcases e2 with ⟨rfl | rfl, e⟩
      · rw [if_neg (by omega), if_pos ⟨rfl, e⟩]
      · rw [if_pos ⟨rfl, e⟩]
    · rw [if_neg (by omega), if_neg (by omega)]
      unfold fsw
      by_cases q : (ar = 32 ∨ ar = 33) ∧ 8 * a ≤ i ∧ i < 8 * a + j
      · rw [if_pos q, if_pos (by omega)]
      · rw [if_neg q, if_neg (show ¬ ((ar = 32 ∨ ar = 33) ∧ 8 * a ≤ i ∧ i < 8 * a + (j + 1)) by omega)]
        by_cases q2 : (ar = 32 ∨ ar = 33) ∧ 8 * b ≤ i ∧ i < 8 * b + j
        · rw [if_pos q2, if_pos (by omega)]
        · rw [if_neg q2, if_neg (by omega)]
theorem ml_swap {a b : Nat} (ha : a < 6) (hb : b < 6) (hab : a ≠ b) : yes (hx_wh (m_swap_s41 (nI a) (nI b)) hx_FU ((0 : Int32), ms)) (fun r => r.1 = 1 ∧ r.2.1 = ms.1 ∧ r.2.2.1 = ms.2.1 ∧ r.2.2.2.2 = ms.2.2.2 ∧ ∀ ar i, r.2.2.2.1 ar i = fsw ms a b 8 ar i) := by
  refine yes.wh (I := fun n s => ∃ j, n = 8 - j ∧ j ≤ 8 ∧ s.1 = nI j ∧ s.2.1 = ms.1 ∧ s.2.2.1 = ms.2.1 ∧ s.2.2.2.2 = ms.2.2.2 ∧ ∀ ar i, s.2.2.2.1 ar i = fsw ms a b j ar i) (n := 8) ⟨0, rfl, by decide, rfl, rfl, rfl, rfl, fun ar i => ?_⟩ (by decide) ?_
  · show ms.2.2.1 ar i = _
    unfold fsw
    rw [if_neg (by omega), if_neg (by omega)]
  · rintro n ⟨x1, mx⟩ ⟨j, rfl, hj, e1, m1, m2, m3, m4⟩
    simp only at e1 m1 m2 m3 m4
    subst e1
    unfold m_swap_s41
    simp only
    by_cases h8 : j = 8
    · subst h8
      rw [if_pos (show (8 : Int32) ≤ nI 8 by decide)]
      exact yes.ret ⟨rfl, m1, m2, m3, m4⟩
    · rw [if_neg (show ¬ (8 : Int32) ≤ nI j from nI_ge (b := 8) (by omega) (by decide)), (show m_pair (0 : Int32) (nI a) (nI j) mx = _ from ml_pair (v := 0) a j), Option.bind_some, (show m_pair (0 : Int32) (nI b) (nI j) mx = _ from ml_pair (v := 0) b j), Option.bind_some, show 48 * 0 + 8 * a + j = 8 * a + j by omega, show 48 * 0 + 8 * b + j = 8 * b + j by omega]
      have ia : hx_in (nI (8 * a + j)) 1056 = true := pl_in (by omega) (by decide)
      have ib : hx_in (nI (8 * b + j)) 1056 = true := pl_in (by omega) (by decide)
      simp only [if_pos ia, if_pos ib, pl_cl (show 8 * a + j < 2 ^ 31 by omega), pl_cl (show 8 * b + j < 2 ^ 31 by omega)]
      refine yes.ret ⟨8 - (j + 1), by omega, j + 1, rfl, by omega, nI_1 j, m1, m2, m3, fun ar i => ?_⟩
      exact fsw_s hab (by omega) m4 ar i
theorem fsw_z {a b j k ar : Nat} (hab : a ≠ b) (har : ar = 32 ∨ ar = 33) (hk : k < 8) : fsw ms a b 8 ar (8 * j + k) = ms.2.2.1 ar (8 * zpi a b j + k) := by
  unfold fsw zpi
  by_cases ja : j = a
  · rw [if_pos (by omega), if_neg (by omega), if_pos ja]
    exact congrArg (ms.2.2.1 ar) (by omega)
  · by_cases jb : j = b
    · rw [if_neg (by omega), if_pos (by omega), if_pos jb]
      exact congrArg (ms.2.2.1 ar) (by omega)
    · rw [if_neg (by omega), if_neg (by omega), if_neg jb, if_neg ja]
theorem zsw_I {a b : Nat} (Z : ZI W) (ha : a < W.2.2.2.1 0) (hb : b < W.2.2.2.1 0) : ZI (zsw W a b) := by
  have o : ∀ k j i, k ≠ 27 → k ≠ 28 → (zsw W a b).2.1 k j i = W.2.1 k j i := fun k j i h1 h2 => by show W.2.1 k (zsg a b k j) i = _; rw [zsg_o h1 h2]
  obtain ⟨⟨s1, s2, s3, s4, s5, s6, s7, s8⟩, ⟨z1, z2, z3, z4⟩, z5, z6, z7, z8⟩ := Z
  refine ⟨⟨s1, s2, by rw [o 21 _ _ (by decide) (by decide)]; exact s3, by rw [o 23 _ _ (by decide) (by decide)]; exact s4, s5, s6, fun b' hb' => ?_, fun b' hb' => ?_⟩, ⟨fun b' hb' i hi => ?_, fun k hk i hi => ?_, fun b' hb' i hi => ?_, ?_⟩, ?_, ?_, fun k hk => ?_, fun b' hb' => ?_⟩
  · rw [o 25 _ _ (by decide) (by decide)]; exact s7 b' hb'
  · rw [o 29 _ _ (by decide) (by decide)]; exact s8 b' hb'
  · rw [o 26 _ _ (by decide) (by decide)]; exact z1 b' hb' i hi
  · rw [o 30 _ _ (by decide) (by decide)]; exact z2 k hk i hi
  · exact z3 (zpi a b b') (zpi_lt ha hb hb') i hi
  · rw [o 0 _ _ (by decide) (by decide)]; exact z4
  · rw [o 0 _ _ (by decide) (by decide)]; exact z5
  · rw [o 20 _ _ (by decide) (by decide), o 20 _ _ (by decide) (by decide), o 20 _ _ (by decide) (by decide), o 20 _ _ (by decide) (by decide), o 20 _ _ (by decide) (by decide)]; exact z6
  · rw [o 29 _ _ (by decide) (by decide), o 29 _ _ (by decide) (by decide), o 29 _ _ (by decide) (by decide), o 29 _ _ (by decide) (by decide), o 29 _ _ (by decide) (by decide)]; exact z7 k hk
  · rw [o 25 _ _ (by decide) (by decide), o 25 _ _ (by decide) (by decide), o 25 _ _ (by decide) (by decide)]; exact z8 b' hb'
theorem op_swap (S : SIM V h W T G gt ms bk lk my L As) (hr : RM V h W T) (x y : Int32) : OP V h W T G (c_X0_swap V (W.1 0 0) x y h) (m_swap x y ms) := by
  have S' := S
  obtain ⟨C, gl, G0, E, Z, h13, Zt, ⟨P, R, M, Em, O⟩, hb, A⟩ := S
  have h6 := Z.1.1
  have h8 := Z.1.2.1
  have rf : OP V h W T G (c_X0_swap_b28 V (W.1 0 0) h) (m_swap_b21 ms) := OP.rfs S' (k := 3) (by decide) rfl rfl
  unfold c_X0_swap m_swap
  rw [if_pos C.k_x, C.beastOf Z.1, Option.bind_some, if_pos C.k_x, C.beastOf Z.1, Option.bind_some, ml_isBeast P h6, Option.bind_some, ml_isBeast P h6, Option.bind_some]
  cases ex : zof (W.2.2.2.1 0) x with
  | none =>
    rw [Option.map_none, if_pos rfl, if_pos rfl, if_pos rfl]
    exact rf
  | some a =>
    obtain ⟨ha, rfl⟩ := zof_lt (by omega) ex
    rw [if_neg (show ¬ Option.map (W.1 25) (some a) = none by simp), if_neg (show ¬ (some a : Option Nat) = none by simp), if_neg (show ¬ (1 : Int32) = 0 by decide)]
    cases ey : zof (W.2.2.2.1 0) y with
    | none =>
      rw [Option.map_none, if_pos rfl, if_pos rfl, if_pos rfl]
      exact rf
    | some b =>
      obtain ⟨hb1, rfl⟩ := zof_lt (by omega) ey
      rw [if_neg (show ¬ Option.map (W.1 25) (some b) = none by simp), if_neg (show ¬ (some b : Option Nat) = none by simp), if_neg (show ¬ (1 : Int32) = 0 by decide), Option.map_some, Option.map_some]
      by_cases hab : a = b
      · subst hab
        rw [if_pos rfl, if_pos rfl]
        exact rf
      · have n1 : ¬ (some (W.1 25 a) = some (W.1 25 b)) := by
          intro q
          obtain ⟨f, D⟩ := C
          have := D.2.2.1 25 a 25 b ha hb1 (by rw [zmix_at (k := 25) rfl, zmix_at (k := 25) rfl]; exact Option.some.inj q)
          exact hab this.2
        rw [if_neg n1, if_neg (fun q => hab ((nI_eq (by omega) (by omega)).mp q)), if_pos C.k_x]
        obtain ⟨hr1, hr2⟩ := hr
        obtain ⟨k1, ms1, T1, G1, a1, a2, S1, gl1, a3, a4, a5⟩ := S'.keeps (by omega) (by omega)
        obtain ⟨C1, gl', G0', E', Z', h13', Zt', ⟨P1, R1, M1, Em1, O1⟩, hb', A1⟩ := S1
        obtain ⟨q1, q2, q3, q4, g1, g2, g3, w1, g4, w2, w3, w4, C4, s1, s2⟩ := C1.swap ha hb1 hab
        obtain ⟨⟨r, ms4⟩, m1, m2, m3, m4, m5, m6⟩ := ml_swap (ms := ms1) (a := a) (b := b) (by omega) (by omega) hab
        simp only at m2 m3 m4 m5 m6
        subst m2
        rw [a1, Option.bind_some, Option.bind_some, g1, Option.bind_some, g2, Option.bind_some, Option.bind_some, g3, Option.bind_some, w1, Option.bind_some, g4, Option.bind_some, w2, Option.bind_some, w3, Option.bind_some, w4, Option.bind_some, a2, Option.bind_some, m1]
        have o : ∀ k j i, k ≠ 27 → k ≠ 28 → (zsw W a b).2.1 k j i = W.2.1 k j i := fun k j i h1 h2 => by show W.2.1 k (zsg a b k j) i = _; rw [zsg_o h1 h2]
        have nw : znow W (W.1, (zsw W a b).2.1, W.2.2) := ⟨rfl, rfl, fun k j i hk => o k j i (fun e => by subst e; cases hk) (fun e => by subst e; cases hk)⟩
        have fr : ∀ ar i, ¬ ((ar = 32 ∨ ar = 33) ∧ i < 48) → ms4.2.2.1 ar i = ms1.2.2.1 ar i := fun ar i hi => by
          rw [m6]; unfold fsw
          rw [if_neg (by omega), if_neg (by omega)]
        have f0 : mfr 0 ms1 ms4 := ⟨m3, m4, fun ar i _ hi => fr ar i (fun q => by
          rcases q with ⟨rfl | rfl, q⟩
          · exact hi (by decide) (by decide) (by show i / 48 = 0; omega)
          · exact hi (by decide) (by decide) (by show i / 48 = 0; omega)), fun ar i _ => by rw [m5]⟩
        have R4 : MR ms4 0 (zsw W a b) := by
          obtain ⟨r0, r1, r2, r3, r4, r5, d, t, r6, r7, r8, r9, r10⟩ := R1
          refine ⟨r0, fun k hk i hi => ?_, fun k hk => ?_, fun b' hb' i hi => ?_, fun b' hb' k hk => ?_, ?_, d, t, ?_, ?_, r8, r9, ?_⟩
          · rw [fr _ _ (by omega), o 30 _ _ (by decide) (by decide)]; exact r1 k hk i hi
          · rw [fr _ _ (by omega), fr _ _ (by omega), o 29 _ _ (by decide) (by decide), o 29 _ _ (by decide) (by decide)]; exact r2 k hk
          · rw [fr _ _ (by omega), o 26 _ _ (by decide) (by decide)]; exact r3 b' hb' i hi
          · have hk8 : k < 8 := Nat.lt_of_lt_of_le hk h8
            have := r4 (zpi a b b') (zpi_lt ha hb1 hb') k hk
            rw [show 48 * 0 + 8 * b' + k = 8 * b' + k by omega, m6, m6, fsw_z hab (Or.inl rfl) hk8, fsw_z hab (Or.inr rfl) hk8]
            rw [show 48 * 0 + 8 * zpi a b b' + k = 8 * zpi a b b' + k by omega] at this
            exact this
          · rw [fr _ _ (by omega), o 0 _ _ (by decide) (by decide)]; exact r5
          · rw [o 0 _ _ (by decide) (by decide)]; exact r6
          · rw [o 0 _ _ (by decide) (by decide)]; exact r7
          · rw [fr _ _ (by omega)]; exact r10
        have M4 : MT ms4 0 L := by
          obtain ⟨t1, t2, t3⟩ := M1
          exact ⟨by rw [fr _ _ (by omega)]; exact t1, t2, fun i r hi k hk => by rw [fr _ _ (by omega)]; exact t3 i r hi k hk⟩
        have E4 : ELC V (zsw W a b) gt lk my := E'
        have A4 := A1.mv (W' := zsw W a b) (Tsame.refl 3 T1) (gle.refl G1) (by show W.1 0 (zsg a b 0 0) = _; rw [zsg_o (by decide) (by decide)]) ⟨rfl, rfl⟩ f0 (by decide)
        have PP : MP ms4 (zsw W a b) bk := MP.now (W' := (W.1, (zsw W a b).2.1, W.2.2)) (P1.fr f0) nw
        have OO : MO ms4 (zsw W a b) := MO.now (W' := (W.1, (zsw W a b).2.1, W.2.2)) O1 nw f0
        have zp : zpc (zsw W a b) = zpc W ∧ zps (zsw W a b) = zps W := by unfold zpc zps; rw [o 0 _ _ (by decide) (by decide)]; exact ⟨rfl, rfl⟩
        refine ⟨1, q4, ms4, zsw W a b, T1, G1, gt, bk, lk, my, L, _, rfl, rfl, ⟨C4, gl', G0', E4, zsw_I Z ha hb1, by rw [o 0 _ _ (by decide) (by decide)]; exact h13, Zt', ⟨PP, R4, M4, Em1.fr f0, OO⟩, by rw [o 0 _ _ (by decide) (by decide), o 0 _ _ (by decide) (by decide)]; exact hb, A4⟩, ?_, gl1, by omega, by rw [zp.1]; omega, by rw [zp.2]; omega⟩
        show W.1 0 (zsg a b 0 0) = _
        rw [zsg_o (by decide) (by decide)]
end SW
