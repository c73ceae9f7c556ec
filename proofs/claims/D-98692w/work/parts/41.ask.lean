/-! PURE SIDE: all beasts ask -/
set_option maxRecDepth 100000
/-- places that an hour may change -/
def znw (k i : Nat) : Bool := match k with
  | 7 => true | 8 => true | 26 => true | 27 => true | 28 => true | 30 => true
  | 29 => decide (i = 6) || decide (i = 7)
  | 0 => decide (i = 6) || (decide (i = 7) || decide (i = 8))
  | _ => false
/-- only such places are other -/
def znow (W W' : zW) : Prop := W'.1 = W.1 ∧ W'.2.2 = W.2.2 ∧ ∀ k j i, znw k i = false → W'.2.1 k j i = W.2.1 k j i
theorem znow.refl (W : zW) : znow W W := ⟨rfl, rfl, fun _ _ _ _ => rfl⟩
theorem znow.trans {a b c : zW} (h : znow a b) (k : znow b c) : znow a c := ⟨k.1.trans h.1, k.2.1.trans h.2.1, fun x j i hx => (k.2.2 x j i hx).trans (h.2.2 x j i hx)⟩
theorem znow.A (W : zW) {k j i : Nat} (v : Int32) (h : znw k i = true) : znow W (zA W k j i v) := by
  refine ⟨rfl, rfl, fun k' j' i' h' => ?_⟩
  show (if k' = k ∧ j' = j ∧ i' = i then v else W.2.1 k' j' i') = _
  rw [if_neg]
  rintro ⟨rfl, -, rfl⟩
  rw [h] at h'
  cases h'
theorem zm2_now (W : zW) (b k : Nat) : znow W (zm2 W b k) := (znow.A W _ rfl).trans (znow.A _ _ rfl)
theorem zmeets_now (W : zW) (lk : zL) (b k : Nat) : znow W (zmeets W lk b k).2 := by
  unfold zmeets
  split
  · unfold zmee
    split
    · split
      · exact (zm2_now W b k).trans (znow.A _ _ rfl)
      · exact zm2_now W b k
    · exact (zm2_now W b k).trans (znow.A _ _ rfl)
  · exact znow.A _ _ rfl
theorem MP.now {ms : mx_S} {W W' : zW} {bk : Nat} (M : MP ms W bk) (h : znow W W') : MP ms W' bk := by
  obtain ⟨h1, h2, h3⟩ := h
  refine M.Wx (by rw [h2]; exact ⟨rfl, rfl⟩) (fun j i _ => h3 25 j i rfl) (fun j i hi => h3 29 j i ?_) (fun i => h3 20 0 i rfl)
  rcases hi with rfl | rfl | rfl <;> rfl
theorem ELC.now {V : hx_V} {W W' : zW} {g : Nat → Option hx_C} {lk my : zL} (E : ELC V W g lk my) (h : znow W W') : ELC V W' g lk my := by
  unfold ELC at E ⊢
  rw [h.2.1]
  exact E
theorem EC.mono {V : hx_V} {g g' : Nat → Option hx_C} {ts : List Nat} {m : Nat} {val : Int64 → Value} {a : Nat} {f : (Nat → Int64) → Int64} (E : EC V g ts m val a f) (hg : gle g g') : EC V g' ts m val a f := by
  obtain ⟨c, e1, e2, e3⟩ := E
  exact ⟨c, hg _ _ e1, e2, fun h e t env c2 a1 => e3 h e t env c2 (fun q c hq => a1 q c (hg q c hq))⟩
theorem ELC.mono {V : hx_V} {W : zW} {g g' : Nat → Option hx_C} {lk my : zL} (E : ELC V W g lk my) (hg : gle g g') : ELC V W g' lk my := by
  obtain ⟨e1, e2⟩ := E
  refine ⟨?_, ?_⟩
  · cases lk with
    | none => exact e1
    | some f => obtain ⟨a, a1, a2, a3⟩ := e1; exact ⟨a, a1, a2.mono hg, a3⟩
  · cases my with
    | none => exact e2
    | some f => obtain ⟨a, a1, a2, a3⟩ := e2; exact ⟨a, a1, a2.mono hg, a3⟩
/-- what holds of the state between the calls -/
def ZI (W : zW) : Prop :=
  ZS W ∧ ZV W ∧ zle (W.2.1 0 0 8) 9999 ∧ (zle (W.2.1 20 0 0) 6 ∧ zle (W.2.1 20 0 1) 99 ∧ zle (W.2.1 20 0 2) 9 ∧ zle (W.2.1 20 0 3) 99 ∧ zle (W.2.1 20 0 4) 100) ∧
  (∀ k, k < W.2.2.2.1 1 → (W.2.1 29 k 7 = -1 ∨ ∃ b, b < W.2.2.2.1 0 ∧ W.2.1 29 k 7 = nI b) ∧ zle (W.2.1 29 k 6) 63 ∧ zle (W.2.1 29 k 5) 63 ∧ zle (W.2.1 29 k 2) 23 ∧ zle (W.2.1 29 k 3) 23) ∧
  (∀ b, b < W.2.2.2.1 0 → zle (W.2.1 25 b 2) 23 ∧ zle (W.2.1 25 b 3) 23 ∧ zle (W.2.1 25 b 4) 99)
theorem zor_le : ∀ x, x < 64 → ∀ b, b < 6 → (nI x ||| ((1 : Int32) <<< (nI b &&& 31))).toNatClampNeg < 64 ∧ nI x ||| ((1 : Int32) <<< (nI b &&& 31)) = nI (nI x ||| ((1 : Int32) <<< (nI b &&& 31))).toNatClampNeg := by decide +kernel
theorem ZI.A {W : zW} (Z : ZI W) {k j i : Nat} {v : Int32} (h : znw k i = true) (h26 : k = 26 → zle v 9) (h30 : k = 30 → zle v 9) (h27 : k = 27 → zle v 99) (h28 : k = 28 → zle v 99) (h07 : k = 0 → i = 7 → zle v 23) (h08 : k = 0 → i = 8 → zle v 9999) (h297 : k = 29 → i = 7 → (v = -1 ∨ ∃ b, b < W.2.2.2.1 0 ∧ v = nI b)) (h296 : k = 29 → i = 6 → zle v 63) : ZI (zA W k j i v) := by
  obtain ⟨z1, z2, z3, z4, z5, z6⟩ := Z
  have nn := znow.A W (j := j) v h
  have same : ∀ k' j' i', znw k' i' = false → (zA W k j i v).2.1 k' j' i' = W.2.1 k' j' i' := nn.2.2
  refine ⟨z1.A v ?_ ?_ ?_ ?_, z2.A h26 h30 h27 h28 h07, ?_, ?_, fun k' hk' => ⟨?_, ?_, ?_, ?_, ?_⟩, fun b hb => ?_⟩
  · rintro rfl; cases h
  · rintro rfl; cases h
  · rintro rfl; cases h
  · rintro rfl rfl; cases h
  · show zle (if 0 = k ∧ 0 = j ∧ 8 = i then v else W.2.1 0 0 8) 9999
    split
    · rename_i q; exact h08 q.1.symm q.2.2.symm
    · exact z3
  · rw [same 20 0 0 rfl, same 20 0 1 rfl, same 20 0 2 rfl, same 20 0 3 rfl, same 20 0 4 rfl]; exact z4
  · show (if 29 = k ∧ k' = j ∧ 7 = i then v else W.2.1 29 k' 7) = -1 ∨ ∃ b, b < W.2.2.2.1 0 ∧ (if 29 = k ∧ k' = j ∧ 7 = i then v else W.2.1 29 k' 7) = nI b
    split
    · rename_i q; exact h297 q.1.symm q.2.2.symm
    · exact (z5 k' hk').1
  · show zle (if 29 = k ∧ k' = j ∧ 6 = i then v else W.2.1 29 k' 6) 63
    split
    · rename_i q; exact h296 q.1.symm q.2.2.symm
    · exact (z5 k' hk').2.1
  · rw [same 29 k' 5 rfl]; exact (z5 k' hk').2.2.1
  · rw [same 29 k' 2 rfl]; exact (z5 k' hk').2.2.2.1
  · rw [same 29 k' 3 rfl]; exact (z5 k' hk').2.2.2.2
  · rw [same 25 b 2 rfl, same 25 b 3 rfl, same 25 b 4 rfl]; exact z6 b hb
theorem zm2_I {W : zW} (Z : ZI W) {b k : Nat} (hb : b < W.2.2.2.1 0) (hk : k < 8) : ZI (zm2 W b k) := by
  obtain ⟨q1, q2⟩ := Z.2.1.2.2.1 b hb k hk
  exact (Z.A rfl (by simp) (by simp) (fun _ => zmin_le (n := 99) (by decide) (by decide) (zle_1 q1)) (by simp) (by simp) (by simp) (by simp) (by simp)).A rfl (by simp) (by simp) (by simp) (fun _ => zmin_le (n := 99) (by decide) (by decide) (zle_1 q2)) (by simp) (by simp) (by simp) (by simp)
theorem zmeets_I {W : zW} (Z : ZI W) {lk : zL} {b k : Nat} (hb : b < W.2.2.2.1 0) (hk : k < W.2.2.2.1 1) : ZI (zmeets W lk b k).2 := by
  have h8 := Z.1.2.1
  have h6 := Z.1.1
  unfold zmeets
  split
  · unfold zmee
    split
    · split
      · exact (zm2_I Z hb (by omega)).A rfl (by simp) (by simp) (by simp) (by simp) (by simp) (by simp) (fun _ _ => Or.inr ⟨b, hb, rfl⟩) (by simp)
      · exact zm2_I Z hb (by omega)
    · refine (zm2_I Z hb (by omega)).A rfl (by simp) (by simp) (by simp) (by simp) (by simp) (by simp) (by simp) (fun _ _ => ?_)
      obtain ⟨x, hx, e⟩ := (Z.2.2.2.2.1 k hk).2.1
      obtain ⟨o1, o2⟩ := zor_le x (by omega) b (by omega)
      rw [e]
      exact ⟨_, by omega, o2⟩
  · refine Z.A rfl (by simp) (by simp) (by simp) (by simp) (by simp) (fun _ _ => ?_) (by simp) (by simp)
    obtain ⟨x, hx, e⟩ := Z.2.2.1
    obtain ⟨y, hy, e2⟩ := Z.2.2.2.1.2.2.2.1
    exact zmin_le (n := 9999) (m := 20000) (by decide) (by decide) ⟨x + y, by omega, by rw [e, e2, nI_add]⟩
/-! the hour's askings -/
abbrev zQ : Type := Int32 × Int32 × zW × List (Nat → Int32)
def zsel (lk my : zL) (b : Nat) (s : zQ) : Int32 := if s.2.2.1.2.1 20 0 0 ≤ s.2.1 then -1 else zwanted s.2.2.1 lk my b s.1 (s.2.2.1.2.1 20 0 0 - s.2.1)
def zgo (th : Int32) (lk : zL) (b k : Nat) (s : zQ) : zQ :=
  (s.1 ||| ((1 : Int32) <<< (nI k &&& 31)), s.2.1 + 1, zA (zmeets (zA s.2.2.1 7 0 b (nI k)) lk b k).2 8 0 b (zmeets (zA s.2.2.1 7 0 b (nI k)) lk b k).1,
    if th = 0 then zkeep s.2.2.2 (zrow (s.2.2.1.2.1 0 0 6) (s.2.2.1.2.1 0 0 7) (nI b) (nI k) (zmeets (zA s.2.2.1 7 0 b (nI k)) lk b k).1) else s.2.2.2)
def zstep (th : Int32) (lk my : zL) (b : Nat) (s : zQ) : zQ :=
  if zsel lk my b s = -1 then (s.1, s.2.1, zA s.2.2.1 7 0 b (-1), s.2.2.2) else zgo th lk b (zsel lk my b s).toNatClampNeg s
def zask (th : Int32) (lk my : zL) (W : zW) (L : List (Nat → Int32)) : Nat → zQ
  | 0 => (0, 0, W, L)
  | b + 1 => zstep th lk my b (zask th lk my W L b)
theorem zsel_in (lk my : zL) (b : Nat) (s : zQ) : zsel lk my b s = -1 ∨ ∃ i, i < s.2.2.1.2.2.2.1 1 ∧ zsel lk my b s = nI i := by
  unfold zsel
  split
  · exact Or.inl rfl
  · exact zwanted_in _ _ _ _ _ _
theorem zkeep_len {L : List (Nat → Int32)} {r : Nat → Int32} (h : L.length ≤ 60) : (zkeep L r).length ≤ 60 := by
  unfold zkeep
  rw [List.length_append]
  split
  · rw [List.length_tail]; simp; omega
  · simp; omega
/-- what holds behind b beasts -/
theorem zask_inv {th : Int32} {lk my : zL} {W : zW} {L : List (Nat → Int32)} (Z : ZI W) (b : Nat) (hb : b ≤ W.2.2.2.1 0) : ZI (zask th lk my W L b).2.2.1 ∧ znow W (zask th lk my W L b).2.2.1 ∧ (∃ m, m ≤ b ∧ (zask th lk my W L b).2.1 = nI m) ∧ (∀ i, i = 6 ∨ i = 7 → (zask th lk my W L b).2.2.1.2.1 0 0 i = W.2.1 0 0 i) := by
  induction b with
  | zero => exact ⟨Z, znow.refl W, ⟨0, Nat.le_refl _, rfl⟩, fun _ _ => rfl⟩
  | succ b ih =>
    obtain ⟨i1, i2, ⟨m, i3, i4⟩, i5⟩ := ih (by omega)
    show ZI (zstep th lk my b (zask th lk my W L b)).2.2.1 ∧ znow W (zstep th lk my b (zask th lk my W L b)).2.2.1 ∧ (∃ m, m ≤ b + 1 ∧ (zstep th lk my b (zask th lk my W L b)).2.1 = nI m) ∧ (∀ i, i = 6 ∨ i = 7 → (zstep th lk my b (zask th lk my W L b)).2.2.1.2.1 0 0 i = W.2.1 0 0 i)
    generalize zask th lk my W L b = s at i1 i2 i4 i5
    have nu0 : s.2.2.1.2.2.2.1 0 = W.2.2.2.1 0 := by rw [i2.2.1]
    unfold zstep
    split
    · refine ⟨i1.A rfl (by simp) (by simp) (by simp) (by simp) (by simp) (by simp) (by simp) (by simp), i2.trans (znow.A _ _ rfl), ⟨m, by omega, i4⟩, fun i hi => ?_⟩
      rw [← i5 i hi]
      rcases hi with rfl | rfl <;> rfl
    · rename_i hn
      obtain ⟨k, hk, ek⟩ := (zsel_in lk my b s).resolve_left hn
      rw [ek, nI_clamp (by have := i1.1.2.1; omega)]
      have y1 : ZI (zA s.2.2.1 7 0 b (nI k)) := i1.A rfl (by simp) (by simp) (by simp) (by simp) (by simp) (by simp) (by simp) (by simp)
      have y2 : ZI (zmeets (zA s.2.2.1 7 0 b (nI k)) lk b k).2 := zmeets_I y1 (by show b < s.2.2.1.2.2.2.1 0; omega) hk
      refine ⟨y2.A rfl (by simp) (by simp) (by simp) (by simp) (by simp) (by simp) (by simp) (by simp), ((i2.trans (znow.A _ _ rfl)).trans (zmeets_now _ lk b k)).trans (znow.A _ _ rfl), ⟨m + 1, by omega, by show s.2.1 + 1 = _; rw [i4, nI_1]⟩, fun i hi => ?_⟩
      rw [← i5 i hi]
      have e1 : ∀ X : zW, (zmeets X lk b k).2.2.1 0 0 i = X.2.1 0 0 i := by
        intro X
        unfold zmeets
        split
        · unfold zmee
          split
          · split <;> rcases hi with rfl | rfl <;> rfl
          · rcases hi with rfl | rfl <;> rfl
        · rcases hi with rfl | rfl <;> rfl
      show (zA (zmeets (zA s.2.2.1 7 0 b (nI k)) lk b k).2 8 0 b _).2.1 0 0 i = _
      have e2 := e1 (zA s.2.2.1 7 0 b (nI k))
      have e3 : (zA s.2.2.1 7 0 b (nI k)).2.1 0 0 i = s.2.2.1.2.1 0 0 i := by rcases hi with rfl | rfl <;> rfl
      rw [← e3, ← e2]
      rcases hi with rfl | rfl <;> rfl
