/-! PURE SIDE: the call walk: plain law -/
set_option maxRecDepth 100000
/-- steps of a set -/
def zft (f : Nat → Nat) (s : Nat) : Nat → Nat
  | 0 => 0
  | k + 1 => zft f s k + if s / 2 ^ k % 2 = 1 then 2 * f k else 0
theorem zft_le {f : Nat → Nat} {s : Nat} (n : Nat) (h : ∀ k, k < n → f k ≤ 99) : zft f s n ≤ 198 * n := by
  induction n with
  | zero => exact Nat.le_refl _
  | succ n ih =>
    have := ih (fun k hk => h k (by omega))
    have h2 := h n (by omega)
    show zft f s n + (if s / 2 ^ n % 2 = 1 then 2 * f n else 0) ≤ _
    split <;> omega
theorem zft_0 (f : Nat → Nat) (n : Nat) : zft f 0 n = 0 := by
  induction n with
  | zero => rfl
  | succ n ih =>
    show zft f 0 n + (if 0 / 2 ^ n % 2 = 1 then 2 * f n else 0) = 0
    rw [ih, Nat.zero_div, if_neg (by decide)]
/-- over the parts of a set, from p on -/
def zwk (f : Nat → Nat) (s : Nat) : Nat → Nat → Nat → Nat
  | 0, _, acc => acc
  | n + 1, p, acc => if p = 0 then acc else zwk f s n ((p - 1) &&& s) (min acc (f p))
theorem zwk_0 (f : Nat → Nat) (s n acc : Nat) : zwk f s n 0 acc = acc := by
  cases n with
  | zero => rfl
  | succ n => show (if 0 = 0 then acc else _) = acc; rw [if_pos rfl]
theorem zwk_s {f : Nat → Nat} {s n p acc : Nat} (hp : p ≠ 0) : zwk f s (n + 1) p acc = zwk f s n ((p - 1) &&& s) (min acc (f p)) := by
  show (if p = 0 then acc else _) = _
  rw [if_neg hp]
theorem zwk_cong {f g : Nat → Nat} {s : Nat} (n : Nat) : ∀ p acc, (∀ q, q ≤ p → f q = g q) → zwk f s n p acc = zwk g s n p acc := by
  induction n with
  | zero => intro p acc _; rfl
  | succ n ih =>
    intro p acc h
    show (if p = 0 then acc else _) = if p = 0 then acc else _
    by_cases e : p = 0
    · rw [if_pos e, if_pos e]
    · rw [if_neg e, if_neg e, h p (Nat.le_refl _)]
      exact ih _ _ (fun q hq => h q (by have : (p - 1) &&& s ≤ p - 1 := Nat.and_le_left; omega))
theorem zwk_le {f : Nat → Nat} {s : Nat} (n : Nat) : ∀ p acc, zwk f s n p acc ≤ acc := by
  induction n with
  | zero => intro p acc; exact Nat.le_refl _
  | succ n ih =>
    intro p acc
    show (if p = 0 then acc else _) ≤ _
    by_cases e : p = 0
    · rw [if_pos e]; exact Nat.le_refl _
    · rw [if_neg e]
      exact Nat.le_trans (ih _ _) (Nat.min_le_left _ _)
theorem zwk_stay {f : Nat → Nat} {s acc : Nat} (h : ∀ q, q < s → acc ≤ f q) (n : Nat) : ∀ p, p < s → zwk f s n p acc = acc := by
  induction n with
  | zero => intro p _; rfl
  | succ n ih =>
    intro p hp
    show (if p = 0 then acc else _) = _
    by_cases e : p = 0
    · rw [if_pos e]
    · rw [if_neg e, Nat.min_eq_left (h p hp)]
      exact ih _ (by have : (p - 1) &&& s ≤ p - 1 := Nat.and_le_left; omega)
theorem and_63 : ∀ s, s < 64 → ∀ p, p < 64 → nI s &&& (nI p ^^^ (-1 : Int32)) = nI (s &&& (63 - p)) := by decide +kernel
theorem and_p1 : ∀ s, s < 64 → ∀ p, p < 64 → p = 0 ∨ (nI p - (1 : Int32)) &&& nI s = nI ((p - 1) &&& s) := by decide +kernel
theorem bit_6 : ∀ s, s < 64 → ∀ k, k < 6 → ((nI s >>> (nI k &&& 31)) &&& (1 : Int32)) = nI (s / 2 ^ k % 2) := by decide +kernel
theorem and_ne : ∀ s, s < 64 → ∀ p, p < s → s &&& (63 - p) ≠ 0 := by decide +kernel
theorem and_self63 : ∀ s, s < 64 → s &&& (63 - s) = 0 := by decide +kernel
def zWn (F : Nat → Nat) : Nat → Nat → Nat
  | 0 => F
  | n + 1 => fun s => zwk (fun p => max (F p) (zWn F n (s &&& (63 - p)))) s 64 s (zWn F n s)
def zMn (F : Nat → Nat) : Nat → Nat → Nat
  | 0 => fun s => if s = 0 then 0 else 100000000
  | n + 1 => fun s => zwk (fun p => max (F p) (zMn F n (s &&& (63 - p)))) s 64 s (zMn F n s)
theorem zWn_le {F : Nat → Nat} {s : Nat} (n : Nat) : zWn F n s ≤ F s := by
  induction n with
  | zero => exact Nat.le_refl _
  | succ n ih => exact Nat.le_trans (zwk_le _ _ _) ih
theorem zMn_le {F : Nat → Nat} {s : Nat} (n : Nat) : zMn F n s ≤ 100000000 := by
  induction n with
  | zero => show (if s = 0 then 0 else 100000000) ≤ _; split <;> omega
  | succ n ih => exact Nat.le_trans (zwk_le _ _ _) ih
theorem zMW {F : Nat → Nat} (h0 : F 0 = 0) (hF : ∀ s, F s ≤ 100000) (n : Nat) : ∀ s, s < 64 → zMn F (n + 1) s = zWn F n s := by
  induction n with
  | zero =>
    intro s hs
    show zwk (fun p => max (F p) (zMn F 0 (s &&& (63 - p)))) s 64 s (zMn F 0 s) = F s
    by_cases e : s = 0
    · subst e
      rw [zwk_0]
      exact h0.symm
    · rw [zwk_s e]
      have m0 : ∀ q, zMn F 0 q = if q = 0 then 0 else 100000000 := fun _ => rfl
      have a1 : min (zMn F 0 s) (max (F s) (zMn F 0 (s &&& (63 - s)))) = F s := by
        rw [and_self63 s hs, m0, m0, if_neg e, if_pos rfl]
        have := hF s
        omega
      rw [a1]
      refine zwk_stay (fun q hq => ?_) 63 _ (by have : (s - 1) &&& s ≤ s - 1 := Nat.and_le_left; omega)
      show F s ≤ max (F q) (zMn F 0 (s &&& (63 - q)))
      rw [m0, if_neg (and_ne s hs q hq)]
      have := hF s
      omega
  | succ n ih =>
    intro s hs
    show zwk (fun p => max (F p) (zMn F (n + 1) (s &&& (63 - p)))) s 64 s (zMn F (n + 1) s) = zwk (fun p => max (F p) (zWn F n (s &&& (63 - p)))) s 64 s (zWn F n s)
    rw [ih s hs]
    refine zwk_cong _ _ _ (fun q hq => ?_)
    show max (F q) (zMn F (n + 1) (s &&& (63 - q))) = max (F q) (zWn F n (s &&& (63 - q)))
    rw [ih _ (by have : s &&& (63 - q) ≤ s := Nat.and_le_left; omega)]
section WK
variable {V : hx_V} {h : hx_S} {W X Y T : zW} {G G1 gt : Nat → Option hx_C} {ms : mx_S} {bk : Nat} {lk my : zL} {L : List (Nat → Int32)} {As : List zU}
theorem c_max_z {a b : Nat} (ha : a < 2 ^ 31) (hb : b < 2 ^ 31) : c_J11_max V (nI a) (nI b) h = some (nI (max a b)) := by
  unfold c_J11_max
  by_cases q : a < b
  · rw [if_pos (nI_lt q hb), Nat.max_eq_right (by omega)]
  · rw [if_neg (nI_nlt (by omega) ha), Nat.max_eq_left (by omega)]
theorem c_min_z {a b : Nat} (ha : a < 2 ^ 31) (hb : b < 2 ^ 31) : c_J11_min V (nI a) (nI b) h = some (nI (min a b)) := by
  unfold c_J11_min
  by_cases q : b < a
  · rw [if_pos (nI_lt q ha), Nat.min_eq_right (by omega)]
  · rw [if_neg (nI_nlt (by omega) hb), Nat.min_eq_left (by omega)]
/-- two rows of their own, in the class's heap -/
def WK (V : hx_V) (h : hx_S) (W T : zW) (G : Nat → Option hx_C) (fa ba N : Nat) (hx : hx_S) (cf cb : Nat → Value) : Prop :=
  ∃ G', CS V hx W T G' ∧ gle G G' ∧ G' fa = some (100, N, cf) ∧ G' ba = some (100, N, cb) ∧ hx.1 = h.1 + 2 ∧ hx.2.1 = h.2.1 + 2 * N
variable {fa ba N : Nat} {hx : hx_S} {cf cb : Nat → Value}
theorem gset_le2 {g g' : Nat → Option hx_C} {a : Nat} {c : hx_C} (h : gle g g') (ha : g a = none) : gle g (gset g' a c) := fun q x hq => by
  unfold gset
  rw [if_neg (fun e => by rw [e, ha] at hq; cases hq)]
  exact h q x hq
theorem WK.rf (K : WK V h W T G fa ba N hx cf cb) {i : Nat} {v : Int32} (hi : i < N) (hN : N < 2 ^ 31) (hv : cf i = .int v) : hgAI hx fa 100 (nI i) = some v := by
  obtain ⟨G', C, gl, a1, a2, -⟩ := K
  exact p_gAI (C.fro a1).1 hi hN hv
theorem WK.rb (K : WK V h W T G fa ba N hx cf cb) {i : Nat} {v : Int32} (hi : i < N) (hN : N < 2 ^ 31) (hv : cb i = .int v) : hgAI hx ba 100 (nI i) = some v := by
  obtain ⟨G', C, gl, a1, a2, -⟩ := K
  exact p_gAI (C.fro a2).1 hi hN hv
theorem WK.wf (K : WK V h W T G fa ba N hx cf cb) (hne : fa ≠ ba) (g1 : G fa = none) (hB : V.2.1.size ≤ fa) {i : Nat} (v : Int32) (hi : i < N) (hN : N < 2 ^ 31) : ∃ h', hpA V hx fa 100 (nI i) (.int v) = some h' ∧ WK V h W T G fa ba N h' (updV cf i (.int v)) cb := by
  obtain ⟨G', C, gl, a1, a2, a3, a4⟩ := K
  obtain ⟨h', e1, C1, r1, r2⟩ := C.fw a1 hi hN hB v
  exact ⟨h', e1, _, C1, gset_le2 gl g1, gset_at _ _ _, by unfold gset; rw [if_neg (fun e => hne e.symm)]; exact a2, by omega, by omega⟩
theorem WK.wb (K : WK V h W T G fa ba N hx cf cb) (hne : fa ≠ ba) (g1 : G ba = none) (hB : V.2.1.size ≤ ba) {i : Nat} (v : Int32) (hi : i < N) (hN : N < 2 ^ 31) : ∃ h', hpA V hx ba 100 (nI i) (.int v) = some h' ∧ WK V h W T G fa ba N h' cf (updV cb i (.int v)) := by
  obtain ⟨G', C, gl, a1, a2, a3, a4⟩ := K
  obtain ⟨h', e1, C1, r1, r2⟩ := C.fw a2 hi hN hB v
  exact ⟨h', e1, _, C1, gset_le2 gl g1, by unfold gset; rw [if_neg hne]; exact a1, gset_at _ _ _, by omega, by omega⟩
end WK
