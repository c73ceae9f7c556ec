/-! PURE SIDE: a guest is asked for -/
set_option maxRecDepth 100000
def zmin (a x : Int32) : Int32 := if x < a then x else a
def zm2 (W : zW) (b k : Nat) : zW := zA (zA W 27 b k (zmin 99 (W.2.1 27 b k + 1))) 28 b k (zmin 99 (W.2.1 28 b k + 1))
def zmee (W : zW) (lk : zL) (b k : Nat) : Int32 × zW :=
  if W.2.1 20 0 1 ≤ zlik (zm2 W b k) lk b k then
    if W.2.1 20 0 2 ≤ zmin 99 (W.2.1 28 b k + 1) then (3, zA (zm2 W b k) 29 k 7 (nI b)) else (1, zm2 W b k)
  else (2, zA (zm2 W b k) 29 k 6 (W.2.1 29 k 6 ||| ((1 : Int32) <<< (nI b &&& 31))))
def zmeets (W : zW) (lk : zL) (b k : Nat) : Int32 × zW :=
  if zbit (W.2.1 29 k 5) (nI b) = 0 then zmee W lk b k
  else (0, zA W 0 0 8 (zmin 9999 (W.2.1 0 0 8 + W.2.1 20 0 3)))
theorem ZS.A {W : zW} (S : ZS W) {k j i : Nat} (v : Int32) (h1 : k ≠ 21) (h2 : k ≠ 23) (h3 : k = 25 → i ≠ 1) (h4 : k = 29 → i ≠ 1) : ZS (zA W k j i v) := by
  obtain ⟨s1, s2, s3, s4, s5, s6, s7, s8⟩ := S
  refine ⟨s1, s2, ?_, ?_, s5, s6, fun b hb => ?_, fun b hb => ?_⟩
  · show (if 21 = k ∧ 0 = j ∧ 2 = i then v else W.2.1 21 0 2) = _
    rw [if_neg (fun q => h1 q.1.symm)]; exact s3
  · show (if 23 = k ∧ 0 = j ∧ 2 = i then v else W.2.1 23 0 2) = _
    rw [if_neg (fun q => h2 q.1.symm)]; exact s4
  · show (if 25 = k ∧ b = j ∧ 1 = i then v else W.2.1 25 b 1) = _
    rw [if_neg (fun q => h3 q.1.symm q.2.2.symm)]; exact s7 b hb
  · show (if 29 = k ∧ b = j ∧ 1 = i then v else W.2.1 29 b 1) = _
    rw [if_neg (fun q => h4 q.1.symm q.2.2.symm)]; exact s8 b hb
theorem ZV.A {W : zW} (Z : ZV W) {k j i : Nat} {v : Int32} (h26 : k = 26 → zle v 9) (h30 : k = 30 → zle v 9) (h27 : k = 27 → zle v 99) (h28 : k = 28 → zle v 99) (h0 : k = 0 → i = 7 → zle v 23) : ZV (zA W k j i v) := by
  obtain ⟨z1, z2, z3, z4⟩ := Z
  refine ⟨fun b hb i' hi => ?_, fun b hb i' hi => ?_, fun b hb i' hi => ⟨?_, ?_⟩, ?_⟩
  · show zle (if 26 = k ∧ b = j ∧ i' = i then v else W.2.1 26 b i') 9
    split
    · rename_i q; exact h26 q.1.symm
    · exact z1 b hb i' hi
  · show zle (if 30 = k ∧ b = j ∧ i' = i then v else W.2.1 30 b i') 9
    split
    · rename_i q; exact h30 q.1.symm
    · exact z2 b hb i' hi
  · show zle (if 27 = k ∧ b = j ∧ i' = i then v else W.2.1 27 b i') 99
    split
    · rename_i q; exact h27 q.1.symm
    · exact (z3 b hb i' hi).1
  · show zle (if 28 = k ∧ b = j ∧ i' = i then v else W.2.1 28 b i') 99
    split
    · rename_i q; exact h28 q.1.symm
    · exact (z3 b hb i' hi).2
  · show zle (if 0 = k ∧ 0 = j ∧ 7 = i then v else W.2.1 0 0 7) 23
    split
    · rename_i q; exact h0 q.1.symm q.2.2.symm
    · exact z4
theorem zmin_le {x : Int32} {n m : Nat} (hn : n ≤ 2000000) (hm : m ≤ 2000000) (h : zle x m) : zle (zmin (nI n) x) n := by
  obtain ⟨j, hj, rfl⟩ := h
  unfold zmin
  by_cases e : nI j < nI n
  · rw [if_pos e]
    rw [nI_ltI (by omega) (by omega)] at e
    exact ⟨j, by omega, rfl⟩
  · rw [if_neg e]; exact ⟨n, Nat.le_refl _, rfl⟩
theorem zle_1 {x : Int32} {n : Nat} (h : zle x n) : zle (x + 1) (n + 1) := by
  obtain ⟨j, hj, rfl⟩ := h
  exact ⟨j + 1, by omega, nI_1 j⟩
theorem zm2_S {W : zW} (S : ZS W) (b k : Nat) : ZS (zm2 W b k) := (S.A _ (by simp) (by simp) (by simp) (by simp)).A _ (by simp) (by simp) (by simp) (by simp)
theorem zm2_V {W : zW} (Z : ZV W) {b k : Nat} (hb : b < W.2.2.2.1 0) (hk : k < 8) : ZV (zm2 W b k) := by
  obtain ⟨q1, q2⟩ := Z.2.2.1 b hb k hk
  exact (Z.A (by simp) (by simp) (fun _ => zmin_le (n := 99) (by decide) (by decide) (zle_1 q1)) (by simp) (by simp)).A (by simp) (by simp) (by simp) (fun _ => zmin_le (n := 99) (by decide) (by decide) (zle_1 q2)) (by simp)
theorem zmeets_S {W : zW} (S : ZS W) {lk : zL} (b k : Nat) : ZS (zmeets W lk b k).2 := by
  unfold zmeets
  split
  · unfold zmee
    split
    · split
      · exact (zm2_S S b k).A _ (by simp) (by simp) (by simp) (by simp)
      · exact zm2_S S b k
    · exact (zm2_S S b k).A _ (by simp) (by simp) (by simp) (by simp)
  · exact S.A _ (by simp) (by simp) (by simp) (by simp)
theorem zmeets_V {W : zW} (Z : ZV W) {lk : zL} {b k : Nat} (hb : b < W.2.2.2.1 0) (hk : k < 8) : ZV (zmeets W lk b k).2 := by
  unfold zmeets
  split
  · unfold zmee
    split
    · split
      · exact (zm2_V Z hb hk).A (by simp) (by simp) (by simp) (by simp) (by simp)
      · exact zm2_V Z hb hk
    · exact (zm2_V Z hb hk).A (by simp) (by simp) (by simp) (by simp) (by simp)
  · exact Z.A (by simp) (by simp) (by simp) (by simp) (by simp)
theorem c_min (V : hx_V) (a x : Int32) (h : hx_S) : c_J11_min V a x h = some (zmin a x) := by
  unfold c_J11_min zmin
  split <;> rfl
section MC
variable {V : hx_V} {h : hx_S} {W T : zW} {g : Nat → Option hx_C}
theorem CS.meets (C : CS V h W T g) (S : ZS W) (Z : ZV W) {lk my : zL} (E : ELC V W g lk my) {b k : Nat} (hb : b < W.2.2.2.1 0) (hk : k < W.2.2.2.1 1) : yes (c_X0_meets V (W.1 0 0) (some (W.1 25 b)) (some (W.1 29 k)) h) (fun r => r.1 = (zmeets W lk b k).1 ∧ CS V r.2 (zmeets W lk b k).2 T g ∧ r.2.1 = h.1 ∧ r.2.2.1 = h.2.1) := by
  have h8 := S.2.1
  unfold c_X0_meets zmeets
  simp only [C.k_g hk (ts := [9]) rfl, C.fears S hb hk, Option.bind_some, if_true]
  by_cases hf : zbit (W.2.1 29 k 5) (nI b) = 0
  · rw [if_pos hf, if_pos hf]
    simp only [C.b_saw hb (ts := [8]) rfl, C.g_number hk (ts := [9]) rfl, S.2.2.2.2.2.2.2 k hk, C.sawOf hb (show k < 8 by omega), Option.bind_some, c_min]
    obtain ⟨h1, e1, C1, r1, r1'⟩ := C.wsaw hb (show k < 8 by omega) (zmin 99 (W.2.1 27 b k + 1))
    have S1 : ZS (zA W 27 b k (zmin 99 (W.2.1 27 b k + 1))) := S.A _ (by simp) (by simp) (by simp) (by simp)
    rw [e1, Option.bind_some]
    have n1 : hgR h1 (W.1 25 b) [8] 7 = some (some (W.1 28 b)) := C1.b_today hb (ts := [8]) rfl
    have n2 : hgI h1 (W.1 29 k) [9] 1 = some (nI k) := (C1.g_number hk (ts := [9]) rfl).trans (by rw [S1.2.2.2.2.2.2.2 k hk])
    have n3 : hgAI h1 (W.1 28 b) 100 (nI k) = some (W.2.1 28 b k) := C1.todayOf hb (show k < 8 by omega)
    simp only [n1, n2, n3, Option.bind_some, c_min]
    obtain ⟨h2, e2, C2, r2, r2'⟩ := C1.wtoday hb (show k < 8 by omega) (zmin 99 (W.2.1 28 b k + 1))
    have e2' : hpA V h1 (W.1 28 b) 100 (nI k) (.int (zmin 99 (W.2.1 28 b k + 1))) = some h2 := e2
    rw [e2', Option.bind_some]
    have D : CS V h2 (zm2 W b k) T g := C2
    have kx := D.k_x
    rw [show (zm2 W b k).1 = W.1 from rfl] at kx
    rw [if_pos kx]
    refine (D.likes (zm2_S S b k) (zm2_V Z hb (by omega)) (lk := lk) (my := my) E hb hk).bind fun q25 ⟨l1, D1, l2, l3⟩ => ?_
    have p1 : hgR q25.2 (W.1 0 0) [0] 3 = some (some (W.1 20 0)) := D1.x_park
    have p2 : hgI q25.2 (W.1 20 0) [1] 1 = some (W.2.1 20 0 1) := D1.z_bores
    have p3 : hgI q25.2 (W.1 20 0) [1] 2 = some (W.2.1 20 0 2) := D1.z_keeps
    have p4 : hgR q25.2 (W.1 25 b) [8] 7 = some (some (W.1 28 b)) := D1.b_today hb (ts := [8]) rfl
    have p5 : hgI q25.2 (W.1 29 k) [9] 1 = some (nI k) := (D1.g_number hk (ts := [9]) rfl).trans (by rw [(zm2_S S b k).2.2.2.2.2.2.2 k hk])
    have p6 : hgAI q25.2 (W.1 28 b) 100 (nI k) = some (zmin 99 (W.2.1 28 b k + 1)) := (D1.todayOf hb (show k < 8 by omega)).trans (by simp [zm2, zA, zset])
    have p7 : hgI q25.2 (W.1 29 k) [9] 6 = some (W.2.1 29 k 6) := D1.g_back hk (ts := [9]) rfl
    have p8 : hgI q25.2 (W.1 25 b) [8] 1 = some (nI b) := (D1.b_number hb (ts := [8]) rfl).trans (by rw [(zm2_S S b k).2.2.2.2.2.2.1 b hb])
    simp only [p1, p2, Option.bind_some, l1]
    by_cases hbo : W.2.1 20 0 1 ≤ zlik (zm2 W b k) lk b k
    · rw [if_pos hbo]
      simp only [p3, p4, p5, p6, Option.bind_some]
      by_cases hke : W.2.1 20 0 2 ≤ zmin 99 (W.2.1 28 b k + 1)
      · rw [if_pos hke, show zmee W lk b k = (3, zA (zm2 W b k) 29 k 7 (nI b)) by unfold zmee; rw [if_pos hbo, if_pos hke]]
        obtain ⟨h3, e3, C3, r3, r3'⟩ := D1.wby hk (nI b)
        have e3' : hp V q25.2 (W.1 29 k) [9] 7 (va_rf (some (W.1 25 b))) = some h3 := by
          rw [zenc_nI (by have := S.1; omega)] at e3
          exact e3
        rw [e3', Option.bind_some]
        exact yes.ret ⟨rfl, C3, by (try dsimp only); omega, by (try dsimp only); omega⟩
      · rw [if_neg hke, show zmee W lk b k = (1, zm2 W b k) by unfold zmee; rw [if_pos hbo, if_neg hke]]
        exact yes.ret ⟨rfl, D1, by (try dsimp only); omega, by (try dsimp only); omega⟩
    · rw [if_neg hbo, show zmee W lk b k = (2, zA (zm2 W b k) 29 k 6 (W.2.1 29 k 6 ||| ((1 : Int32) <<< (nI b &&& 31)))) by unfold zmee; rw [if_neg hbo]]
      simp only [p7, p8, Option.bind_some]
      obtain ⟨h3, e3, C3, r3, r3'⟩ := D1.wback hk (W.2.1 29 k 6 ||| ((1 : Int32) <<< (nI b &&& 31)))
      have e3' : hp V q25.2 (W.1 29 k) [9] 6 (.int (W.2.1 29 k 6 ||| ((1 : Int32) <<< (nI b &&& 31)))) = some h3 := e3
      rw [e3', Option.bind_some]
      exact yes.ret ⟨rfl, C3, by (try dsimp only); omega, by (try dsimp only); omega⟩
  · rw [if_neg hf, if_neg hf]
    simp only [C.x_fees, C.x_park, C.z_fee, Option.bind_some, c_min]
    obtain ⟨h1, e1, C1, r1, r1'⟩ := C.wx (i := 8) rfl (zmin 9999 (W.2.1 0 0 8 + W.2.1 20 0 3))
    rw [e1, Option.bind_some]
    exact yes.ret ⟨rfl, C1, r1, r1'⟩
end MC
/-! the reference -/
def lsz : Nat → Nat := fun a => match a with
  | 28 => 24 | 29 => 8 | 30 => 8 | 31 => 18 | 32 => 48 | 33 => 48 | 35 => 300 | _ => 1
/-- nothing is other but layer v, and what is scratch -/
def mfr (v : Nat) (ms ms' : mx_S) : Prop := ms'.1 = ms.1 ∧ ms'.2.1 = ms.2.1 ∧ (∀ a i, ¬ (a = 37 ∨ a = 38 ∨ a = 39) → (26 ≤ a → a ≤ 35 → i / lsz a ≠ v) → ms'.2.2.1 a i = ms.2.2.1 a i) ∧ ∀ a i, a ≠ 36 → ms'.2.2.2 a i = ms.2.2.2 a i
theorem mfr.refl (v : Nat) (ms : mx_S) : mfr v ms ms := ⟨rfl, rfl, fun _ _ _ _ => rfl, fun _ _ _ => rfl⟩
theorem mfr.trans {v : Nat} {a b c : mx_S} (h : mfr v a b) (k : mfr v b c) : mfr v a c := ⟨k.1.trans h.1, k.2.1.trans h.2.1, fun x i hx hy => (k.2.2.1 x i hx hy).trans (h.2.2.1 x i hx hy), fun x i hx => (k.2.2.2 x i hx).trans (h.2.2.2 x i hx)⟩
theorem msc.fr {v : Nat} {a b : mx_S} (h : msc a b) : mfr v a b := ⟨h.1, h.2.1, fun x i hx _ => h.2.2.1 x i (fun q => hx (Or.inl q)), h.2.2.2⟩
theorem mfr.A {v : Nat} (ms : mx_S) {a i : Nat} (x : Int32) (h : a = 37 ∨ a = 38 ∨ a = 39 ∨ (26 ≤ a ∧ a ≤ 35 ∧ i / lsz a = v)) : mfr v ms (mx_A ms a i x) := by
  refine ⟨rfl, rfl, fun a' i' h1 h2 => ?_, fun _ _ _ => rfl⟩
  show (if a' = a ∧ i' = i then x else ms.2.2.1 a' i') = _
  rw [if_neg]
  rintro ⟨rfl, rfl⟩
  rcases h with q | q | q | ⟨q1, q2, q3⟩
  · exact h1 (Or.inl q)
  · exact h1 (Or.inr (Or.inl q))
  · exact h1 (Or.inr (Or.inr q))
  · exact h2 q1 q2 q3
/-- what one asking changes -/
def mco (v : Nat) (ms ms' : mx_S) : Prop := ms'.1 = ms.1 ∧ ms'.2.1 = ms.2.1 ∧ (∀ a i, a ≠ 37 → (a = 27 ∨ a = 29 ∨ a = 30 ∨ a = 32 ∨ a = 33 → i / lsz a ≠ v) → ms'.2.2.1 a i = ms.2.2.1 a i) ∧ ∀ a i, a ≠ 36 → ms'.2.2.2 a i = ms.2.2.2 a i
theorem mco.trans {v : Nat} {a b c : mx_S} (h : mco v a b) (k : mco v b c) : mco v a c := ⟨k.1.trans h.1, k.2.1.trans h.2.1, fun x i hx hy => (k.2.2.1 x i hx hy).trans (h.2.2.1 x i hx hy), fun x i hx => (k.2.2.2 x i hx).trans (h.2.2.2 x i hx)⟩
theorem msc.co {v : Nat} {a b : mx_S} (h : msc a b) : mco v a b := ⟨h.1, h.2.1, fun x i hx _ => h.2.2.1 x i hx, h.2.2.2⟩
theorem mco.fr {v : Nat} {a b : mx_S} (h : mco v a b) : mfr v a b := ⟨h.1, h.2.1, fun x i hx hy => h.2.2.1 x i (fun q => hx (Or.inl q)) (fun q => hy (by omega) (by omega)), h.2.2.2⟩
theorem mco.A {v : Nat} (ms : mx_S) {a i : Nat} (x : Int32) (h : (a = 27 ∨ a = 29 ∨ a = 30 ∨ a = 32 ∨ a = 33) ∧ i / lsz a = v) : mco v ms (mx_A ms a i x) := by
  refine ⟨rfl, rfl, fun a' i' h1 h2 => ?_, fun _ _ _ => rfl⟩
  show (if a' = a ∧ i' = i then x else ms.2.2.1 a' i') = _
  rw [if_neg]
  rintro ⟨rfl, rfl⟩
  exact h2 h.1 h.2
theorem MP.fr {v : Nat} {ms ms' : mx_S} {W : zW} {bk : Nat} (M : MP ms W bk) (h : mfr v ms ms') : MP ms' W bk := by
  obtain ⟨h1, h2, h3, h4⟩ := h
  have h5 : ∀ a i, a ≤ 25 → ms'.2.2.1 a i = ms.2.2.1 a i := fun a i ha => h3 a i (by omega) (fun q => by omega)
  simp only [MP, h1, h5 1 _ (by decide), h5 2 _ (by decide), h5 3 _ (by decide), h5 4 _ (by decide), h5 6 _ (by decide), h5 8 _ (by decide), h5 9 _ (by decide), h5 10 _ (by decide), h5 11 _ (by decide)]
  exact M
theorem ELM.fr {v : Nat} {ms ms' : mx_S} {bk : Nat} {lk my : zL} (E : ELM ms bk lk my) (h : mfr v ms ms') : ELM ms' bk lk my := E.mv (by rw [h.1]) (fun a i ha => h.2.2.1 a i (by omega) (fun q => by omega))
theorem MP.Wx {ms : mx_S} {W W' : zW} {bk : Nat} (M : MP ms W bk) (h1 : W'.2.2.2.1 0 = W.2.2.2.1 0 ∧ W'.2.2.2.1 1 = W.2.2.2.1 1) (h2 : ∀ j i, i = 2 ∨ i = 3 ∨ i = 4 → W'.2.1 25 j i = W.2.1 25 j i) (h3 : ∀ j i, i = 2 ∨ i = 3 ∨ i = 5 → W'.2.1 29 j i = W.2.1 29 j i) (h4 : ∀ i, W'.2.1 20 0 i = W.2.1 20 0 i) : MP ms W' bk := by
  simp only [MP, h1.1, h1.2, h2 _ 2 (by decide), h2 _ 3 (by decide), h2 _ 4 (by decide), h3 _ 2 (by decide), h3 _ 3 (by decide), h3 _ 5 (by decide), h4]
  exact M
theorem MP.A {ms : mx_S} {W : zW} {bk : Nat} (M : MP ms W bk) {k j i : Nat} (v : Int32) (h20 : k ≠ 20) (h25 : k = 25 → i ≠ 2 ∧ i ≠ 3 ∧ i ≠ 4) (h29 : k = 29 → i ≠ 2 ∧ i ≠ 3 ∧ i ≠ 5) : MP ms (zA W k j i v) bk := by
  refine M.Wx ⟨rfl, rfl⟩ (fun j' i' h => ?_) (fun j' i' h => ?_) (fun i' => ?_)
  · show (if 25 = k ∧ j' = j ∧ i' = i then v else W.2.1 25 j' i') = _
    rw [if_neg (fun q => by have := h25 q.1.symm; omega)]
  · show (if 29 = k ∧ j' = j ∧ i' = i then v else W.2.1 29 j' i') = _
    rw [if_neg (fun q => by have := h29 q.1.symm; omega)]
  · show (if 20 = k ∧ 0 = j ∧ i' = i then v else W.2.1 20 0 i') = _
    rw [if_neg (fun q => h20 q.1.symm)]
section MRs
variable {ms : mx_S} {W : zW} {v : Nat}
theorem MR.saw (R : MR ms v W) {b k : Nat} (hk : k < 8) (h8 : W.2.2.2.1 1 ≤ 8) (x : Int32) : MR (mx_A ms 32 (48 * v + 8 * b + k) x) v (zA W 27 b k x) := by
  obtain ⟨r0, r1, r2, r3, r4, r5, r6⟩ := R
  refine ⟨r0, r1, r2, r3, fun b' hb' k' hk' => ⟨?_, (r4 b' hb' k' hk').2⟩, r5, r6⟩
  show (if 32 = 32 ∧ 48 * v + 8 * b' + k' = 48 * v + 8 * b + k then x else _) = (if 27 = 27 ∧ b' = b ∧ k' = k then x else _)
  by_cases e : b' = b ∧ k' = k
  · rw [if_pos ⟨rfl, by rw [e.1, e.2]⟩, if_pos ⟨rfl, e⟩]
  · have hk'' : k' < W.2.2.2.1 1 := hk'
    rw [if_neg (fun q => by have := q.2; omega), if_neg (fun q => e q.2)]
    exact (r4 b' hb' k' hk').1
theorem MR.today (R : MR ms v W) {b k : Nat} (hk : k < 8) (h8 : W.2.2.2.1 1 ≤ 8) (x : Int32) : MR (mx_A ms 33 (48 * v + 8 * b + k) x) v (zA W 28 b k x) := by
  obtain ⟨r0, r1, r2, r3, r4, r5, r6⟩ := R
  refine ⟨r0, r1, r2, r3, fun b' hb' k' hk' => ⟨(r4 b' hb' k' hk').1, ?_⟩, r5, r6⟩
  show (if 33 = 33 ∧ 48 * v + 8 * b' + k' = 48 * v + 8 * b + k then x else _) = (if 28 = 28 ∧ b' = b ∧ k' = k then x else _)
  by_cases e : b' = b ∧ k' = k
  · rw [if_pos ⟨rfl, by rw [e.1, e.2]⟩, if_pos ⟨rfl, e⟩]
  · have hk'' : k' < W.2.2.2.1 1 := hk'
    rw [if_neg (fun q => by have := q.2; omega), if_neg (fun q => e q.2)]
    exact (r4 b' hb' k' hk').2
theorem MR.kept (R : MR ms v W) {k : Nat} (x : Int32) : MR (mx_A ms 29 (8 * v + k) x) v (zA W 29 k 7 x) := by
  obtain ⟨r0, r1, r2, r3, r4, r5, r6⟩ := R
  refine ⟨r0, r1, fun k' hk' => ⟨?_, ?_⟩, r3, r4, r5, r6⟩
  · show (if 29 = 29 ∧ 8 * v + k' = 8 * v + k then x else _) = (if 29 = 29 ∧ k' = k ∧ 7 = 7 then x else _)
    by_cases e : k' = k
    · rw [if_pos ⟨rfl, by rw [e]⟩, if_pos ⟨rfl, e, rfl⟩]
    · rw [if_neg (fun q => by have := q.2; omega), if_neg (fun q => e q.2.1)]
      exact (r2 k' hk').1
  · show _ = (if 29 = 29 ∧ k' = k ∧ 6 = 7 then x else _)
    rw [if_neg (fun q => by have := q.2.2; omega)]
    exact (r2 k' hk').2
theorem MR.sent (R : MR ms v W) {k : Nat} (x : Int32) : MR (mx_A ms 30 (8 * v + k) x) v (zA W 29 k 6 x) := by
  obtain ⟨r0, r1, r2, r3, r4, r5, r6⟩ := R
  refine ⟨r0, r1, fun k' hk' => ⟨?_, ?_⟩, r3, r4, r5, r6⟩
  · show _ = (if 29 = 29 ∧ k' = k ∧ 7 = 6 then x else _)
    rw [if_neg (fun q => by have := q.2.2; omega)]
    exact (r2 k' hk').1
  · show (if 30 = 30 ∧ 8 * v + k' = 8 * v + k then x else _) = (if 29 = 29 ∧ k' = k ∧ 6 = 6 then x else _)
    by_cases e : k' = k
    · rw [if_pos ⟨rfl, by rw [e]⟩, if_pos ⟨rfl, e, rfl⟩]
    · rw [if_neg (fun q => by have := q.2; omega), if_neg (fun q => e q.2.1)]
      exact (r2 k' hk').2
theorem MR.fees (R : MR ms v W) (x : Int32) : MR (mx_A ms 27 v x) v (zA W 0 0 8 x) := by
  obtain ⟨r0, r1, r2, r3, r4, r5, r6⟩ := R
  refine ⟨r0, r1, r2, r3, r4, ?_, r6⟩
  simp [mx_A, zA, zset]
/-- what the layer does not hold may be other -/
theorem MR.Wx {W' : zW} (R : MR ms v W) (h1 : W'.2.2.2.1 0 = W.2.2.2.1 0 ∧ W'.2.2.2.1 1 = W.2.2.2.1 1) (h2 : ∀ k j i, k = 26 ∨ k = 27 ∨ k = 28 ∨ k = 30 → W'.2.1 k j i = W.2.1 k j i) (h3 : ∀ j i, i = 6 ∨ i = 7 → W'.2.1 29 j i = W.2.1 29 j i) (h4 : ∀ i, i = 6 ∨ i = 7 ∨ i = 8 → W'.2.1 0 0 i = W.2.1 0 0 i) : MR ms v W' := by
  simp only [MR, h1.1, h1.2, h2 26 _ _ (by decide), h2 27 _ _ (by decide), h2 28 _ _ (by decide), h2 30 _ _ (by decide), h3 _ 6 (by decide), h3 _ 7 (by decide), h4 6 (by decide), h4 7 (by decide), h4 8 (by decide)]
  exact R
theorem MR.A {k j i : Nat} (R : MR ms v W) (x : Int32) (h1 : k ≠ 26 ∧ k ≠ 27 ∧ k ≠ 28 ∧ k ≠ 30) (h2 : k = 29 → i ≠ 6 ∧ i ≠ 7) (h3 : k = 0 → i ≠ 6 ∧ i ≠ 7 ∧ i ≠ 8) : MR ms v (zA W k j i x) := by
  refine R.Wx ⟨rfl, rfl⟩ (fun k' j' i' h => ?_) (fun j' i' h => ?_) (fun i' h => ?_)
  · show (if k' = k ∧ j' = j ∧ i' = i then x else W.2.1 k' j' i') = _
    rw [if_neg (fun q => by have := q.1; omega)]
  · show (if 29 = k ∧ j' = j ∧ i' = i then x else W.2.1 29 j' i') = _
    rw [if_neg (fun q => by have := h2 q.1.symm; omega)]
  · show (if 0 = k ∧ 0 = j ∧ i' = i then x else W.2.1 0 0 i') = _
    rw [if_neg (fun q => by have := h3 q.1.symm; omega)]
end MRs
theorem zmin_99 {x : Int32} (h : zle x 99) : (if (99 : Int32) ≤ x then (99 : Int32) else x + 1) = zmin 99 (x + 1) := by
  obtain ⟨n, hn, rfl⟩ := h
  unfold zmin
  rw [show (99 : Int32) = nI 99 from rfl, nI_1]
  by_cases e : n = 99
  · subst e
    rw [if_pos (nI_le (by omega) (by omega)), if_neg (nI_nlt (by omega) (by omega))]
  · rw [if_neg (nI_ge (by omega) (by omega))]
    by_cases e2 : n = 98
    · subst e2
      rw [if_neg (nI_nlt (by omega) (by omega))]
    · rw [if_pos (nI_lt (by omega) (by omega))]
section MM
variable {ms : mx_S} {W : zW} {bk v : Nat}
theorem ml_comes (P : MP ms W bk) (R : MR ms v W) (S : ZS W) (Z : ZV W) {lk my : zL} (E : ELM ms bk lk my) {b k : Nat} (hb : b < W.2.2.2.1 0) (hk : k < W.2.2.2.1 1) (hfe : zle (W.2.1 0 0 8) 9999) (hfee : zle (W.2.1 20 0 3) 99) : yes (m_comes (nI v) (nI b) (nI k) ms) (fun r => r.1 = (zmeets W lk b k).1 ∧ MR r.2 v (zmeets W lk b k).2 ∧ mco v ms r.2) := by
  have h8 := S.2.1
  have h6 := S.1
  have hv := R.1
  unfold m_comes zmeets
  rw [ml_feared P hk h8, Option.bind_some]
  by_cases hf : zbit (W.2.1 29 k 5) (nI b) = 0
  · rw [if_pos hf, if_pos hf, ml_pair, Option.bind_some, if_pos (pl_in (by omega) (by decide)), if_pos (pl_in (by omega) (by decide)), pl_cl (by omega), (R.2.2.2.2.1 b hb k hk).1]
    have key : ∀ z : Int32, z = zmin 99 (W.2.1 27 b k + 1) → yes (m_comes_b88 (nI v) (nI b) (nI k) (nI (48 * v + 8 * b + k)) (nI (48 * v + 8 * b + k)) z ms) (fun r => r.1 = (zmee W lk b k).1 ∧ MR r.2 v (zmee W lk b k).2 ∧ mco v ms r.2) := by
      intro z hz
      have R1 := R.saw (b := b) (k := k) (by omega) h8 z
      have f1 : mco v ms (mx_A ms 32 (48 * v + 8 * b + k) z) := mco.A ms z ⟨by decide, by show (48 * v + 8 * b + k) / 48 = v; omega⟩
      unfold m_comes_b88
      rw [if_pos (pl_in (by omega) (by decide)), if_pos (pl_in (by omega) (by decide)), if_pos (pl_in (by omega) (by decide)), pl_cl (by omega)]
      have e33 : (mx_A ms 32 (48 * v + 8 * b + k) z).2.2.1 33 (48 * v + 8 * b + k) = W.2.1 28 b k := (R.2.2.2.2.1 b hb k hk).2
      rw [e33]
      have key2 : ∀ z2 : Int32, z2 = zmin 99 (W.2.1 28 b k + 1) → yes (m_comes_b121 (nI v) (nI b) (nI k) (nI (48 * v + 8 * b + k)) (nI (48 * v + 8 * b + k)) z2 (mx_A ms 32 (48 * v + 8 * b + k) z)) (fun r => r.1 = (zmee W lk b k).1 ∧ MR r.2 v (zmee W lk b k).2 ∧ mco v ms r.2) := by
        intro z2 hz2
        have R2 := R1.today (b := b) (k := k) (by omega) h8 z2
        have f2 : mco v ms (mx_A (mx_A ms 32 (48 * v + 8 * b + k) z) 33 (48 * v + 8 * b + k) z2) := f1.trans (mco.A _ z2 ⟨by decide, by show (48 * v + 8 * b + k) / 48 = v; omega⟩)
        have eW : zA (zA W 27 b k z) 28 b k z2 = zm2 W b k := by rw [hz, hz2]; rfl
        rw [eW] at R2
        have P2 : MP (mx_A (mx_A ms 32 (48 * v + 8 * b + k) z) 33 (48 * v + 8 * b + k) z2) (zm2 W b k) bk := ((P.fr f2.fr).A _ (by simp) (by simp) (by simp)).A _ (by simp) (by simp) (by simp)
        unfold m_comes_b121
        rw [if_pos (pl_in (by omega) (by decide)), pl_cl (by omega)]
        refine (ml_liked P2 R2 (zm2_S S b k) (zm2_V Z hb (by omega)) (E.fr f2.fr) hb hk).bind fun q ⟨q1, q2⟩ => ?_
        have P3 := P2.sc q2
        have R3 := R2.sc q2
        have f3 : mco v ms q.2 := f2.trans q2.co
        rw [show (1 : Int32) = nI 1 from rfl, ml_told P3 (by decide), Option.bind_some, q1]
        have w1 : (zm2 W b k).2.1 20 0 1 = W.2.1 20 0 1 := rfl
        have w2 : (zm2 W b k).2.1 20 0 2 = W.2.1 20 0 2 := rfl
        rw [w1]
        have e8 : (8 : Int32) * nI v + nI k = nI (8 * v + k) := by simp only [pl_lit, pk_mul, nI_add]
        by_cases hbo : W.2.1 20 0 1 ≤ zlik (zm2 W b k) lk b k
        · rw [if_pos hbo, if_pos (pl_in (by omega) (by decide)), show (2 : Int32) = nI 2 from rfl, ml_told P3 (by decide), Option.bind_some, w2]
          have e33' : q.2.2.2.1 33 (48 * v + 8 * b + k) = zmin 99 (W.2.1 28 b k + 1) := (R3.2.2.2.2.1 b hb k hk).2.trans (by simp [zm2, zA, zset])
          rw [e33']
          by_cases hke : W.2.1 20 0 2 ≤ zmin 99 (W.2.1 28 b k + 1)
          · rw [if_pos hke, e8, if_pos (pl_in (by omega) (by decide)), pl_cl (by omega), show zmee W lk b k = (3, zA (zm2 W b k) 29 k 7 (nI b)) by unfold zmee; rw [if_pos hbo, if_pos hke]]
            exact yes.ret ⟨rfl, R3.kept _, f3.trans (mco.A _ _ ⟨by decide, by show (8 * v + k) / 8 = v; omega⟩)⟩
          · rw [if_neg hke, show zmee W lk b k = (1, zm2 W b k) by unfold zmee; rw [if_pos hbo, if_neg hke]]
            exact yes.ret ⟨rfl, R3, f3⟩
        · rw [if_neg hbo, e8, if_pos (pl_in (by omega) (by decide)), if_pos (pl_in (by omega) (by decide)), pl_cl (by omega)]
          rw [show zmee W lk b k = (2, zA (zm2 W b k) 29 k 6 (W.2.1 29 k 6 ||| ((1 : Int32) <<< (nI b &&& 31)))) by unfold zmee; rw [if_neg hbo]]
          have e30 : q.2.2.2.1 30 (8 * v + k) = W.2.1 29 k 6 := (R3.2.2.1 k hk).2
          rw [e30]
          exact yes.ret ⟨rfl, R3.sent _, f3.trans (mco.A _ _ ⟨by decide, by show (8 * v + k) / 8 = v; omega⟩)⟩
      have hz2 := zmin_99 (Z.2.2.1 b hb k (by omega)).2
      by_cases h99 : (99 : Int32) ≤ W.2.1 28 b k
      · rw [if_pos h99] at hz2 ⊢
        exact key2 _ hz2
      · rw [if_neg h99] at hz2 ⊢
        exact key2 _ hz2
    have hz := zmin_99 (Z.2.2.1 b hb k (by omega)).1
    by_cases h99 : (99 : Int32) ≤ W.2.1 27 b k
    · rw [if_pos h99] at hz ⊢
      exact key _ hz
    · rw [if_neg h99] at hz ⊢
      exact key _ hz
  · rw [if_neg hf, if_neg hf, if_pos (pl_in hv (by decide)), show (3 : Int32) = nI 3 from rfl, ml_told P (by decide), Option.bind_some, if_pos (pl_in hv (by decide)), if_pos (pl_in hv (by decide)), pl_cl (by omega), R.2.2.2.2.2.1]
    obtain ⟨n, hn, e1⟩ := hfe
    obtain ⟨m, hm, e2⟩ := hfee
    have fin : ∀ z, z = zmin 9999 (W.2.1 0 0 8 + W.2.1 20 0 3) → yes (some ((0 : Int32), mx_A ms 27 v z)) (fun r => r.1 = (0 : Int32) ∧ MR r.2 v (zA W 0 0 8 (zmin 9999 (W.2.1 0 0 8 + W.2.1 20 0 3))) ∧ mco v ms r.2) := by
      intro z hz
      rw [← hz]
      exact yes.ret ⟨rfl, R.fees z, mco.A ms z ⟨by decide, by show v / 1 = v; omega⟩⟩
    have hs : W.2.1 0 0 8 + W.2.1 20 0 3 = nI (n + m) := by rw [e1, e2, nI_add]
    by_cases hle : W.2.1 0 0 8 + W.2.1 20 0 3 ≤ (9999 : Int32)
    · rw [if_pos hle]
      refine fin _ ?_
      unfold zmin
      rw [hs, show (9999 : Int32) = nI 9999 from rfl] at hle ⊢
      rw [nI_leI (by omega) (by omega)] at hle
      by_cases e : n + m = 9999
      · rw [e, if_neg (nI_nlt (by omega) (by omega))]
      · rw [if_pos (nI_lt (by omega) (by omega))]
    · rw [if_neg hle]
      refine fin _ ?_
      unfold zmin
      rw [hs, show (9999 : Int32) = nI 9999 from rfl] at hle ⊢
      rw [nI_leI (by omega) (by omega)] at hle
      rw [if_neg (nI_nlt (by omega) (by omega))]
end MM
