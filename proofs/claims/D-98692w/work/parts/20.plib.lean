/-! PURE SIDE: numbers and loops -/
set_option maxRecDepth 100000
theorem pl_lit (n : Nat) : (OfNat.ofNat n : Int32) = nI n := rfl
theorem pl_in {k n : Nat} (h : k < n) (hn : n < 2 ^ 31) : hx_in (nI k) n = true := by
  unfold hx_in
  rw [decide_eq_true_eq, nI_clamp (by omega)]
  intro q
  rcases q with q | q
  · exact nI_pos (by omega) q
  · omega
theorem pl_cl {k : Nat} (h : k < 2 ^ 31) : (nI k).toNatClampNeg = k := nI_clamp h
/-- a loop whose states are known -/
theorem pl_wh {σ τ : Type} {step : σ → Option (σ ⊕ τ)} (s : Nat → σ) (t : Option τ) : ∀ (N i n : Nat), (∀ j, i ≤ j → j < i + N → step (s j) = some (.inl (s (j + 1)))) → step (s (i + N)) = t.map .inr → N < n → hx_wh step n (s i) = t := by
  intro N
  induction N with
  | zero =>
    intro i n hs he hn
    obtain ⟨n, rfl⟩ : ∃ m, n = m + 1 := ⟨n - 1, by omega⟩
    unfold hx_wh
    rw [show step (s i) = t.map .inr from he]
    cases t <;> rfl
  | succ N ih =>
    intro i n hs he hn
    obtain ⟨n, rfl⟩ : ∃ m, n = m + 1 := ⟨n - 1, by omega⟩
    unfold hx_wh
    rw [hs i (Nat.le_refl _) (by omega)]
    exact ih (i + 1) n (fun j h1 h2 => hs j (by omega) (by omega)) (by rw [show i + 1 + N = i + (N + 1) by omega]; exact he) (by omega)
theorem pl_loop {σ τ : Type} {step : σ → Option (σ ⊕ τ)} (s : Nat → σ) (N : Nat) (t : Option τ) (hs : ∀ j, j < N → step (s j) = some (.inl (s (j + 1)))) (he : step (s N) = t.map .inr) (hN : N < 1000000) : hx_wh step hx_FU (s 0) = t :=
  pl_wh s t N 0 hx_FU (fun j _ h => hs j (by omega)) (by rw [Nat.zero_add]; exact he) (by have := hx_FU_ge; omega)
theorem pl_look {v g i : Nat} {ms : mx_S} (hv : v < 22) (hg : g < 8) (hi : i < 3) : m_look (nI v) (nI g) (nI i) ms = some (ms.2.2.1 28 (24 * v + 3 * g + i)) := by
  unfold m_look
  have e : (24 : Int32) * nI v + (3 : Int32) * nI g + nI i = nI (24 * v + 3 * g + i) := by simp only [pl_lit, pk_mul, nI_add]
  rw [e, if_pos (pl_in (by omega) (by omega)), pl_cl (by omega)]
theorem pl_tasteIn {v b i : Nat} {ms : mx_S} (hv : v < 22) (hb : b < 6) (hi : i < 3) : m_tasteIn (nI v) (nI b) (nI i) ms = some (ms.2.2.1 31 (18 * v + 3 * b + i)) := by
  unfold m_tasteIn
  have e : (18 : Int32) * nI v + (3 : Int32) * nI b + nI i = nI (18 * v + 3 * b + i) := by simp only [pl_lit, pk_mul, nI_add]
  rw [e, if_pos (pl_in (by omega) (by omega)), pl_cl (by omega)]
/-- the sum of three -/
def pl_s3 (f : Nat → Int32) : Nat → Int32
  | 0 => 0
  | n + 1 => pl_s3 f n + f n
theorem pl_suiting {v b g : Nat} {ms : mx_S} (hv : v < 22) (hb : b < 6) (hg : g < 8) : m_suiting (nI v) (nI b) (nI g) ms = some (pl_s3 (fun i => ms.2.2.1 28 (24 * v + 3 * g + i) * ms.2.2.1 31 (18 * v + 3 * b + i)) 3) := by
  unfold m_suiting
  refine pl_loop (fun i => (pl_s3 (fun i => ms.2.2.1 28 (24 * v + 3 * g + i) * ms.2.2.1 31 (18 * v + 3 * b + i)) i, nI i)) 3 _ (fun j hj => ?_) ?_ (by decide)
  · unfold m_suiting_s6
    simp only [pl_look hv hg hj, pl_tasteIn hv hb hj, Option.bind_some]
    rw [if_neg (by simp only [pl_lit]; exact nI_ge hj (by omega))]
    simp only [pl_lit, nI_add, pl_s3]
  · unfold m_suiting_s6
    rw [if_pos (by simp only [pl_lit]; exact nI_le (Nat.le_refl _) (by omega))]
    rfl
