/-! PURE SIDE: the call bring: plain law -/
set_option maxRecDepth 100000
def zbc (s : Nat) : Nat := s % 2 + s / 2 % 2 + s / 4 % 2 + s / 8 % 2 + s / 16 % 2 + s / 32 % 2 + s / 64 % 2 + s / 128 % 2
theorem bit_8 : ∀ s, s < 256 → ∀ k, k < 8 → ((nI s >>> (nI k &&& 31)) &&& (1 : Int32)) = nI (s / 2 ^ k % 2) := by decide +kernel
theorem or_k : ∀ s, s < 256 → ∀ k, k < 8 → nI s ||| ((1 : Int32) <<< (nI k &&& 31)) = nI (s ||| 2 ^ k) := by decide +kernel
theorem sh_8 : ∀ n, n ≤ 8 → (1 : Int32) <<< (nI n &&& 31) = nI (2 ^ n) := by decide +kernel
theorem zbc_and : ∀ s, s < 256 → s = 0 ∨ (nI s &&& (nI s - (1 : Int32)) = nI (s &&& (s - 1)) ∧ zbc (s &&& (s - 1)) + 1 = zbc s ∧ s &&& (s - 1) < s) := by decide +kernel
theorem m_bits_z {s : Nat} (hs : s < 256) : m_bits (nI s) = some (nI (zbc s)) := by
  have key : ∀ (d s n F : Nat), s ≤ d → s < 256 → d < F → hx_wh m_bits_s4 F (nI n, nI s) = some (nI (n + zbc s)) := by
    intro d
    induction d with
    | zero =>
      intro s n F h1 h2 h3
      obtain ⟨F, rfl⟩ : ∃ k, F = k + 1 := ⟨F - 1, by omega⟩
      have : s = 0 := by omega
      subst this
      exact wh_inr F (by unfold m_bits_s4; rw [if_pos (show nI 0 = 0 from rfl)]; rfl)
    | succ d ih =>
      intro s n F h1 h2 h3
      by_cases h0 : s = 0
      · subst h0; exact ih 0 n F (by omega) (by omega) (by omega)
      obtain ⟨F, rfl⟩ : ∃ k, F = k + 1 := ⟨F - 1, by omega⟩
      obtain ⟨a1, a2, a3⟩ := (zbc_and s h2).resolve_left h0
      have e : m_bits_s4 (nI n, nI s) = some (.inl (nI (n + 1), nI (s &&& (s - 1)))) := by
        unfold m_bits_s4
        simp only
        rw [if_neg (show ¬ nI s = 0 from fun q => h0 ((nI_eq (by omega) (by decide)).mp (show nI s = nI 0 from q))), a1, nI_1]
      rw [wh_inl F e, ih _ _ F (by omega) (by omega) (by omega), show n + 1 + zbc (s &&& (s - 1)) = n + zbc s by omega]
  unfold m_bits
  have := hx_FU_ge
  rw [(show hx_wh m_bits_s4 hx_FU ((0 : Int32), nI s) = _ from key 256 s 0 hx_FU (by omega) hs (by omega)), Nat.zero_add]
theorem c_bits_z {V : hx_V} {h : hx_S} : ∀ s, s < 256 → c_J15_bitCount V (nI s) h = some (nI (zbc s)) := by
  unfold c_J15_bitCount
  intro s hs
  refine congrArg some ?_
  revert s
  decide +kernel
section BP
variable (lik : Nat → Nat → Nat) (u n1 : Nat) (mo : Nat → Nat) (b s : Nat)
def zva (g : Nat) : Nat := lik b g + mo (s ||| 2 ^ g)
abbrev zcd (g : Nat) : Prop := s / 2 ^ g % 2 = 0 ∧ lik b g ≠ 0 ∧ zbc s < u
/-- the most, guests below g -/
def zmx : Nat → Nat
  | 0 => mo s
  | g + 1 => if zcd lik u b s g then max (zmx g) (zva lik mo b s g) else zmx g
def zvo : Option Nat → Nat
  | none => mo s
  | some g => zva lik mo b s g
/-- by whom, the last d guests having been looked at from behind -/
def zbi : Nat → Option Nat
  | 0 => none
  | d + 1 => if zcd lik u b s (n1 - 1 - d) ∧ zvo lik mo b s (zbi d) ≤ zva lik mo b s (n1 - 1 - d) then some (n1 - 1 - d) else zbi d
end BP
section BQ
variable {lik : Nat → Nat → Nat} {u n1 : Nat} {mo : Nat → Nat} {b s : Nat}
theorem zmx_p (m : Nat) : (∀ g, g < m → zcd lik u b s g → zva lik mo b s g ≤ zmx lik u mo b s m) ∧ mo s ≤ zmx lik u mo b s m ∧ (zmx lik u mo b s m = mo s ∨ ∃ g, g < m ∧ zcd lik u b s g ∧ zmx lik u mo b s m = zva lik mo b s g) := by
  induction m with
  | zero => exact ⟨fun g hg => by omega, Nat.le_refl _, Or.inl rfl⟩
  | succ m ih =>
    obtain ⟨i1, i2, i3⟩ := ih
    have e : zmx lik u mo b s (m + 1) = if zcd lik u b s m then max (zmx lik u mo b s m) (zva lik mo b s m) else zmx lik u mo b s m := rfl
    by_cases c : zcd lik u b s m
    · rw [if_pos c] at e
      rw [e]
      refine ⟨fun g hg hc => ?_, by omega, ?_⟩
      · by_cases q : g = m
        · subst q; omega
        · have := i1 g (by omega) hc; omega
      · by_cases q : zmx lik u mo b s m ≤ zva lik mo b s m
        · exact Or.inr ⟨m, by omega, c, Nat.max_eq_right q⟩
        · rw [Nat.max_eq_left (by omega)]
          rcases i3 with i3 | ⟨g, g1, g2, g3⟩
          · exact Or.inl i3
          · exact Or.inr ⟨g, by omega, g2, g3⟩
    · rw [if_neg c] at e
      rw [e]
      refine ⟨fun g hg hc => ?_, i2, ?_⟩
      · by_cases q : g = m
        · subst q; exact absurd hc c
        · exact i1 g (by omega) hc
      · rcases i3 with i3 | ⟨g, g1, g2, g3⟩
        · exact Or.inl i3
        · exact Or.inr ⟨g, by omega, g2, g3⟩
theorem zbi_p (d : Nat) (hd : d ≤ n1) : (∀ g, n1 - d ≤ g → g < n1 → zcd lik u b s g → zva lik mo b s g ≤ zvo lik mo b s (zbi lik u n1 mo b s d)) ∧ mo s ≤ zvo lik mo b s (zbi lik u n1 mo b s d) ∧ ((zbi lik u n1 mo b s d = none ∧ ∀ g, n1 - d ≤ g → g < n1 → zcd lik u b s g → zva lik mo b s g < mo s) ∨ ∃ g, zbi lik u n1 mo b s d = some g ∧ n1 - d ≤ g ∧ g < n1 ∧ zcd lik u b s g ∧ ∀ g', n1 - d ≤ g' → g' < g → zcd lik u b s g' → zva lik mo b s g' < zva lik mo b s g) := by
  induction d with
  | zero => exact ⟨fun g h1 h2 => by omega, Nat.le_refl _, Or.inl ⟨rfl, fun g h1 h2 => by omega⟩⟩
  | succ d ih =>
    obtain ⟨i1, i2, i3⟩ := ih (by omega)
    have e : zbi lik u n1 mo b s (d + 1) = if zcd lik u b s (n1 - 1 - d) ∧ zvo lik mo b s (zbi lik u n1 mo b s d) ≤ zva lik mo b s (n1 - 1 - d) then some (n1 - 1 - d) else zbi lik u n1 mo b s d := rfl
    by_cases c : zcd lik u b s (n1 - 1 - d) ∧ zvo lik mo b s (zbi lik u n1 mo b s d) ≤ zva lik mo b s (n1 - 1 - d)
    · rw [if_pos c] at e
      rw [e]
      have zs : zvo lik mo b s (some (n1 - 1 - d)) = zva lik mo b s (n1 - 1 - d) := rfl
      rw [zs]
      refine ⟨fun g h1 h2 hc => ?_, by omega, Or.inr ⟨n1 - 1 - d, rfl, by omega, by omega, c.1, fun g' h1 h2 => by omega⟩⟩
      by_cases q : g = n1 - 1 - d
      · rw [q]; exact Nat.le_refl _
      · have := i1 g (by omega) h2 hc; omega
    · rw [if_neg c] at e
      rw [e]
      have lt : zcd lik u b s (n1 - 1 - d) → zva lik mo b s (n1 - 1 - d) < zvo lik mo b s (zbi lik u n1 mo b s d) := fun hc => by
        have : ¬ zvo lik mo b s (zbi lik u n1 mo b s d) ≤ zva lik mo b s (n1 - 1 - d) := fun x => c ⟨hc, x⟩
        omega
      refine ⟨fun g h1 h2 hc => ?_, i2, ?_⟩
      · by_cases q : g = n1 - 1 - d
        · rw [q] at hc ⊢; have := lt hc; omega
        · exact i1 g (by omega) h2 hc
      · rcases i3 with ⟨j1, j2⟩ | ⟨g, j1, j2, j3, j4, j5⟩
        · refine Or.inl ⟨j1, fun g h1 h2 hc => ?_⟩
          by_cases q : g = n1 - 1 - d
          · rw [q] at hc ⊢
            have := lt hc
            rw [j1] at this
            exact this
          · exact j2 g (by omega) h2 hc
        · refine Or.inr ⟨g, j1, by omega, j3, j4, fun g' h1 h2 hc => ?_⟩
          by_cases q : g' = n1 - 1 - d
          · rw [q] at hc ⊢
            have := lt hc
            rw [j1] at this
            exact this
          · exact j5 g' (by omega) h2 hc
theorem zbi_v : zvo lik mo b s (zbi lik u n1 mo b s n1) = zmx lik u mo b s n1 := by
  obtain ⟨a1, a2, a3⟩ := zmx_p (lik := lik) (u := u) (mo := mo) (b := b) (s := s) n1
  obtain ⟨b1, b2, b3⟩ := zbi_p (lik := lik) (u := u) (n1 := n1) (mo := mo) (b := b) (s := s) n1 (Nat.le_refl _)
  apply Nat.le_antisymm
  · rcases b3 with ⟨c1, -⟩ | ⟨g, c1, -, c2, c3, -⟩
    · rw [c1]; exact a2
    · rw [c1]; exact a1 g c2 c3
  · rcases a3 with c1 | ⟨g, c1, c2, c3⟩
    · rw [c1]; exact b2
    · rw [c3]; exact b1 g (by omega) c1 c2
/-- the first who is best -/
theorem zbi_f : (zbi lik u n1 mo b s n1 = none ∧ ∀ g, g < n1 → ¬ (zcd lik u b s g ∧ zva lik mo b s g = zmx lik u mo b s n1)) ∨ ∃ g, zbi lik u n1 mo b s n1 = some g ∧ g < n1 ∧ (zcd lik u b s g ∧ zva lik mo b s g = zmx lik u mo b s n1) ∧ ∀ g', g' < g → ¬ (zcd lik u b s g' ∧ zva lik mo b s g' = zmx lik u mo b s n1) := by
  have v := zbi_v (lik := lik) (u := u) (n1 := n1) (mo := mo) (b := b) (s := s)
  obtain ⟨b1, b2, b3⟩ := zbi_p (lik := lik) (u := u) (n1 := n1) (mo := mo) (b := b) (s := s) n1 (Nat.le_refl _)
  rcases b3 with ⟨c1, c2⟩ | ⟨g, c1, c2, c3, c4, c5⟩
  · rw [c1] at v
    refine Or.inl ⟨c1, fun g hg q => ?_⟩
    have := c2 g (by omega) hg q.1
    have v' : mo s = zmx lik u mo b s n1 := v
    omega
  · rw [c1] at v
    have v' : zva lik mo b s g = zmx lik u mo b s n1 := v
    refine Or.inr ⟨g, c1, c3, ⟨c4, v'⟩, fun g' hg' q => ?_⟩
    have := c5 g' (by omega) hg' q.1
    omega
end BQ
/-- the rows of the most, from behind -/
def zmo (lik : Nat → Nat → Nat) (u n1 n0 : Nat) : Nat → Nat → Nat
  | 0 => fun _ => 0
  | d + 1 => fun s => zmx lik u (zmo lik u n1 n0 d) (n0 - (d + 1)) s n1
theorem zmx_le {lik : Nat → Nat → Nat} {u n1 : Nat} {mo : Nat → Nat} {b s m : Nat} (hl : ∀ g, g < n1 → lik b g ≤ 999) (hm : ∀ s, mo s ≤ m) : zmx lik u mo b s n1 ≤ m + 999 := by
  obtain ⟨-, -, a3⟩ := zmx_p (lik := lik) (u := u) (mo := mo) (b := b) (s := s) n1
  rcases a3 with a | ⟨g, g1, g2, g3⟩
  · rw [a]; have := hm s; omega
  · rw [g3]
    have h1 := hl g g1
    have h2 := hm (s ||| 2 ^ g)
    show lik b g + mo (s ||| 2 ^ g) ≤ _
    omega
theorem zmo_le {lik : Nat → Nat → Nat} {u n1 n0 : Nat} (hl : ∀ b g, b < n0 → g < n1 → lik b g ≤ 999) (d : Nat) (hd : d ≤ n0) : ∀ s, zmo lik u n1 n0 d s ≤ 999 * d := by
  induction d with
  | zero => intro s; exact Nat.le_refl _
  | succ d ih =>
    intro s
    have := zmx_le (lik := lik) (u := u) (n1 := n1) (mo := zmo lik u n1 n0 d) (b := n0 - (d + 1)) (s := s) (m := 999 * d) (fun g hg => hl _ g (by omega) hg) (ih (by omega))
    show zmx lik u (zmo lik u n1 n0 d) (n0 - (d + 1)) s n1 ≤ _
    omega
