/-! PURE SIDE: the call on: what an image must tell -/
set_option maxRecDepth 100000
theorem wh_all {σ τ : Type} {P : Nat → Prop} {m : Nat} {e : Nat → σ} {step : σ → Option (σ ⊕ τ)} {r0 : τ} {r1 : Option τ} (h1 : ∀ j, j < m → P j → step (e j) = some (.inl (e (j + 1)))) (h2 : ∀ j, j < m → ¬ P j → step (e j) = some (.inr r0)) (h3 : step (e m) = r1.map .inr) (hm : m < 1000) :
    ((∀ j, j < m → P j) → hx_wh step hx_FU (e 0) = r1) ∧ ((∃ j, j < m ∧ ¬ P j) → hx_wh step hx_FU (e 0) = some r0) := by
  constructor
  · intro h
    exact pl_loop e m r1 (fun j hj => h1 j hj (h j hj)) h3 (by omega)
  · intro h
    rcases zfirst P m with q | ⟨j, q1, q2, q3⟩
    · obtain ⟨j, e1, e2⟩ := h; exact absurd (q j e1) e2
    · exact pl_loop e j (some r0) (fun i hi => h1 i (by omega) (q3 i hi)) (h2 j q1 q2) (by omega)
theorem or_8 {a b : Nat} (ha : a < 256) (hb : b < 256) : (nI a <<< ((8 : Int32) &&& 31)) ||| nI b = nI (256 * a + b) := by
  have h1 : nI a <<< ((8 : Int32) &&& 31) = nI (a * 2 ^ 8) := pk_shlN _ 8 (by decide) (by omega)
  rw [h1]
  have h2 : a * 2 ^ 8 ||| b = 256 * a + b := by
    have := Nat.shiftLeft_add_eq_or_of_lt (i := 8) (b := b) (by omega) a
    rw [Nat.shiftLeft_eq] at this
    omega
  apply Int32.toBitVec_inj.mp
  rw [Int32.toBitVec_or]
  show BitVec.ofNat 32 (a * 2 ^ 8) ||| BitVec.ofNat 32 b = BitVec.ofNat 32 (256 * a + b)
  rw [← BitVec.ofNat_or, h2]
theorem sh_6 : ∀ n, n ≤ 6 → (1 : Int32) <<< (nI n &&& 31) = nI (2 ^ n) ∧ ((nI n &&& 31).toBitVec.smod 32).toNat = n := by decide +kernel
/-- where beast b begins -/
def zbf (n1 b : Nat) : Nat := 5 + 5 * n1 + b * (3 + 2 * n1)
theorem zbf_s (n1 b : Nat) : zbf n1 (b + 1) = zbf n1 b + 3 + 2 * n1 := by unfold zbf; rw [show (b + 1) * (3 + 2 * n1) = b * (3 + 2 * n1) + (3 + 2 * n1) from Nat.succ_mul _ _]; omega
theorem zbf_le {n1 b : Nat} (h1 : n1 ≤ 8) (hb : b ≤ 6) : zbf n1 b ≤ 159 := by
  unfold zbf
  have : b * (3 + 2 * n1) ≤ 6 * 19 := Nat.mul_le_mul hb (by omega)
  omega
theorem zbf_mono {n1 b b' : Nat} (h : b ≤ b') : zbf n1 b ≤ zbf n1 b' := by
  unfold zbf
  have : b * (3 + 2 * n1) ≤ b' * (3 + 2 * n1) := Nat.mul_le_mul h (Nat.le_refl _)
  omega
def zfew (t : Nat → Nat) (a : Nat) : Prop := ∀ i, i < 3 → t (a + i) ≤ 9
def zokg (t : Nat → Nat) (n0 k : Nat) : Prop := zfew t (5 + 5 * k) ∧ t (5 + 5 * k + 3) ≤ n0 ∧ t (5 + 5 * k + 4) < 2 ^ n0
def zokp (t : Nat → Nat) (n1 b k : Nat) : Prop := t (zbf n1 b + 3 + 2 * k) ≤ 99 ∧ t (zbf n1 b + 3 + 2 * k + 1) ≤ t (zbf n1 b + 3 + 2 * k)
def zokb (t : Nat → Nat) (n1 b : Nat) : Prop := zfew t (zbf n1 b) ∧ ∀ k, k < n1 → zokp t n1 b k
section ON
variable {V : hx_V} {h : hx_S} {W X Y T : zW} {G G1 gt : Nat → Option hx_C} {ms : mx_S} {bk : Nat} {lk my : zL} {L : List (Nat → Int32)} {As : List zU} {t : Nat → Nat}
/-- the tape as numbers -/
def ZTP (W : zW) (t : Nat → Nat) : Prop := ∀ i, i < 1600 → W.2.1 1 0 i = nI (t i) ∧ t i ≤ 255
theorem CS.two_z (C : CS V h W T G) (Q : ZTP W t) {i : Nat} (hi : i + 1 < 1600) : c_X0_two V (W.1 0 0) (nI i) h = some (nI (256 * t i + t (i + 1))) := by
  unfold c_X0_two
  rw [C.x_tape, Option.bind_some, Option.bind_some, C.tapeAt (by omega), Option.bind_some, Option.bind_some, Option.bind_some, nI_1, C.tapeAt (by omega), Option.bind_some, (Q i (by omega)).1, (Q (i + 1) (by omega)).1, show nI (t i) * (256 : Int32) + nI (t (i + 1)) = nI (256 * t i + t (i + 1)) by
    rw [show (256 : Int32) = nI 256 from rfl, pk_mul, nI_add, Nat.mul_comm]]
theorem CS.beastFrom_z (C : CS V h W T G) (Z : ZI W) (b : Nat) : c_X0_beastFrom V (W.1 0 0) (nI b) h = some (nI (zbf (W.2.2.2.1 1) b)) := by
  unfold c_X0_beastFrom zbf
  rw [C.x_park, Option.bind_some, Option.bind_some, C.z_guests, Option.bind_some, Option.bind_some, if_pos C.k_guests, C.sizeG Z.1, Option.bind_some, Option.bind_some, Option.bind_some, C.z_guests, Option.bind_some, Option.bind_some, if_pos C.k_guests, C.sizeG Z.1, Option.bind_some]
  simp only [pl_lit, pk_mul, nI_add]
theorem CS.areFew_z (C : CS V h W T G) (Q : ZTP W t) {a : Nat} (ha : a + 3 < 1600) : (zfew t a → c_X0_areFew V (some (W.1 1 0)) (nI a) h = some 1) ∧ (¬ zfew t a → c_X0_areFew V (some (W.1 1 0)) (nI a) h = some 0) := by
  have key : ∀ j, j < 3 → c_X0_areFew_s2 V (some (W.1 1 0)) (nI a) h (nI j) = if t (a + j) ≤ 9 then some (.inl (nI (j + 1))) else some (.inr 0) := by
    intro j hj
    unfold c_X0_areFew_s2
    rw [if_neg (show ¬ (3 : Int32) ≤ nI j from nI_ge (b := 3) hj (by decide)), Option.bind_some, nI_add, C.tapeAt (by omega), Option.bind_some, (Q (a + j) (by omega)).1, nI_1]
    have hb := (Q (a + j) (by omega)).2
    by_cases q : t (a + j) ≤ 9
    · rw [if_pos (show nI (t (a + j)) ≤ (9 : Int32) from nI_le (b := 9) q (by decide)), if_pos q]
    · rw [if_neg (show ¬ nI (t (a + j)) ≤ (9 : Int32) from nI_ge (a := 9) (by omega) (by omega)), if_neg q]
  obtain ⟨w1, w2⟩ := wh_all (P := fun j => t (a + j) ≤ 9) (m := 3) (e := fun j => nI j) (step := c_X0_areFew_s2 V (some (W.1 1 0)) (nI a) h) (r0 := 0) (r1 := some 1) (fun j hj hp => by rw [key j hj, if_pos hp]) (fun j hj hp => by rw [key j hj, if_neg hp]) (by unfold c_X0_areFew_s2; rw [if_pos (show (3 : Int32) ≤ nI 3 by decide)]; rfl) (by decide)
  refine ⟨w1, fun hn => w2 ?_⟩
  rcases zfirst (fun j => t (a + j) ≤ 9) 3 with q | ⟨j, q1, q2, -⟩
  · exact absurd q hn
  · exact ⟨j, q1, q2⟩
theorem znot {P : Nat → Prop} {m : Nat} (h : ¬ ∀ j, j < m → P j) : ∃ j, j < m ∧ ¬ P j := by
  rcases zfirst P m with q | ⟨j, q1, q2, -⟩
  · exact absurd q h
  · exact ⟨j, q1, q2⟩
theorem CS.toldB (C : CS V h W T G) (Z : ZI W) (Q : ZTP W t) : ((∀ b, b < W.2.2.2.1 0 → zokb t (W.2.2.2.1 1) b) → c_X0_isTold_b160 V (W.1 0 0) h = some 1) ∧ ((∃ b, b < W.2.2.2.1 0 ∧ ¬ zokb t (W.2.2.2.1 1) b) → c_X0_isTold_b160 V (W.1 0 0) h = some 0) := by
  have h6 := Z.1.1
  have h8 := Z.1.2.1
  have inner : ∀ b, b < W.2.2.2.1 0 → ((∀ k, k < W.2.2.2.1 1 → zokp t (W.2.2.2.1 1) b k) → hx_wh (c_X0_isTold_s201 V (W.1 0 0) (nI b) h) hx_FU (nI (zbf (W.2.2.2.1 1) b + 3)) = some (.inl (nI (b + 1)))) ∧ ((∃ k, k < W.2.2.2.1 1 ∧ ¬ zokp t (W.2.2.2.1 1) b k) → hx_wh (c_X0_isTold_s201 V (W.1 0 0) (nI b) h) hx_FU (nI (zbf (W.2.2.2.1 1) b + 3)) = some (.inr 0)) := by
    intro b hb
    have hz := zbf_le (b := b + 1) h8 (by omega)
    rw [zbf_s] at hz
    refine wh_all (m := W.2.2.2.1 1) (e := fun k => nI (zbf (W.2.2.2.1 1) b + 3 + 2 * k)) (r1 := some (Sum.inl (nI (b + 1)))) (fun k hkk hp => ?_) (fun k hkk hp => ?_) ?_ (by omega)
    · unfold c_X0_isTold_s201
      rw [if_pos C.k_x, nI_1, C.beastFrom_z Z, Option.bind_some, zbf_s, if_neg (nI_ge (by omega) (by omega)), C.x_tape, Option.bind_some, Option.bind_some, C.tapeAt (by omega), Option.bind_some, (Q _ (by omega)).1, if_neg (show ¬ (99 : Int32) < nI (t (zbf (W.2.2.2.1 1) b + 3 + 2 * k)) from nI_nlt (a := 99) hp.1 (by decide)), Option.bind_some, Option.bind_some, nI_1, C.tapeAt (by omega), Option.bind_some, (Q _ (by omega)).1, Option.bind_some, Option.bind_some, C.tapeAt (by omega), Option.bind_some, (Q _ (by omega)).1, if_pos (nI_le hp.2 (by have := (Q (zbf (W.2.2.2.1 1) b + 3 + 2 * k) (by omega)).2; omega)), show nI (zbf (W.2.2.2.1 1) b + 3 + 2 * k) + (2 : Int32) = nI (zbf (W.2.2.2.1 1) b + 3 + 2 * (k + 1)) from nI_add _ 2]
    · unfold c_X0_isTold_s201
      have q1 := (Q (zbf (W.2.2.2.1 1) b + 3 + 2 * k) (by omega)).2
      have q2 := (Q (zbf (W.2.2.2.1 1) b + 3 + 2 * k + 1) (by omega)).2
      rw [if_pos C.k_x, nI_1, C.beastFrom_z Z, Option.bind_some, zbf_s, if_neg (nI_ge (by omega) (by omega)), C.x_tape, Option.bind_some, Option.bind_some, C.tapeAt (by omega), Option.bind_some, (Q _ (by omega)).1]
      by_cases h99 : t (zbf (W.2.2.2.1 1) b + 3 + 2 * k) ≤ 99
      · rw [if_neg (show ¬ (99 : Int32) < nI (t (zbf (W.2.2.2.1 1) b + 3 + 2 * k)) from nI_nlt (a := 99) h99 (by decide)), Option.bind_some, Option.bind_some, nI_1, C.tapeAt (by omega), Option.bind_some, (Q _ (by omega)).1, Option.bind_some, Option.bind_some, C.tapeAt (by omega), Option.bind_some, (Q _ (by omega)).1, if_neg (nI_ge (by
          have : ¬ t (zbf (W.2.2.2.1 1) b + 3 + 2 * k + 1) ≤ t (zbf (W.2.2.2.1 1) b + 3 + 2 * k) := fun q => hp ⟨h99, q⟩
          omega) (by omega))]
      · rw [if_pos (show (99 : Int32) < nI (t (zbf (W.2.2.2.1 1) b + 3 + 2 * k)) from nI_lt (a := 99) (by omega) (by omega))]
    · unfold c_X0_isTold_s201
      rw [if_pos C.k_x, nI_1, C.beastFrom_z Z, Option.bind_some, zbf_s, if_pos (nI_le (Nat.le_refl _) (by omega))]
      rfl
  unfold c_X0_isTold_b160
  have st : ∀ b, b < W.2.2.2.1 0 → (zokb t (W.2.2.2.1 1) b → c_X0_isTold_s162 V (W.1 0 0) h (nI b) = some (.inl (nI (b + 1)))) ∧ (¬ zokb t (W.2.2.2.1 1) b → c_X0_isTold_s162 V (W.1 0 0) h (nI b) = some (.inr 0)) := by
    intro b hb
    have hz := zbf_le (b := b + 1) h8 (by omega)
    rw [zbf_s] at hz
    unfold c_X0_isTold_s162
    rw [C.x_park, Option.bind_some, Option.bind_some, C.z_beasts, Option.bind_some, Option.bind_some, if_pos C.k_beasts, C.sizeB Z.1, Option.bind_some, if_neg (nI_ge hb (by omega)), C.x_tape, Option.bind_some, if_pos C.k_x, C.beastFrom_z Z, Option.bind_some]
    obtain ⟨f1, f2⟩ := C.areFew_z Q (a := zbf (W.2.2.2.1 1) b) (by omega)
    obtain ⟨i1, i2⟩ := inner b hb
    by_cases hf : zfew t (zbf (W.2.2.2.1 1) b)
    · rw [f1 hf, Option.bind_some, if_neg (by decide), if_pos C.k_x, Option.bind_some, show nI (zbf (W.2.2.2.1 1) b) + (3 : Int32) = nI (zbf (W.2.2.2.1 1) b + 3) from nI_add _ 3]
      exact ⟨fun q => i1 q.2, fun q => i2 (znot (fun x => q ⟨hf, x⟩))⟩
    · rw [f2 hf, Option.bind_some, if_pos rfl]
      exact ⟨fun q => absurd q.1 hf, fun _ => rfl⟩
  refine wh_all (e := fun b => nI b) (r1 := some 1) (fun b hb hp => (st b hb).1 hp) (fun b hb hp => (st b hb).2 hp) ?_ (by omega)
  unfold c_X0_isTold_s162
  rw [C.x_park, Option.bind_some, Option.bind_some, C.z_beasts, Option.bind_some, Option.bind_some, if_pos C.k_beasts, C.sizeB Z.1, Option.bind_some, if_pos (nI_le (Nat.le_refl _) (by omega))]
  rfl
theorem CS.toldG (C : CS V h W T G) (Z : ZI W) (Q : ZTP W t) : ((∀ k, k < W.2.2.2.1 1 → zokg t (W.2.2.2.1 0) k) → hx_wh (c_X0_isTold_s78 V (W.1 0 0) h) hx_FU ((0 : Int32)) = c_X0_isTold_b160 V (W.1 0 0) h) ∧ ((∃ k, k < W.2.2.2.1 1 ∧ ¬ zokg t (W.2.2.2.1 0) k) → hx_wh (c_X0_isTold_s78 V (W.1 0 0) h) hx_FU ((0 : Int32)) = some 0) := by
  have h6 := Z.1.1
  have h8 := Z.1.2.1
  have st : ∀ k, k < W.2.2.2.1 1 → (zokg t (W.2.2.2.1 0) k → c_X0_isTold_s78 V (W.1 0 0) h (nI k) = some (.inl (nI (k + 1)))) ∧ (¬ zokg t (W.2.2.2.1 0) k → c_X0_isTold_s78 V (W.1 0 0) h (nI k) = some (.inr 0)) := by
    intro k hkk
    have ix : (5 : Int32) + (5 : Int32) * nI k = nI (5 + 5 * k) := by simp only [pl_lit, pk_mul, nI_add]
    have q3 := (Q (5 + 5 * k + 3) (by omega)).2
    have q4 := (Q (5 + 5 * k + 4) (by omega)).2
    obtain ⟨s1, s2⟩ := sh_6 (W.2.2.2.1 0) h6
    have sh : nI (t (5 + 5 * k + 4)) >>> (nI (W.2.2.2.1 0) &&& 31) = nI (t (5 + 5 * k + 4) / 2 ^ W.2.2.2.1 0) := pk_shrN (by omega) _ _ s2
    unfold c_X0_isTold_s78
    rw [C.x_park, Option.bind_some, Option.bind_some, C.z_guests, Option.bind_some, Option.bind_some, if_pos C.k_guests, C.sizeG Z.1, Option.bind_some, if_neg (nI_ge hkk (by omega)), C.x_tape, Option.bind_some, ix]
    obtain ⟨f1, f2⟩ := C.areFew_z Q (a := 5 + 5 * k) (by omega)
    by_cases hf : zfew t (5 + 5 * k)
    · rw [f1 hf, Option.bind_some, if_neg (by decide), Option.bind_some, Option.bind_some, show nI (5 + 5 * k) + (3 : Int32) = nI (5 + 5 * k + 3) from nI_add _ 3, C.tapeAt (by omega), Option.bind_some, Option.bind_some, Option.bind_some, C.z_beasts, Option.bind_some, Option.bind_some, if_pos C.k_beasts, C.sizeB Z.1, Option.bind_some, (Q _ (by omega)).1]
      by_cases h3 : t (5 + 5 * k + 3) ≤ W.2.2.2.1 0
      · rw [if_neg (nI_nlt h3 (by omega)), Option.bind_some, Option.bind_some, show nI (5 + 5 * k) + (4 : Int32) = nI (5 + 5 * k + 4) from nI_add _ 4, C.tapeAt (by omega), Option.bind_some, Option.bind_some, Option.bind_some, C.z_beasts, Option.bind_some, Option.bind_some, if_pos C.k_beasts, C.sizeB Z.1, Option.bind_some, (Q _ (by omega)).1, sh, nI_1]
        have hdv : nI (t (5 + 5 * k + 4) / 2 ^ W.2.2.2.1 0) = 0 ↔ t (5 + 5 * k + 4) < 2 ^ W.2.2.2.1 0 := by
          have hle : t (5 + 5 * k + 4) / 2 ^ W.2.2.2.1 0 ≤ t (5 + 5 * k + 4) := Nat.div_le_self _ _
          rw [show (0 : Int32) = nI 0 from rfl, nI_eq (by omega) (by decide), Nat.div_eq_zero_iff]
          have : 2 ^ W.2.2.2.1 0 ≠ 0 := Nat.pos_iff_ne_zero.mp (Nat.two_pow_pos _)
          constructor
          · intro x; exact x.resolve_left this
          · exact Or.inr
        by_cases h4 : t (5 + 5 * k + 4) < 2 ^ W.2.2.2.1 0
        · rw [if_pos (hdv.mpr h4)]
          exact ⟨fun _ => rfl, fun q => absurd ⟨hf, h3, h4⟩ q⟩
        · rw [if_neg (fun x => h4 (hdv.mp x))]
          exact ⟨fun q => absurd q.2.2 h4, fun _ => rfl⟩
      · rw [if_pos (nI_lt (by omega) (by omega))]
        exact ⟨fun q => absurd q.2.1 h3, fun _ => rfl⟩
    · rw [f2 hf, Option.bind_some, if_pos rfl]
      exact ⟨fun q => absurd q.1 hf, fun _ => rfl⟩
  refine wh_all (e := fun b => nI b) (r1 := c_X0_isTold_b160 V (W.1 0 0) h) (fun b hb hp => (st b hb).1 hp) (fun b hb hp => (st b hb).2 hp) ?_ (by omega)
  unfold c_X0_isTold_s78
  rw [C.x_park, Option.bind_some, Option.bind_some, C.z_guests, Option.bind_some, Option.bind_some, if_pos C.k_guests, C.sizeG Z.1, Option.bind_some, if_pos (nI_le (Nat.le_refl _) (by omega))]
/-- what the head must tell -/
def zokh (W : zW) (t : Nat → Nat) (n : Nat) : Prop := n = zbf (W.2.2.2.1 1) (W.2.2.2.1 0) + 1 ∧ nI (t (n - 1)) = zlast (fun i => nI (t i)) (n - 1) ∧ 256 * t 0 + t 1 ≤ 999 ∧ t 2 < 24 ∧ 256 * t 3 + t 4 ≤ 9999
def zokt (W : zW) (t : Nat → Nat) (n : Nat) : Prop := zokh W t n ∧ (∀ k, k < W.2.2.2.1 1 → zokg t (W.2.2.2.1 0) k) ∧ ∀ b, b < W.2.2.2.1 0 → zokb t (W.2.2.2.1 1) b
theorem zlast_eq {f g : Nat → Int32} : ∀ n, (∀ k, k < n → f k = g k) → zlast f n = zlast g n := by
  intro n
  induction n with
  | zero => intro _; rfl
  | succ n ih =>
    intro h
    show (5 * zlast f n + f n) - (5 * zlast f n + f n) / 251 * 251 = (5 * zlast g n + g n) - (5 * zlast g n + g n) / 251 * 251
    rw [ih (fun k hk => h k (by omega)), h n (by omega)]
theorem CS.isTold_z (C : CS V h W T G) (Z : ZI W) (Q : ZTP W t) {n : Nat} (hn : n ≤ 1600) : (zokt W t n → c_X0_isTold V (W.1 0 0) (nI n) h = some 1) ∧ (¬ zokt W t n → c_X0_isTold V (W.1 0 0) (nI n) h = some 0) := by
  have h6 := Z.1.1
  have h8 := Z.1.2.1
  have hz := zbf_le (b := W.2.2.2.1 0) h8 h6
  unfold c_X0_isTold
  rw [C.x_park, Option.bind_some, Option.bind_some, C.z_beasts, Option.bind_some, Option.bind_some, if_pos C.k_beasts, C.sizeB Z.1, Option.bind_some, if_pos C.k_x, C.beastFrom_z Z, Option.bind_some, nI_1]
  by_cases hl : n = zbf (W.2.2.2.1 1) (W.2.2.2.1 0) + 1
  · have h5 : 5 ≤ zbf (W.2.2.2.1 1) (W.2.2.2.1 0) := by unfold zbf; omega
    rw [if_pos (by rw [hl]), C.x_tape, Option.bind_some, Option.bind_some, show nI n - (1 : Int32) = nI (n - 1) from pk_sub (b := 1) (by omega), C.tapeAt (by omega), Option.bind_some, Option.bind_some, c_last_z (f := fun i => nI (t i)) (fun k hk => by rw [C.tapeAt (by omega), (Q k (by omega)).1]) (by omega), Option.bind_some, (Q (n - 1) (by omega)).1]
    by_cases hs : nI (t (n - 1)) = zlast (fun i => nI (t i)) (n - 1)
    · have q0 := (Q 0 (by decide)).2
      have q1 : t (0 + 1) ≤ 255 := (Q 1 (by decide)).2
      have q2 := (Q 2 (by decide)).2
      have q3 := (Q 3 (by decide)).2
      have q4 : t (3 + 1) ≤ 255 := (Q 4 (by decide)).2
      rw [if_pos hs, if_pos C.k_x, (show c_X0_two V (W.1 0 0) (0 : Int32) h = _ from C.two_z Q (i := 0) (by decide)), Option.bind_some]
      by_cases hd : 256 * t 0 + t (0 + 1) ≤ 999
      · rw [if_neg (show ¬ (999 : Int32) < nI (256 * t 0 + t (0 + 1)) from nI_nlt (a := 999) hd (by decide)), Option.bind_some, Option.bind_some, (show hgAI h (W.1 1 0) 101 (2 : Int32) = _ from C.tapeAt (i := 2) (by decide)), Option.bind_some, (Q 2 (by decide)).1]
        by_cases ht : t 2 < 24
        · rw [if_neg (show ¬ (24 : Int32) ≤ nI (t 2) from nI_ge (b := 24) ht (by decide)), if_pos C.k_x, (show c_X0_two V (W.1 0 0) (3 : Int32) h = _ from C.two_z Q (i := 3) (by decide)), Option.bind_some]
          by_cases hf : 256 * t 3 + t (3 + 1) ≤ 9999
          · rw [if_pos (show nI (256 * t 3 + t (3 + 1)) ≤ (9999 : Int32) from nI_le (b := 9999) hf (by decide))]
            obtain ⟨g1, g2⟩ := C.toldG Z Q
            obtain ⟨b1, b2⟩ := C.toldB Z Q
            have hh : zokh W t n := ⟨hl, hs, hd, ht, hf⟩
            constructor
            · intro q
              rw [g1 q.2.1, b1 q.2.2]
            · intro q
              by_cases hg : ∀ k, k < W.2.2.2.1 1 → zokg t (W.2.2.2.1 0) k
              · rw [g1 hg, b2 (znot (fun x => q ⟨hh, hg, x⟩))]
              · exact g2 (znot hg)
          · rw [if_neg (show ¬ nI (256 * t 3 + t (3 + 1)) ≤ (9999 : Int32) from nI_ge (a := 9999) (by omega) (by omega))]
            exact ⟨fun q => absurd q.1.2.2.2.2 hf, fun _ => rfl⟩
        · rw [if_pos (show (24 : Int32) ≤ nI (t 2) from nI_le (a := 24) (by omega) (by omega))]
          exact ⟨fun q => absurd q.1.2.2.2.1 ht, fun _ => rfl⟩
      · rw [if_pos (show (999 : Int32) < nI (256 * t 0 + t (0 + 1)) from nI_lt (a := 999) (by omega) (by omega))]
        exact ⟨fun q => absurd q.1.2.2.1 hd, fun _ => rfl⟩
    · rw [if_neg hs]
      exact ⟨fun q => absurd q.1.2.1 hs, fun _ => rfl⟩
  · rw [if_neg (fun q => hl ((nI_eq (by omega) (by omega)).mp q))]
    exact ⟨fun q => absurd q.1.1 hl, fun _ => rfl⟩
end ON
