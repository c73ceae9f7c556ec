/-! PURE SIDE: cells read and written one by one; lists (ArrayList) -/
set_option maxRecDepth 100000
section PC
variable {V : hx_V} {h : hx_S} {a t N : Nat} {f : Nat → Value}
theorem hs_at (h : hx_S) (a : Nat) (c : hx_C) : (hx_set h a c).2.2 a = some c := by simp [hx_set]
theorem hs_ne (h : hx_S) {a q : Nat} (c : hx_C) (e : q ≠ a) : (hx_set h a c).2.2 q = h.2.2 q := by simp [hx_set, e]
theorem hu_at (h : hx_S) (n : Nat) (c : hx_C) : (hx_push h n c).2.2 h.1 = some c := by simp [hx_push]
theorem hu_ne (h : hx_S) {q : Nat} (n : Nat) (c : hx_C) (e : q ≠ h.1) : (hx_push h n c).2.2 q = h.2.2 q := by simp [hx_push, e]
theorem p_gI (c : h.2.2 a = some (t, N, f)) {ts : List Nat} {k : Nat} {x : Int32} (ht : ts.contains t = true) (hk : k < N) (hv : f k = .int x) : hgI h a ts k = some x := by
  simp only [hgI, hg, c]
  rw [if_pos (by simp [hk]; simpa using ht), Option.bind_some, hv]
  rfl
theorem p_gR (c : h.2.2 a = some (t, N, f)) {ts : List Nat} {k : Nat} {x : Option Nat} (ht : ts.contains t = true) (hk : k < N) (hv : f k = va_rf x) : hgR h a ts k = some x := by
  simp only [hgR, hg, c]
  rw [if_pos (by simp [hk]; simpa using ht), Option.bind_some, hv]
  exact va_hvR _
theorem p_k (c : h.2.2 a = some (t, N, f)) {ts : List Nat} (ht : ts.contains t = true) : hk h a ts = true := by
  simp only [hk, c]
  exact ht
theorem p_p (c : h.2.2 a = some (t, N, f)) {ts : List Nat} {k : Nat} (v : Value) (ht : ts.contains t = true) (hN : N = hx_nf t) (hB : V.2.1.size ≤ a) : hp V h a ts k v = some (hx_set h a (t, N, updV f k v)) := by
  simp only [hp, c]
  rw [if_pos (by simp [hN, hB]; simpa using ht)]
  rfl
theorem p_ln (c : h.2.2 a = some (t, N, f)) (h1 : 100 ≤ t) (h2 : t < 109) : hln h a = some (nI N) := by
  simp only [hln, c]
  rw [if_pos (by simp [h1, h2])]
theorem p_gA (c : h.2.2 a = some (t, N, f)) {i : Nat} (hi : i < N) (hN : N < 2 ^ 31) : hgA h a t (nI i) = some (f i) := by
  simp only [hgA, c, pl_cl (Nat.lt_trans hi hN)]
  rw [if_pos (by simp [pl_in hi hN])]
theorem p_gAI (c : h.2.2 a = some (t, N, f)) {i : Nat} {x : Int32} (hi : i < N) (hN : N < 2 ^ 31) (hv : f i = .int x) : hgAI h a t (nI i) = some x := by
  simp only [hgAI, p_gA c hi hN, Option.bind_some, hv]
  rfl
theorem p_gQ (c : h.2.2 a = some (t, N, f)) (h1 : 105 ≤ t) (h2 : t < 109) {i : Nat} {x : Option Nat} (hi : i < N) (hN : N < 2 ^ 31) (hv : f i = va_rf x) : hgQ h a (nI i) = some x := by
  simp only [hgQ, c, pl_cl (Nat.lt_trans hi hN), hv]
  rw [if_pos (by simp [pl_in hi hN, h1, h2])]
  exact va_hvR _
theorem p_pA (c : h.2.2 a = some (t, N, f)) {i : Nat} (v : Value) (hi : i < N) (hN : N < 2 ^ 31) (hB : V.2.1.size ≤ a) : hpA V h a t (nI i) v = some (hx_set h a (t, N, updV f i v)) := by
  simp only [hpA, c, pl_cl (Nat.lt_trans hi hN)]
  rw [if_pos (by simp [pl_in hi hN, hB])]
  rfl
/-- a reference laid into an Object[] -/
theorem p_pQ (c : h.2.2 a = some (105, N, f)) {i : Nat} {r : Option Nat} (hi : i < N) (hN : N < 2 ^ 31) (hB : V.2.1.size ≤ a) (hr : ∀ b, r = some b → hk h b hx_obs = true) : hpQ V h a (nI i) r = some (hx_set h a (105, N, updV f i (va_rf r))) := by
  simp only [hpQ, c, pl_cl (Nat.lt_trans hi hN)]
  rw [if_pos]
  · rfl
  · cases r with
    | none => simp [pl_in hi hN, hB]
    | some b => simp [pl_in hi hN, hB, hr b rfl]
theorem p_n {n : Nat} (c : hx_C) (h1 : h.1 + 1 ≤ V.2.2.1) (h2 : h.2.1 + n ≤ V.2.2.2.1) : hn V h n c = some (hx_push h n c) := by
  unfold hn
  rw [if_pos (by simp [h1, h2])]
theorem p_na {n : Nat} (t : Nat) (v : Value) (h1 : h.1 + 1 ≤ V.2.2.1) (h2 : h.2.1 + n ≤ V.2.2.2.1) (h3 : n ≤ 60000000) : hna V h t (nI n) v = some (hx_push h n (t, n, fun _ => v)) := by
  unfold hna
  rw [pl_cl (by omega), if_pos]
  · exact p_n _ h1 h2
  · have := nI_pos (n := n) (by omega)
    simp [this]
    omega
end PC
theorem updV_at (f : Nat → Value) (k : Nat) (v : Value) : updV f k v k = v := by simp [updV]
theorem updV_ne (f : Nat → Value) {k j : Nat} (v : Value) (e : j ≠ k) : updV f k v j = f j := by simp [updV, e]
theorem updV_rf {e : Nat → Value} {c : Nat} (h : ∀ i, i < c → ∃ r, e i = va_rf r) (n b : Nat) : ∀ i, i < c → ∃ r, updV e n (.ref b) i = va_rf r := by
  intro i hi
  by_cases q : i = n
  · subst q; exact ⟨some b, updV_at _ _ _⟩
  · rw [updV_ne _ _ q]; exact h i hi
/-- the static empty row of lists -/
def GE (V : hx_V) (h : hx_S) : Prop := ∃ (d : Nat) (e : Nat → Value), V.2.2.2.2 0 = .ref d ∧ h.2.2 d = some (105, 0, e) ∧ d < V.2.1.size ∧ ∃ mi : Nat, V.2.2.2.2 90 = .ref mi
/-- a list at a: its row d of cap places, n of them in use -/
def AL (V : hx_V) (h : hx_S) (a d cap n : Nat) (e : Nat → Value) : Prop :=
  ∃ f mc, h.2.2 a = some (24, 3, f) ∧ f 0 = .int mc ∧ f 1 = .ref d ∧ f 2 = .int (nI n) ∧ h.2.2 d = some (105, cap, e) ∧ n ≤ cap ∧ cap < 1000000 ∧ V.2.1.size ≤ a ∧ a ≠ d ∧ ((V.2.1.size ≤ d ∧ 0 < cap) ∨ (cap = 0 ∧ V.2.2.2.2 0 = .ref d)) ∧ a < h.1 ∧ d < h.1
section ALs
variable {V : hx_V} {h : hx_S} {a d cap n : Nat} {e : Nat → Value}
theorem AL.size (A : AL V h a d cap n e) : c_J2_size V a h = some (nI n) := by
  obtain ⟨f, mc, c1, f0, f1, f2, -⟩ := A
  unfold c_J2_size
  rw [p_gI c1 rfl (by decide) f2]
  rfl
theorem AL.k (A : AL V h a d cap n e) : hk h a [24] = true := by
  obtain ⟨f, mc, c1, -⟩ := A
  exact p_k c1 rfl
theorem AL.get (A : AL V h a d cap n e) {i : Nat} {r : Option Nat} (hi : i < n) (hr : e i = va_rf r) : c_J2_get V a (nI i) h = some r := by
  have A' := A
  obtain ⟨f, mc, c1, f0, f1, f2, c2, h1, h2, -⟩ := A
  unfold c_J2_get c_J2_elementData
  rw [p_gI c1 rfl (by decide) f2, Option.bind_some, c_ck hi (by omega), Option.bind_some, A'.k, if_pos rfl, p_gR (x := some d) c1 rfl (by decide) f1, Option.bind_some, Option.bind_some, p_gQ c2 (by decide) (by decide) (by omega) (by omega) hr]
  rfl
theorem nI_half {n : Nat} (h : n < 2 ^ 31) : nI n >>> ((1 : Int32) &&& 31) = nI (n / 2) := pk_shrN h _ 1 (by decide)
/-- what is behind a list's change: only the list and its row are other -/
theorem AL.add (A : AL V h a d cap n e) (G : GE V h) (hel : ∀ i, i < n → ∃ b : Nat, e i = .ref b ∧ hk h b hx_obs = true ∧ b ≠ a ∧ b < h.1) {b : Nat} (hb : hk h b hx_obs = true) (hb2 : b ≠ a) (hb3 : b < h.1) (h1 : h.1 + 1 ≤ V.2.2.1) (h2 : n = cap → h.2.1 + (cap + cap / 2 + 10) ≤ V.2.2.2.1) (hcap : cap + cap / 2 + 10 < 1000000) (hrf : ∀ i, i < cap → ∃ r, e i = va_rf r) :
    ∃ h' d' cap' e', c_J2_add V a (some b) h = some (1, h') ∧ AL V h' a d' cap' (n + 1) e' ∧ (∀ i, i < cap' → ∃ r, e' i = va_rf r) ∧ (∀ i, i < n → e' i = e i) ∧ e' n = .ref b ∧ (∀ q, q < h.1 → q ≠ a → q ≠ d' → h'.2.2 q = h.2.2 q) ∧
      ((d' = d ∧ cap' = cap ∧ h'.1 = h.1 ∧ h'.2.1 = h.2.1) ∨ (d' = h.1 ∧ h'.1 = h.1 + 1 ∧ h'.2.1 = h.2.1 + cap' ∧ cap' ≤ cap + cap / 2 + 10 ∧ n = cap ∧ cap < cap' ∧ cap' ≤ 4 * (cap' - cap))) ∧ 0 < cap' ∧ V.2.1.size ≤ d' := by
  obtain ⟨f, mc, c1, f0, f1, f2, c2, n1, n2, B1, ad, B2, l1, l2⟩ := A
  obtain ⟨d0, e0, g1, g2, g3, mi, g4⟩ := G
  unfold c_J2_add
  rw [p_gI c1 rfl (by decide) f0, Option.bind_some, p_p c1 _ rfl rfl B1, Option.bind_some]
  have c3 := hs_at h a (24, 3, updV f 0 (.int (mc + 1)))
  generalize hh2 : hx_set h a (24, 3, updV f 0 (.int (mc + 1))) = k at c3
  have k1 : k.1 = h.1 ∧ k.2.1 = h.2.1 := by rw [← hh2]; exact ⟨rfl, rfl⟩
  have kne : ∀ q, q ≠ a → k.2.2 q = h.2.2 q := fun q hq => by rw [← hh2]; exact hs_ne h _ hq
  have F1 : updV f 0 (.int (mc + 1)) 1 = .ref d := by rw [updV_ne _ _ (by decide)]; exact f1
  have F2 : updV f 0 (.int (mc + 1)) 2 = .int (nI n) := by rw [updV_ne _ _ (by decide)]; exact f2
  have F0 : updV f 0 (.int (mc + 1)) 0 = .int (mc + 1) := updV_at _ _ _
  generalize updV f 0 (.int (mc + 1)) = F at c3 F0 F1 F2
  rw [p_gR (x := some d) c3 rfl (by decide) F1, Option.bind_some, p_gI c3 rfl (by decide) F2, Option.bind_some, p_k c3 rfl, if_pos rfl]
  unfold c_J2_add_2
  have c4 : k.2.2 d = some (105, cap, e) := (kne d (Ne.symm ad)).trans c2
  rw [Option.bind_some, p_ln c4 (by decide) (by decide), Option.bind_some]
  -- the end: the element is laid, the size is one more
  have fin : ∀ (k3 : hx_S) (d' cap' : Nat) (e' : Nat → Value) (F' : Nat → Value), k3.2.2 a = some (24, 3, F') → F' 0 = .int (mc + 1) → F' 1 = .ref d' → F' 2 = .int (nI n) → k3.2.2 d' = some (105, cap', e') → n < cap' → cap' < 1000000 → V.2.1.size ≤ d' → d' ≠ a → a < k3.1 → d' < k3.1 → hk k3 b hx_obs = true → ∃ h', c_J2_add_2_b11 V a (some b) (some d') (nI n) k3 = some h' ∧ AL V h' a d' cap' (n + 1) (updV e' n (.ref b)) ∧ (∀ q, q ≠ a → q ≠ d' → h'.2.2 q = k3.2.2 q) ∧ h'.1 = k3.1 ∧ h'.2.1 = k3.2.1 := by
    intro k3 d' cap' e' F' a1 a2 a3 a4 a5 a6 a7 a8 a9 a10 a11 a12
    unfold c_J2_add_2_b11
    rw [Option.bind_some, p_pQ a5 a6 (by omega) a8 (fun b' hb' => by cases hb'; exact a12), Option.bind_some]
    have b1 : (hx_set k3 d' (105, cap', updV e' n (va_rf (some b)))).2.2 a = some (24, 3, F') := (hs_ne k3 _ (Ne.symm a9)).trans a1
    rw [p_p b1 _ rfl rfl B1, Option.bind_some]
    refine ⟨_, rfl, ⟨_, mc + 1, hs_at _ _ _, ?_, ?_, ?_, ?_, a6, a7, B1, Ne.symm a9, Or.inl ⟨a8, by omega⟩, a10, a11⟩, fun q q1 q2 => ?_, rfl, rfl⟩
    · rw [updV_ne _ _ (by decide)]; exact a2
    · rw [updV_ne _ _ (by decide)]; exact a3
    · rw [updV_at, nI_1]
    · rw [hs_ne _ _ a9]; exact hs_at _ _ _
    · rw [hs_ne _ _ q1, hs_ne _ _ q2]
  have hbk : hk k b hx_obs = true := by
    unfold hk at hb ⊢
    rw [kne b hb2]; exact hb
  by_cases hfull : n = cap
  · replace h2 := h2 hfull
    subst hfull
    rw [if_pos rfl, p_k c3 rfl, if_pos rfl]
    unfold c_J2_grow
    rw [p_gI c3 rfl (by decide) F2, Option.bind_some, p_k c3 rfl, if_pos rfl]
    unfold c_J2_grow_2
    rw [p_gR (x := some d) c3 rfl (by decide) F1, Option.bind_some, Option.bind_some, p_ln c4 (by decide) (by decide), Option.bind_some]
    have h8 : h.1 ≠ a := by omega
    have hV : V.2.1.size ≤ h.1 := by omega
    -- a new row of c places hangs in the list
    have fin2 : ∀ (c' : Nat) (u : Nat → Value), n < c' → c' ≤ n + n / 2 + 10 → c' ≤ 4 * (c' - n) → (∀ i, i < n → u i = e i) → (∀ i, i < c' → ∃ r, u i = va_rf r) → ∃ h' d' cap' e', ((some (some h.1, hx_set (hx_set (hx_push k c' (105, c', fun _ => .null)) h.1 (105, c', u)) a (24, 3, updV F 1 (va_rf (some h.1)))) : Option (Option Nat × hx_S)).bind fun q8_ => c_J2_add_2_b11 V a (some b) q8_.1 (nI n) q8_.2).bind (fun q6_ => some ((1 : Int32), q6_)) = some (1, h') ∧ AL V h' a d' cap' (n + 1) e' ∧ (∀ i, i < cap' → ∃ r, e' i = va_rf r) ∧ (∀ i, i < n → e' i = e i) ∧ e' n = .ref b ∧ (∀ q, q < h.1 → q ≠ a → q ≠ d' → h'.2.2 q = h.2.2 q) ∧
      ((d' = d ∧ cap' = n ∧ h'.1 = h.1 ∧ h'.2.1 = h.2.1) ∨ (d' = h.1 ∧ h'.1 = h.1 + 1 ∧ h'.2.1 = h.2.1 + cap' ∧ cap' ≤ n + n / 2 + 10 ∧ True ∧ n < cap' ∧ cap' ≤ 4 * (cap' - n))) ∧ 0 < cap' ∧ V.2.1.size ≤ d' := by
      intro c' u hc1 hc2 hc4 he' hr'
      obtain ⟨h', e1, A', q1, q2, q3⟩ := fin (hx_set (hx_set (hx_push k c' (105, c', fun _ => .null)) h.1 (105, c', u)) a (24, 3, updV F 1 (va_rf (some h.1)))) h.1 c' u (updV F 1 (va_rf (some h.1))) (hs_at _ _ _) (by rw [updV_ne _ _ (by decide)]; exact F0) (updV_at _ _ _) (by rw [updV_ne _ _ (by decide)]; exact F2) (by rw [hs_ne _ _ h8]; exact hs_at _ _ _) hc1 (by omega) hV h8 (by show a < k.1 + 1; omega) (by show h.1 < k.1 + 1; omega) (by
        unfold hk
        rw [hs_ne _ _ hb2, hs_ne _ _ (by omega), hu_ne _ _ _ (by omega)]
        unfold hk at hbk
        exact hbk)
      refine ⟨h', h.1, c', _, ?_, A', updV_rf hr' n b, fun i hi => ?_, updV_at _ _ _, fun q q4 q5 q6 => ?_, Or.inr ⟨rfl, ?_, ?_, hc2, trivial, hc1, hc4⟩, by omega, hV⟩
      · rw [Option.bind_some, e1, Option.bind_some]
      · rw [updV_ne _ _ (by omega)]; exact he' i hi
      · rw [q1 q q5 q6, hs_ne _ _ q5, hs_ne _ _ q6, hu_ne _ _ _ (by omega), kne q q5]
      · rw [q2]; show k.1 + 1 = _; omega
      · rw [q3]; show k.2.1 + c' = _; omega
    by_cases h0 : n = 0
    · subst h0
      have hd0 : d = d0 := by
        rcases B2 with ⟨-, q⟩ | ⟨-, q⟩
        · omega
        · rw [g1] at q; cases q; rfl
      subst hd0
      rw [if_neg (by decide), Option.bind_some, g1]
      simp only [hvR, Option.bind_some, if_true]
      unfold c_J11_max
      rw [if_neg (by decide), Option.bind_some, show (10 : Int32) = nI 10 from rfl, p_na 105 .null (by omega) (by omega) (by decide), Option.bind_some]
      have c5 : (hx_push k 10 (105, 10, fun _ => .null)).2.2 a = some (24, 3, F) := (hu_ne _ _ _ (by omega)).trans c3
      rw [p_p c5 _ rfl rfl B1, Option.bind_some, Option.bind_some, k1.1]
      have := fin2 10 (fun _ => .null) (by decide) (by omega) (by omega) (fun i hi => by omega) (fun _ _ => ⟨none, rfl⟩)
      have e6 : hx_set (hx_push k 10 (105, 10, fun _ => .null)) h.1 (105, 10, fun _ => .null) = hx_push k 10 (105, 10, fun _ => .null) := by
        refine congrArg (fun x => (k.1 + 1, k.2.1 + 10, x)) (funext fun q => ?_)
        show (if q = h.1 then _ else if q = k.1 then _ else _) = (if q = k.1 then _ else _)
        rw [k1.1]
        by_cases e : q = h.1
        · rw [if_pos e, if_pos e]
        · rw [if_neg e, if_neg e]
      rw [e6] at this
      exact this
    · rw [if_pos (show (0 : Int32) < nI n from nI_lt (a := 0) (b := n) (by omega) (by omega))]
      unfold c_J2_grow_2_b20 c_J10_newLength c_J11_max
      rw [nI_half (by omega), show nI n + (1 : Int32) - nI n = nI 1 by rw [nI_1, pk_sub (by omega)]; congr 1; omega]
      have hmx : (if nI 1 < nI (n / 2) then some (nI (n / 2)) else some (nI 1)) = some (nI (if 1 < n / 2 then n / 2 else 1)) := by
        by_cases q : 1 < n / 2
        · rw [if_pos (nI_lt q (by omega)), if_pos q]
        · rw [if_neg (nI_nlt (by omega) (by omega)), if_neg q]
      rw [hmx, Option.bind_some, nI_add]
      obtain ⟨c', hc'⟩ : ∃ c', c' = n + (if 1 < n / 2 then n / 2 else 1) := ⟨_, rfl⟩
      have hc1 : n < c' ∧ c' ≤ n + n / 2 + 10 ∧ c' ≤ 4 * (c' - n) := by rw [hc']; split <;> omega
      rw [← hc', if_neg (nI_nle (by omega) (by omega)), if_neg (show ¬ (2147483639 : Int32) < nI c' from nI_nlt (a := 2147483639) (b := c') (by omega) (by decide)), Option.bind_some]
      rw [p_gR (x := some d) c3 rfl (by decide) F1, Option.bind_some]
      unfold c_J12_copyOf c_J12_copyOf_2 c_J12_copyOf_2_b24
      rw [Option.bind_some, p_k c4 rfl, if_pos rfl, g4]
      simp only [hvR, Option.bind_some, if_true]
      rw [p_na 105 .null (by omega) (by omega) (by omega), Option.bind_some]
      have dk : d ≠ k.1 := by omega
      have c5 : (hx_push k c' (105, c', fun _ => .null)).2.2 d = some (105, n, e) := (hu_ne _ _ _ dk).trans c4
      have c6 : (hx_push k c' (105, c', fun _ => .null)).2.2 k.1 = some (105, c', fun _ => .null) := hu_at _ _ _
      rw [p_ln c5 (by decide) (by decide), Option.bind_some, c_min]
      have hmn : zmin (nI n) (nI c') = nI n := by unfold zmin; rw [if_neg (nI_nlt (by omega) (by omega))]
      rw [hmn, Option.bind_some, k1.1]
      rw [k1.1] at c6
      have hcp1 : hcp V (hx_push k c' (105, c', fun _ => .null)) d (0 : Int32) h.1 (0 : Int32) (nI n) = some (hx_set (hx_push k c' (105, c', fun _ => .null)) h.1 (105, c', va_cpy e (fun _ => .null) 0 0 n)) := by
        unfold hcp
        simp only [c5, c6]
        rw [if_pos]
        · rw [show (0 : Int32).toNatClampNeg = 0 from rfl, pl_cl (by omega)]
        · have hn0 : ¬ nI n < 0 := nI_pos (by omega)
          have h00 : ¬ (0 : Int32) < 0 := by decide
          rw [show (0 : Int32).toNatClampNeg = 0 from rfl, pl_cl (by omega)]
          simp only [hn0, h00, decide_true, decide_false, Bool.not_false, Bool.true_and, Bool.and_eq_true, decide_eq_true_eq, List.all_eq_true, List.mem_range]
          refine ⟨by decide, by decide, by omega, by omega, hV, fun i hi => ?_⟩
          obtain ⟨b', hb1, hb4, hb5, hb6⟩ := hel i hi
          rw [Nat.zero_add, hb1]
          show hk _ b' hx_obs = true
          unfold hk at hb4 ⊢
          have hne : b' ≠ k.1 := by rw [k1.1]; exact Nat.ne_of_lt hb6
          rw [hu_ne k _ _ hne, kne b' hb5]
          exact hb4
      rw [hcp1, Option.bind_some, Option.bind_some]
      have c7 : (hx_set (hx_push k c' (105, c', fun _ => .null)) h.1 (105, c', va_cpy e (fun _ => .null) 0 0 n)).2.2 a = some (24, 3, F) := by
        rw [hs_ne _ _ (Ne.symm h8), hu_ne _ _ _ (by omega)]; exact c3
      rw [Option.bind_some, p_p c7 _ rfl rfl B1, Option.bind_some, Option.bind_some]
      refine fin2 c' (va_cpy e (fun _ => .null) 0 0 n) hc1.1 hc1.2.1 hc1.2.2 (fun i hi => ?_) (fun i _ => ?_)
      · rw [pk_cpy_in (by omega) (by omega), Nat.zero_add, Nat.sub_zero]
      · by_cases q : i < n
        · rw [pk_cpy_in (by omega) (by omega)]; exact hrf _ (by omega)
        · rw [pk_cpy_out (by omega)]; exact ⟨none, rfl⟩
  · rw [if_neg (fun q => hfull ((nI_eq (by omega) (by omega)).mp q))]
    have hd : V.2.1.size ≤ d ∧ 0 < cap := by
      rcases B2 with q | ⟨q, -⟩
      · exact q
      · omega
    obtain ⟨h', e1, A', q1, q2, q3⟩ := fin k d cap e F c3 F0 F1 F2 c4 (by omega) n2 hd.1 (Ne.symm ad) (by omega) (by omega) hbk
    refine ⟨h', d, cap, _, ?_, A', updV_rf hrf n b, fun i hi => updV_ne _ _ (by omega), updV_at _ _ _, fun q q4 q5 q6 => ?_, Or.inl ⟨rfl, rfl, by omega, by omega⟩, hd.2, hd.1⟩
    · rw [e1, Option.bind_some]
    · rw [q1 q q5 q6, kne q q5]
end ALs
section ALr
variable {V : hx_V} {h : hx_S} {a d cap n : Nat} {e : Nat → Value}
theorem AL.remove (A : AL V h a d cap n e) (hel : ∀ i, i < n → ∃ b : Nat, e i = .ref b ∧ hk h b hx_obs = true ∧ b ≠ a ∧ b < h.1) (hrf : ∀ i, i < cap → ∃ r, e i = va_rf r) {i : Nat} (hi : i < n) :
    ∃ (h' : hx_S) (e' : Nat → Value) (b : Nat), c_J2_remove V a (nI i) h = some (some b, h') ∧ e i = .ref b ∧ AL V h' a d cap (n - 1) e' ∧ (∀ i, i < cap → ∃ r, e' i = va_rf r) ∧ (∀ j, j < i → e' j = e j) ∧ (∀ j, i ≤ j → j < n - 1 → e' j = e (j + 1)) ∧ (∀ q, q ≠ a → q ≠ d → h'.2.2 q = h.2.2 q) ∧ h'.1 = h.1 ∧ h'.2.1 = h.2.1 := by
  have A' := A
  obtain ⟨f, mc, c1, f0, f1, f2, c2, n1, n2, B1, ad, B2, l1, l2⟩ := A
  obtain ⟨b, eb, -⟩ := hel i hi
  have hd : V.2.1.size ≤ d := by
    rcases B2 with q | ⟨q, -⟩
    · exact q.1
    · omega
  unfold c_J2_remove c_J2_fastRemove
  rw [p_gI c1 rfl (by decide) f2, Option.bind_some, c_ck hi (by omega), Option.bind_some, p_gR (x := some d) c1 rfl (by decide) f1, Option.bind_some, Option.bind_some, p_gQ (x := some b) c2 (by decide) (by decide) (show i < cap by omega) (by omega) eb, Option.bind_some, A'.k, if_pos rfl, p_gI c1 rfl (by decide) f0, Option.bind_some, p_p c1 _ rfl rfl B1, Option.bind_some]
  have c3 := hs_at h a (24, 3, updV f 0 (.int (mc + 1)))
  generalize hh2 : hx_set h a (24, 3, updV f 0 (.int (mc + 1))) = k at c3
  have k1 : k.1 = h.1 ∧ k.2.1 = h.2.1 := by rw [← hh2]; exact ⟨rfl, rfl⟩
  have kne : ∀ q, q ≠ a → k.2.2 q = h.2.2 q := fun q hq => by rw [← hh2]; exact hs_ne h _ hq
  have F1 : updV f 0 (.int (mc + 1)) 1 = .ref d := by rw [updV_ne _ _ (by decide)]; exact f1
  have F2 : updV f 0 (.int (mc + 1)) 2 = .int (nI n) := by rw [updV_ne _ _ (by decide)]; exact f2
  have F0 : updV f 0 (.int (mc + 1)) 0 = .int (mc + 1) := updV_at _ _ _
  generalize updV f 0 (.int (mc + 1)) = F at c3 F0 F1 F2
  have c4 : k.2.2 d = some (105, cap, e) := (kne d (Ne.symm ad)).trans c2
  rw [p_gI c3 rfl (by decide) F2, Option.bind_some, show nI n - (1 : Int32) = nI (n - 1) from pk_sub (b := 1) (by omega)]
  -- the end
  have fin : ∀ (k3 : hx_S) (u : Nat → Value), k3.2.2 a = some (24, 3, F) → k3.2.2 d = some (105, cap, u) → k3.1 = k.1 → k3.2.1 = k.2.1 → (∀ q, q ≠ d → k3.2.2 q = k.2.2 q) → (∀ i, i < cap → ∃ r, u i = va_rf r) → ∃ h', c_J2_fastRemove_b34 V a (some d) (nI (n - 1)) k3 = some h' ∧ AL V h' a d cap (n - 1) (updV u (n - 1) .null) ∧ (∀ q, q ≠ a → q ≠ d → h'.2.2 q = h.2.2 q) ∧ h'.1 = h.1 ∧ h'.2.1 = h.2.1 := by
    intro k3 u a1 a2 a3 a4 a5 a6
    unfold c_J2_fastRemove_b34
    rw [p_p a1 _ rfl rfl B1, Option.bind_some, Option.bind_some]
    have b1 : (hx_set k3 a (24, 3, updV F 2 (.int (nI (n - 1))))).2.2 d = some (105, cap, u) := (hs_ne k3 _ (Ne.symm ad)).trans a2
    rw [p_pQ b1 (show n - 1 < cap by omega) (by omega) hd (fun b' hb' => by cases hb'), Option.bind_some]
    refine ⟨_, rfl, ⟨_, mc + 1, (hs_ne _ _ ad).trans (hs_at _ _ _), ?_, ?_, ?_, hs_at _ _ _, by omega, n2, B1, ad, B2, ?_, ?_⟩, fun q q1 q2 => ?_, ?_, ?_⟩
    · rw [updV_ne _ _ (by decide)]; exact F0
    · rw [updV_ne _ _ (by decide)]; exact F1
    · rw [updV_at]
    · show a < k3.1; rw [a3, k1.1]; exact l1
    · show d < k3.1; rw [a3, k1.1]; exact l2
    · rw [hs_ne _ _ q2, hs_ne _ _ q1, a5 q q2, kne q q1]
    · show k3.1 = h.1; rw [a3, k1.1]
    · show k3.2.1 = h.2.1; rw [a4, k1.2]
  have unull : ∀ u : Nat → Value, (∀ i, i < cap → ∃ r, u i = va_rf r) → ∀ i, i < cap → ∃ r, updV u (n - 1) .null i = va_rf r := by
    intro u hu i hic
    by_cases q : i = n - 1
    · subst q; exact ⟨none, updV_at _ _ _⟩
    · rw [updV_ne _ _ q]; exact hu i hic
  by_cases hl : n - 1 ≤ i
  · rw [if_pos (nI_le hl (by omega))]
    obtain ⟨h', e1, A1, q1, q2, q3⟩ := fin k e c3 c4 rfl rfl (fun _ _ => rfl) hrf
    refine ⟨h', _, b, ?_, eb, A1, unull _ hrf, fun j hj => updV_ne _ _ (by omega), fun j hj1 hj2 => by omega, q1, q2, q3⟩
    rw [e1]; rfl
  · rw [if_neg (nI_ge (by omega) (by omega)), Option.bind_some, nI_1, pk_sub (by omega)]
    have hcp1 : hcp V k d (nI (i + 1)) d (nI i) (nI (n - 1 - i)) = some (hx_set k d (105, cap, va_cpy e e (i + 1) i (n - 1 - i))) := by
      unfold hcp
      simp only [c4]
      rw [if_pos]
      · rw [pl_cl (by omega), pl_cl (by omega), pl_cl (by omega)]
      · have z1 : ¬ nI (n - 1 - i) < 0 := nI_pos (by omega)
        have z2 : ¬ nI (i + 1) < 0 := nI_pos (by omega)
        have z3 : ¬ nI i < 0 := nI_pos (by omega)
        rw [pl_cl (by omega), pl_cl (by omega), pl_cl (by omega)]
        simp only [z1, z2, z3, decide_true, decide_false, Bool.not_false, Bool.true_and, Bool.and_eq_true, decide_eq_true_eq, List.all_eq_true, List.mem_range]
        refine ⟨by decide, by decide, by omega, by omega, hd, fun j hj => ?_⟩
        obtain ⟨b', hb1, hb4, hb5, hb6⟩ := hel (i + 1 + j) (by omega)
        rw [hb1]
        show hk _ b' hx_obs = true
        unfold hk at hb4 ⊢
        rw [kne b' hb5]
        exact hb4
    rw [hcp1, Option.bind_some]
    have hcr : ∀ j, j < cap → ∃ r, va_cpy e e (i + 1) i (n - 1 - i) j = va_rf r := by
      intro j hj
      by_cases q : i ≤ j ∧ j < i + (n - 1 - i)
      · rw [pk_cpy_in q.1 q.2]; exact hrf _ (by omega)
      · rw [pk_cpy_out (by omega)]; exact hrf _ hj
    obtain ⟨h', e1, A1, q1, q2, q3⟩ := fin (hx_set k d (105, cap, va_cpy e e (i + 1) i (n - 1 - i))) _ ((hs_ne _ _ ad).trans c3) (hs_at _ _ _) rfl rfl (fun q hq => hs_ne _ _ hq) hcr
    refine ⟨h', _, b, ?_, eb, A1, unull _ hcr, fun j hj => ?_, fun j hj1 hj2 => ?_, q1, q2, q3⟩
    · rw [e1]; rfl
    · rw [updV_ne _ _ (by omega), pk_cpy_out (by omega)]
    · rw [updV_ne _ _ (by omega), pk_cpy_in (by omega) (by omega), show i + 1 + (j - i) = j + 1 by omega]
end ALr
