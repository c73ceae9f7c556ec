/-! THE REFERENCE AS ONE RECORD: whole numbers, longs, arrays of whole numbers, arrays of longs, by their numbers; laid over any heap -/
set_option maxRecDepth 100000
abbrev mx_S : Type := (Nat → Int32) × (Nat → Int64) × (Nat → Nat → Int32) × (Nat → Nat → Int64)
/-- a field: 0 a whole number, 1 a long, j + 2 the array j -/
def mx_kd : Nat → Nat := fun k => match k with
  | 0 => 2
  | 1 => 0
  | 2 => 0
  | 3 => 0
  | 4 => 0
  | 5 => 0
  | 6 => 0
  | 7 => 1
  | 8 => 0
  | 9 => 0
  | 10 => 0
  | 11 => 0
  | 12 => 0
  | 13 => 0
  | 14 => 3
  | 15 => 4
  | 16 => 5
  | 17 => 6
  | 18 => 7
  | 19 => 8
  | 20 => 9
  | 21 => 10
  | 22 => 11
  | 23 => 12
  | 24 => 13
  | 25 => 14
  | 26 => 15
  | 27 => 16
  | 28 => 17
  | 29 => 18
  | 30 => 19
  | 31 => 0
  | 32 => 0
  | 33 => 0
  | 34 => 20
  | 35 => 21
  | 36 => 22
  | 37 => 23
  | 38 => 24
  | 39 => 0
  | 40 => 0
  | 41 => 25
  | 42 => 0
  | 43 => 0
  | 44 => 26
  | 45 => 27
  | 46 => 28
  | 47 => 29
  | 48 => 30
  | 49 => 31
  | 50 => 32
  | 51 => 33
  | 52 => 34
  | 53 => 35
  | 54 => 36
  | 55 => 37
  | 56 => 0
  | 57 => 0
  | 58 => 1
  | 59 => 38
  | 60 => 39
  | 61 => 40
  | 62 => 41
  | 63 => 42
  | 64 => 43
  | 65 => 0
  | 66 => 44
  | 67 => 45
  | 68 => 46
  | 69 => 47
  | 70 => 48
  | 71 => 49
  | 72 => 50
  | 73 => 51
  | 74 => 52
  | 75 => 53
  | 76 => 0
  | _ => 0
def mx_tag : Nat → Nat := fun j => match j with
  | 16 => 104
  | 17 => 104
  | 20 => 103
  | 36 => 104
  | _ => 100
def mx_len : Nat → Nat := fun j => match j with
  | 0 => 1800
  | 1 => 2
  | 2 => 12
  | 3 => 12
  | 4 => 12
  | 5 => 36
  | 6 => 2
  | 7 => 48
  | 8 => 16
  | 9 => 16
  | 10 => 16
  | 11 => 10
  | 12 => 4
  | 13 => 4
  | 14 => 3200
  | 15 => 3200
  | 16 => 12
  | 17 => 16
  | 18 => 20
  | 19 => 20
  | 20 => 20
  | 21 => 20
  | 22 => 20
  | 23 => 500
  | 24 => 3
  | 25 => 6
  | 26 => 22
  | 27 => 22
  | 28 => 528
  | 29 => 176
  | 30 => 176
  | 31 => 396
  | 32 => 1056
  | 33 => 1056
  | 34 => 22
  | 35 => 6600
  | 36 => 500
  | 37 => 12
  | 38 => 6
  | 39 => 6
  | 40 => 1792
  | 41 => 48
  | 42 => 16
  | 43 => 16
  | 44 => 3
  | 45 => 6
  | 46 => 6
  | 47 => 6
  | 48 => 6
  | 49 => 448
  | 50 => 64
  | 51 => 180
  | _ => 0
def mx_obj (o : Nat) (ms : mx_S) (k : Nat) : Value := match mx_kd k with
  | 0 => .int (ms.1 k)
  | 1 => .long (ms.2.1 k)
  | j + 2 => .ref (o + 1 + j)
def mx_con (ms : mx_S) (j : Nat) : Nat → Value := fun i => if mx_tag j = 104 then .long (ms.2.2.2 j i) else .int (ms.2.2.1 j i)
def mx_arr (ms : mx_S) (j : Nat) : hx_C := (mx_tag j, mx_len j, mx_con ms j)
def mx_h (o : Nat) (ms : mx_S) (h : hx_S) : hx_S := (h.1, h.2.1, fun q => if q = o then some (4, 77, mx_obj o ms) else if o < q ∧ q < o + 53 then some (mx_arr ms (q - o - 1)) else h.2.2 q)
def mx_F (ms : mx_S) (k : Nat) (v : Int32) : mx_S := (fun j => if j = k then v else ms.1 j, ms.2)
def mx_L (ms : mx_S) (k : Nat) (v : Int64) : mx_S := (ms.1, fun j => if j = k then v else ms.2.1 j, ms.2.2)
def mx_A (ms : mx_S) (j i : Nat) (v : Int32) : mx_S := (ms.1, ms.2.1, fun a b => if a = j ∧ b = i then v else ms.2.2.1 a b, ms.2.2.2)
def mx_B (ms : mx_S) (j i : Nat) (v : Int64) : mx_S := (ms.1, ms.2.1, ms.2.2.1, fun a b => if a = j ∧ b = i then v else ms.2.2.2 a b)
theorem mx_at_o (o : Nat) (ms : mx_S) (h : hx_S) : (mx_h o ms h).2.2 o = some (4, 77, mx_obj o ms) := by simp [mx_h]
theorem mx_at_a (o : Nat) (ms : mx_S) (h : hx_S) {j : Nat} (hj : j < 52) : (mx_h o ms h).2.2 (o + 1 + j) = some (mx_tag j, mx_len j, mx_con ms j) := by
  simp only [mx_h]
  rw [if_neg (by omega), if_pos (by omega), show o + 1 + j - o - 1 = j by omega]
  rfl
theorem mx_setF (o : Nat) (ms : mx_S) (h : hx_S) {k : Nat} (v : Int32) (hk : mx_kd k = 0) : hx_set (mx_h o ms h) o (hx_putv (4, 77, mx_obj o ms) k (.int v)) = mx_h o (mx_F ms k v) h := by
  simp only [hx_set, mx_h, hx_putv]
  refine congrArg (fun f => (h.1, h.2.1, f)) (funext fun q => ?_)
  by_cases hq : q = o
  · rw [if_pos hq, if_pos hq]
    refine congrArg (fun f => some (4, 77, f)) (funext fun j => ?_)
    by_cases e : j = k
    · subst e
      simp [updV, mx_obj, mx_F, hk]
    · simp only [updV, mx_obj, mx_F, if_neg e]
  · rw [if_neg hq, if_neg hq, if_neg hq]
    rfl
theorem mx_setL (o : Nat) (ms : mx_S) (h : hx_S) {k : Nat} (v : Int64) (hk : mx_kd k = 1) : hx_set (mx_h o ms h) o (hx_putv (4, 77, mx_obj o ms) k (.long v)) = mx_h o (mx_L ms k v) h := by
  simp only [hx_set, mx_h, hx_putv]
  refine congrArg (fun f => (h.1, h.2.1, f)) (funext fun q => ?_)
  by_cases hq : q = o
  · rw [if_pos hq, if_pos hq]
    refine congrArg (fun f => some (4, 77, f)) (funext fun j => ?_)
    by_cases e : j = k
    · subst e
      simp [updV, mx_obj, mx_L, hk]
    · simp only [updV, mx_obj, mx_L, if_neg e]
  · rw [if_neg hq, if_neg hq, if_neg hq]
    rfl
theorem mx_setA (o : Nat) (ms : mx_S) (h : hx_S) {j i : Nat} (v : Int32) (hj : j < 52) (ht : ¬ mx_tag j = 104) : hx_set (mx_h o ms h) (o + 1 + j) (hx_putv (mx_tag j, mx_len j, mx_con ms j) i (.int v)) = mx_h o (mx_A ms j i v) h := by
  simp only [hx_set, mx_h, hx_putv]
  refine congrArg (fun f => (h.1, h.2.1, f)) (funext fun q => ?_)
  by_cases hq : q = o + 1 + j
  · subst hq
    rw [if_pos rfl, if_neg (by omega), if_pos (by omega), show o + 1 + j - o - 1 = j by omega]
    refine congrArg (fun f => some (mx_tag j, mx_len j, f)) (funext fun b => ?_)
    by_cases e : b = i
    · subst e
      simp [updV, mx_con, mx_A, ht]
    · simp [updV, mx_con, mx_A, e]
  · rw [if_neg hq]
    by_cases e : q = o
    · rw [if_pos e, if_pos e]
      rfl
    · rw [if_neg e, if_neg e]
      by_cases g : o < q ∧ q < o + 53
      · rw [if_pos g, if_pos g]
        have e2 : ¬ q - o - 1 = j := by omega
        have e3 : mx_con ms (q - o - 1) = mx_con (mx_A ms j i v) (q - o - 1) := funext fun b => by simp [mx_con, mx_A, e2]
        simp only [mx_arr, e3]
      · rw [if_neg g, if_neg g]
theorem mx_setB (o : Nat) (ms : mx_S) (h : hx_S) {j i : Nat} (v : Int64) (hj : j < 52) (ht : mx_tag j = 104) : hx_set (mx_h o ms h) (o + 1 + j) (hx_putv (mx_tag j, mx_len j, mx_con ms j) i (.long v)) = mx_h o (mx_B ms j i v) h := by
  simp only [hx_set, mx_h, hx_putv]
  refine congrArg (fun f => (h.1, h.2.1, f)) (funext fun q => ?_)
  by_cases hq : q = o + 1 + j
  · subst hq
    rw [if_pos rfl, if_neg (by omega), if_pos (by omega), show o + 1 + j - o - 1 = j by omega]
    refine congrArg (fun f => some (mx_tag j, mx_len j, f)) (funext fun b => ?_)
    by_cases e : b = i
    · subst e
      simp [updV, mx_con, mx_B, ht]
    · simp [updV, mx_con, mx_B, e]
  · rw [if_neg hq]
    by_cases e : q = o
    · rw [if_pos e, if_pos e]
      rfl
    · rw [if_neg e, if_neg e]
      by_cases g : o < q ∧ q < o + 53
      · rw [if_pos g, if_pos g]
        have e2 : ¬ q - o - 1 = j := by omega
        have e3 : mx_con ms (q - o - 1) = mx_con (mx_B ms j i v) (q - o - 1) := funext fun b => by simp [mx_con, mx_B, e2]
        simp only [mx_arr, e3]
      · rw [if_neg g, if_neg g]
/-- 0 or 1 -/
def hx_bit (x : Int32) : Bool := decide (x = 0 ∨ x = 1)
theorem hx_bit_n {x : Int32} (h : hx_bit x = true) : narrow .boolean (.int x) = .int x ∧ fits .boolean (.int x) = true := by
  rcases of_decide_eq_true h with rfl | rfl <;> exact ⟨by decide, by decide⟩
/-- a loop: as often as n times; s goes on, t is its end -/
def hx_wh {σ τ : Type} (step : σ → Option (σ ⊕ τ)) : Nat → σ → Option τ
  | 0, _ => none
  | n + 1, s => match step s with
    | none => none
    | some (.inl s') => hx_wh step n s'
    | some (.inr t) => some t
def hx_or {σ τ : Type} (P : σ → Prop) (Q : τ → Prop) : σ ⊕ τ → Prop := fun t => match t with
  | .inl a => P a
  | .inr b => Q b
theorem hx_wh_ok {σ τ : Type} {step : σ → Option (σ ⊕ τ)} {P : σ → Prop} {Q : τ → Prop} (hs : ∀ s t, step s = some t → hx_or P Q t → P s) : ∀ (n : Nat) (s : σ) (t : τ), hx_wh step n s = some t → Q t → P s := by
  intro n
  induction n with
  | zero =>
    intro s t h
    cases h
  | succ n ih =>
    intro s t h hq
    unfold hx_wh at h
    cases e : step s with
    | none => rw [e] at h; cases h
    | some x =>
      rw [e] at h
      cases x with
      | inl s' => exact hs s _ e (ih s' t h hq)
      | inr t' =>
        cases h
        exact hs s _ e hq
/-- how often a loop may go: more than any does -/
noncomputable def hx_FU : Nat := Classical.choose (p := fun n : Nat => 1000000 ≤ n) ⟨1000000, Nat.le_refl _⟩
theorem hx_FU_ge : 1000000 ≤ hx_FU := Classical.choose_spec (p := fun n : Nat => 1000000 ≤ n) ⟨1000000, Nat.le_refl _⟩
theorem hx_if {α : Type} {c : Prop} [Decidable c] {x : Option α} {t : α} (h : (if c then x else none) = some t) : c ∧ x = some t := by
  by_cases e : c
  · rw [if_pos e] at h; exact ⟨e, h⟩
  · rw [if_neg e] at h; cases h
theorem hx_ifn {α : Type} {c : Prop} [Decidable c] {x : Option α} {t : α} (h : (if c then none else x) = some t) : ¬ c ∧ x = some t := by
  by_cases e : c
  · rw [if_pos e] at h; cases h
  · rw [if_neg e] at h; exact ⟨e, h⟩
theorem hx_bi {α β : Type} {x : Option α} {f : α → Option β} {t : β} (h : x.bind f = some t) : ∃ a, x = some a ∧ f a = some t := by
  cases x with
  | none => cases h
  | some a => exact ⟨a, rfl, h⟩
theorem hx_mp {α β : Type} {x : Option α} {f : α → β} {t : β} (h : x.map f = some t) : ∃ a, x = some a ∧ f a = t := by
  cases x with
  | none => cases h
  | some a => exact ⟨a, rfl, Option.some.inj h⟩
section MX
variable {V : hx_V} {d : Nat} {y : MethodName} {cc : ByteArray} {nL : Nat} {rt : Option FieldType} {pc : Nat} {ls : List (Nat × Value)} {st : List Value} {h : hx_S} {r : Outcome × hx_S} {o : Nat} {ms : mx_S}
theorem mx_getf {index k : Nat} {v : Value} (hd : decode cc pc = .ok (.getfield index, 3)) (hk : k < 77) (q1 : Cond.fieldLink y.cls index RX4 (TX4 k).2.1 (TX4 k).2.2.1 ∈ lw_all) (hR : RX4 = (TX4 k).1) (hv : mx_obj o ms k = v)
    (kk : hx_X V d y cc nL rt (pc + 3) ls (v :: st) (mx_h o ms h) r) : hx_X V d y cc nL rt pc ls (.ref o :: st) (mx_h o ms h) r := by
  subst hv
  exact hx_getf (ref := RX4) hd (mx_at_o o ms h) hk (show hx_cls 4 = some (RX4, TX4, 77) from rfl) hk in_X4 (by decide) q1 (Or.inl hR) kk
theorem mx_putI {index k : Nat} {x : Int32} (hB : V.2.1.size ≤ o) (hd : decode cc pc = .ok (.putfield index, 3)) (hk : k < 77) (q1 : Cond.fieldLink y.cls index RX4 (TX4 k).2.1 (TX4 k).2.2.1 ∈ lw_all) (hR : RX4 = (TX4 k).1) (hkd : mx_kd k = 0) (hfin : (TX4 k).2.2.2 = false) (hn : narrow (tyX4 k) (.int x) = .int x) (hf : fits (tyX4 k) (.int x) = true)
    (kk : hx_X V d y cc nL rt (pc + 3) ls st (mx_h o (mx_F ms k x) h) r) : hx_X V d y cc nL rt pc ls (.int x :: .ref o :: st) (mx_h o ms h) r := by
  refine hx_putf (ref := RX4) hd (mx_at_o o ms h) hB hk (show hx_cls 4 = some (RX4, TX4, 77) from rfl) rfl in_X4 tyX4_ok nmX4 (by decide) q1 (Or.inl hR) (Or.inl hfin) hn hf ?_
  rw [mx_setF o ms h x hkd]
  exact kk
theorem mx_putL {index k : Nat} {x : Int64} (hB : V.2.1.size ≤ o) (hd : decode cc pc = .ok (.putfield index, 3)) (hk : k < 77) (q1 : Cond.fieldLink y.cls index RX4 (TX4 k).2.1 (TX4 k).2.2.1 ∈ lw_all) (hR : RX4 = (TX4 k).1) (hkd : mx_kd k = 1) (hfin : (TX4 k).2.2.2 = false) (hn : narrow (tyX4 k) (.long x) = .long x) (hf : fits (tyX4 k) (.long x) = true)
    (kk : hx_X V d y cc nL rt (pc + 3) ls st (mx_h o (mx_L ms k x) h) r) : hx_X V d y cc nL rt pc ls (.long x :: .ref o :: st) (mx_h o ms h) r := by
  refine hx_putf (ref := RX4) hd (mx_at_o o ms h) hB hk (show hx_cls 4 = some (RX4, TX4, 77) from rfl) rfl in_X4 tyX4_ok nmX4 (by decide) q1 (Or.inl hR) (Or.inl hfin) hn hf ?_
  rw [mx_setL o ms h x hkd]
  exact kk
theorem mx_iald {j : Nat} {i : Int32} (hd : decode cc pc = .ok (.iaload, 1)) (hj : j < 52) (ht : mx_tag j = 100) (hi : hx_in i (mx_len j) = true)
    (kk : hx_X V d y cc nL rt (pc + 1) ls (.int (ms.2.2.1 j i.toNatClampNeg) :: st) (mx_h o ms h) r) : hx_X V d y cc nL rt pc ls (.int i :: .ref (o + 1 + j) :: st) (mx_h o ms h) r := by
  refine hx_iald hd (by rw [← ht]; exact mx_at_a o ms h hj) hi ?_
  simp only [mx_con, ht]
  exact kk
theorem mx_zald {j : Nat} {i : Int32} (hd : decode cc pc = .ok (.baload, 1)) (hj : j < 52) (ht : mx_tag j = 103) (hi : hx_in i (mx_len j) = true)
    (kk : hx_X V d y cc nL rt (pc + 1) ls (.int (ms.2.2.1 j i.toNatClampNeg) :: st) (mx_h o ms h) r) : hx_X V d y cc nL rt pc ls (.int i :: .ref (o + 1 + j) :: st) (mx_h o ms h) r := by
  refine hx_zald hd (by rw [← ht]; exact mx_at_a o ms h hj) hi ?_
  simp only [mx_con, ht]
  exact kk
theorem mx_lald {j : Nat} {i : Int32} (hd : decode cc pc = .ok (.laload, 1)) (hj : j < 52) (ht : mx_tag j = 104) (hi : hx_in i (mx_len j) = true)
    (kk : hx_X V d y cc nL rt (pc + 1) ls (.long (ms.2.2.2 j i.toNatClampNeg) :: st) (mx_h o ms h) r) : hx_X V d y cc nL rt pc ls (.int i :: .ref (o + 1 + j) :: st) (mx_h o ms h) r := by
  refine hx_lald hd (by rw [← ht]; exact mx_at_a o ms h hj) hi ?_
  simp only [mx_con, ht]
  exact kk
theorem mx_iast {j : Nat} {i x : Int32} (hB : V.2.1.size ≤ o) (hd : decode cc pc = .ok (.iastore, 1)) (hj : j < 52) (ht : mx_tag j = 100) (hi : hx_in i (mx_len j) = true)
    (kk : hx_X V d y cc nL rt (pc + 1) ls st (mx_h o (mx_A ms j i.toNatClampNeg x) h) r) : hx_X V d y cc nL rt pc ls (.int x :: .int i :: .ref (o + 1 + j) :: st) (mx_h o ms h) r := by
  refine hx_iast hd (by rw [← ht]; exact mx_at_a o ms h hj) (by omega) hi ?_
  rw [← ht, mx_setA o ms h x hj (by rw [ht]; decide)]
  exact kk
theorem mx_zast {j : Nat} {i x : Int32} (hB : V.2.1.size ≤ o) (hd : decode cc pc = .ok (.bastore, 1)) (hj : j < 52) (ht : mx_tag j = 103) (hi : hx_in i (mx_len j) = true) (hx : hx_bit x = true)
    (kk : hx_X V d y cc nL rt (pc + 1) ls st (mx_h o (mx_A ms j i.toNatClampNeg x) h) r) : hx_X V d y cc nL rt pc ls (.int x :: .int i :: .ref (o + 1 + j) :: st) (mx_h o ms h) r := by
  refine hx_zast hd (by rw [← ht]; exact mx_at_a o ms h hj) (by omega) hi ?_
  rw [(hx_bit_n hx).1, ← ht, mx_setA o ms h x hj (by rw [ht]; decide)]
  exact kk
theorem mx_last {j : Nat} {i : Int32} {x : Int64} (hB : V.2.1.size ≤ o) (hd : decode cc pc = .ok (.lastore, 1)) (hj : j < 52) (ht : mx_tag j = 104) (hi : hx_in i (mx_len j) = true)
    (kk : hx_X V d y cc nL rt (pc + 1) ls st (mx_h o (mx_B ms j i.toNatClampNeg x) h) r) : hx_X V d y cc nL rt pc ls (.long x :: .int i :: .ref (o + 1 + j) :: st) (mx_h o ms h) r := by
  refine hx_last hd (by rw [← ht]; exact mx_at_a o ms h hj) (by omega) hi ?_
  rw [← ht, mx_setB o ms h x hj ht]
  exact kk
theorem mx_call {d : Nat} {x : MethodName} {bx : ByteArray} {nx : Nat} {rx : Option FieldType} {v : Option Value} {index : Nat} {h1 : hx_S} (avs : List Value)
    (hd : decode cc pc = .ok (.invokevirtual index, 3)) (M : hx_M V d x bx nx rx (.ref o :: avs) (mx_h o ms h) (.returned v) h1)
    (q1 : Cond.methodLink y.cls index x ∈ lw_all) (q2 : Cond.instanceMethod x ∈ lw_all) (q3 : Cond.selects RX4 x x ∈ lw_all) (q4 : Cond.initialized x.cls ∈ lw_all) (q5 : Cond.code x bx nx rx ∈ lw_all)
    (hp : (x.cls ≠ "java/lang/invoke/MethodHandle" ∧ x.cls ≠ "java/lang/invoke/VarHandle") ∧ (parseMethodDescriptor x.desc).map (fun d => d.parameters.length) = some avs.length) (hn : nx ≤ 24)
    {st0 : List Value} (hst : st0 = avs.reverse ++ .ref o :: st) (hr : (st.map fun v => v.category).sum ≤ 8)
    (k : hx_X V (d + 1) y cc nL rt (pc + 3) ls (v.toList ++ st) h1 r) : hx_X V (d + 1) y cc nL rt pc ls st0 (mx_h o ms h) r :=
  hx_callV (ci := 4) avs hd M (mx_at_o o ms h) rfl (by decide) (show hx_cls 4 = some (RX4, TX4, 77) from rfl) q1 q2 q3 q4 q5 hp hn hst hr k
theorem mx_calli {d : Nat} {m0 : MethodName} {bx : ByteArray} {nx : Nat} {rx : Option FieldType} {x : Int32} {index : Nat} {h1 : hx_S} (avs : List Value)
    (hd : decode cc pc = .ok (.invokevirtual index, 3)) (M : hx_M V d m0 bx nx rx (.ref o :: avs) (mx_h o ms h) (.returned (some (.int x))) h1)
    (q1 : Cond.methodLink y.cls index m0 ∈ lw_all) (q2 : Cond.instanceMethod m0 ∈ lw_all) (q3 : Cond.selects RX4 m0 m0 ∈ lw_all) (q4 : Cond.initialized m0.cls ∈ lw_all) (q5 : Cond.code m0 bx nx rx ∈ lw_all)
    (hp : (m0.cls ≠ "java/lang/invoke/MethodHandle" ∧ m0.cls ≠ "java/lang/invoke/VarHandle") ∧ (parseMethodDescriptor m0.desc).map (fun d => d.parameters.length) = some avs.length) (hn : nx ≤ 24)
    {st0 : List Value} (hst : st0 = avs.reverse ++ .ref o :: st) (hr : (st.map fun v => v.category).sum ≤ 8)
    (k : hx_X V (d + 1) y cc nL rt (pc + 3) ls (.int x :: st) h1 r) : hx_X V (d + 1) y cc nL rt pc ls st0 (mx_h o ms h) r := mx_call avs hd M q1 q2 q3 q4 q5 hp hn hst hr k
theorem hx_callSi {d : Nat} {m0 : MethodName} {bx : ByteArray} {nx : Nat} {rx : Option FieldType} {x : Int32} {index : Nat} {h1 : hx_S} (avs : List Value)
    (hd : decode cc pc = .ok (.invokestatic index, 3)) (M : hx_M V d m0 bx nx rx avs h (.returned (some (.int x))) h1)
    (q1 : Cond.methodLink y.cls index m0 ∈ lw_all) (q2 : Cond.static m0 ∈ lw_all) (q4 : Cond.initialized m0.cls ∈ lw_all) (q5 : Cond.code m0 bx nx rx ∈ lw_all)
    (hp : (m0.cls ≠ "java/lang/invoke/MethodHandle" ∧ m0.cls ≠ "java/lang/invoke/VarHandle") ∧ (parseMethodDescriptor m0.desc).map (fun d => d.parameters.length) = some avs.length) (hn : nx ≤ 24)
    {st0 : List Value} (hst : st0 = avs.reverse ++ st) (hr : (st.map fun v => v.category).sum ≤ 8)
    (k : hx_X V (d + 1) y cc nL rt (pc + 3) ls (.int x :: st) h1 r) : hx_X V (d + 1) y cc nL rt pc ls st0 h r := hx_callS avs hd M q1 q2 q4 q5 hp hn hst hr k
theorem mx_calll {d : Nat} {m0 : MethodName} {bx : ByteArray} {nx : Nat} {rx : Option FieldType} {x : Int64} {index : Nat} {h1 : hx_S} (avs : List Value)
    (hd : decode cc pc = .ok (.invokevirtual index, 3)) (M : hx_M V d m0 bx nx rx (.ref o :: avs) (mx_h o ms h) (.returned (some (.long x))) h1)
    (q1 : Cond.methodLink y.cls index m0 ∈ lw_all) (q2 : Cond.instanceMethod m0 ∈ lw_all) (q3 : Cond.selects RX4 m0 m0 ∈ lw_all) (q4 : Cond.initialized m0.cls ∈ lw_all) (q5 : Cond.code m0 bx nx rx ∈ lw_all)
    (hp : (m0.cls ≠ "java/lang/invoke/MethodHandle" ∧ m0.cls ≠ "java/lang/invoke/VarHandle") ∧ (parseMethodDescriptor m0.desc).map (fun d => d.parameters.length) = some avs.length) (hn : nx ≤ 24)
    {st0 : List Value} (hst : st0 = avs.reverse ++ .ref o :: st) (hr : (st.map fun v => v.category).sum ≤ 8)
    (k : hx_X V (d + 1) y cc nL rt (pc + 3) ls (.long x :: st) h1 r) : hx_X V (d + 1) y cc nL rt pc ls st0 (mx_h o ms h) r := mx_call avs hd M q1 q2 q3 q4 q5 hp hn hst hr k
theorem hx_callSl {d : Nat} {m0 : MethodName} {bx : ByteArray} {nx : Nat} {rx : Option FieldType} {x : Int64} {index : Nat} {h1 : hx_S} (avs : List Value)
    (hd : decode cc pc = .ok (.invokestatic index, 3)) (M : hx_M V d m0 bx nx rx avs h (.returned (some (.long x))) h1)
    (q1 : Cond.methodLink y.cls index m0 ∈ lw_all) (q2 : Cond.static m0 ∈ lw_all) (q4 : Cond.initialized m0.cls ∈ lw_all) (q5 : Cond.code m0 bx nx rx ∈ lw_all)
    (hp : (m0.cls ≠ "java/lang/invoke/MethodHandle" ∧ m0.cls ≠ "java/lang/invoke/VarHandle") ∧ (parseMethodDescriptor m0.desc).map (fun d => d.parameters.length) = some avs.length) (hn : nx ≤ 24)
    {st0 : List Value} (hst : st0 = avs.reverse ++ st) (hr : (st.map fun v => v.category).sum ≤ 8)
    (k : hx_X V (d + 1) y cc nL rt (pc + 3) ls (.long x :: st) h1 r) : hx_X V (d + 1) y cc nL rt pc ls st0 h r := hx_callS avs hd M q1 q2 q4 q5 hp hn hst hr k
theorem mx_callv {d : Nat} {m0 : MethodName} {bx : ByteArray} {nx : Nat} {rx : Option FieldType} {index : Nat} {h1 : hx_S} (avs : List Value)
    (hd : decode cc pc = .ok (.invokevirtual index, 3)) (M : hx_M V d m0 bx nx rx (.ref o :: avs) (mx_h o ms h) (.returned (none)) h1)
    (q1 : Cond.methodLink y.cls index m0 ∈ lw_all) (q2 : Cond.instanceMethod m0 ∈ lw_all) (q3 : Cond.selects RX4 m0 m0 ∈ lw_all) (q4 : Cond.initialized m0.cls ∈ lw_all) (q5 : Cond.code m0 bx nx rx ∈ lw_all)
    (hp : (m0.cls ≠ "java/lang/invoke/MethodHandle" ∧ m0.cls ≠ "java/lang/invoke/VarHandle") ∧ (parseMethodDescriptor m0.desc).map (fun d => d.parameters.length) = some avs.length) (hn : nx ≤ 24)
    {st0 : List Value} (hst : st0 = avs.reverse ++ .ref o :: st) (hr : (st.map fun v => v.category).sum ≤ 8)
    (k : hx_X V (d + 1) y cc nL rt (pc + 3) ls (st) h1 r) : hx_X V (d + 1) y cc nL rt pc ls st0 (mx_h o ms h) r := mx_call avs hd M q1 q2 q3 q4 q5 hp hn hst hr k
theorem hx_callSv {d : Nat} {m0 : MethodName} {bx : ByteArray} {nx : Nat} {rx : Option FieldType} {index : Nat} {h1 : hx_S} (avs : List Value)
    (hd : decode cc pc = .ok (.invokestatic index, 3)) (M : hx_M V d m0 bx nx rx avs h (.returned (none)) h1)
    (q1 : Cond.methodLink y.cls index m0 ∈ lw_all) (q2 : Cond.static m0 ∈ lw_all) (q4 : Cond.initialized m0.cls ∈ lw_all) (q5 : Cond.code m0 bx nx rx ∈ lw_all)
    (hp : (m0.cls ≠ "java/lang/invoke/MethodHandle" ∧ m0.cls ≠ "java/lang/invoke/VarHandle") ∧ (parseMethodDescriptor m0.desc).map (fun d => d.parameters.length) = some avs.length) (hn : nx ≤ 24)
    {st0 : List Value} (hst : st0 = avs.reverse ++ st) (hr : (st.map fun v => v.category).sum ≤ 8)
    (k : hx_X V (d + 1) y cc nL rt (pc + 3) ls (st) h1 r) : hx_X V (d + 1) y cc nL rt pc ls st0 h r := hx_callS avs hd M q1 q2 q4 q5 hp hn hst hr k
end MX
