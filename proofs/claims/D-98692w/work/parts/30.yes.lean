/-! PURE SIDE, logic: a function that answers; loops; two loops side by side -/
set_option maxRecDepth 100000
def yes {α : Type} (o : Option α) (P : α → Prop) : Prop := ∃ a, o = some a ∧ P a
theorem yes.bind {α β : Type} {o : Option α} {f : α → Option β} {P : α → Prop} {Q : β → Prop} (h : yes o P) (k : ∀ a, P a → yes (f a) Q) : yes (o.bind f) Q := by
  obtain ⟨a, rfl, ha⟩ := h
  exact k a ha
theorem yes.imp {α : Type} {o : Option α} {P Q : α → Prop} (h : yes o P) (k : ∀ a, P a → Q a) : yes o Q := by
  obtain ⟨a, e, ha⟩ := h
  exact ⟨a, e, k a ha⟩
theorem yes.ret {α : Type} {a : α} {P : α → Prop} (h : P a) : yes (some a) P := ⟨a, rfl, h⟩
theorem yes.eq {α : Type} {o : Option α} {a : α} {P : α → Prop} (e : o = some a) (h : P a) : yes o P := ⟨a, e, h⟩
def yes_st {σ τ : Type} (I : σ → Prop) (Q : τ → Prop) (t : σ ⊕ τ) : Prop := match t with
  | .inl s => I s
  | .inr r => Q r
theorem yes.wh0 {σ τ : Type} {step : σ → Option (σ ⊕ τ)} {I : Nat → σ → Prop} {Q : τ → Prop} (hs : ∀ n s, I n s → yes (step s) (yes_st (fun s' => ∃ m, m < n ∧ I m s') Q)) : ∀ (F n : Nat) (s : σ), I n s → n < F → yes (hx_wh step F s) Q := by
  intro F
  induction F with
  | zero => intro n s _ h; omega
  | succ F ih =>
    intro n s hI hn
    obtain ⟨t, e, ht⟩ := hs n s hI
    unfold hx_wh
    rw [e]
    cases t with
    | inl s' =>
      obtain ⟨m, hm, hI'⟩ := ht
      exact ih m s' hI' (by omega)
    | inr r => exact ⟨r, rfl, ht⟩
/-- a loop: n bounds the turns to come -/
theorem yes.wh {σ τ : Type} {step : σ → Option (σ ⊕ τ)} {I : Nat → σ → Prop} {Q : τ → Prop} {s : σ} {n : Nat} (hI : I n s) (hn : n < 1000000) (hs : ∀ n s, I n s → yes (step s) (yes_st (fun s' => ∃ m, m < n ∧ I m s') Q)) : yes (hx_wh step hx_FU s) Q :=
  yes.wh0 hs hx_FU n s hI (by have := hx_FU_ge; omega)
/-- both answer, and the answers are related -/
def yes2 {α β : Type} (o : Option α) (u : Option β) (P : α → β → Prop) : Prop := ∃ a b, o = some a ∧ u = some b ∧ P a b
theorem yes2.bind {α β α' β' : Type} {o : Option α} {u : Option β} {f : α → Option α'} {g : β → Option β'} {P : α → β → Prop} {Q : α' → β' → Prop} (h : yes2 o u P) (k : ∀ a b, P a b → yes2 (f a) (g b) Q) : yes2 (o.bind f) (u.bind g) Q := by
  obtain ⟨a, b, rfl, rfl, hab⟩ := h
  exact k a b hab
theorem yes2.ret {α β : Type} {a : α} {b : β} {P : α → β → Prop} (h : P a b) : yes2 (some a) (some b) P := ⟨a, b, rfl, rfl, h⟩
theorem yes2.imp {α β : Type} {o : Option α} {u : Option β} {P Q : α → β → Prop} (h : yes2 o u P) (k : ∀ a b, P a b → Q a b) : yes2 o u Q := by
  obtain ⟨a, b, e, e', hab⟩ := h
  exact ⟨a, b, e, e', k a b hab⟩
def yes2_st {σ τ σ' τ' : Type} (I : σ → σ' → Prop) (Q : τ → τ' → Prop) (t : σ ⊕ τ) (u : σ' ⊕ τ') : Prop := match t, u with
  | .inl s, .inl s' => I s s'
  | .inr r, .inr r' => Q r r'
  | _, _ => False
theorem yes2.wh0 {σ τ σ' τ' : Type} {stepA : σ → Option (σ ⊕ τ)} {stepB : σ' → Option (σ' ⊕ τ')} {I : Nat → σ → σ' → Prop} {Q : τ → τ' → Prop} (hs : ∀ n s s', I n s s' → yes2 (stepA s) (stepB s') (yes2_st (fun t t' => ∃ m, m < n ∧ I m t t') Q)) : ∀ (F F' n : Nat) (s : σ) (s' : σ'), I n s s' → n < F → n < F' → yes2 (hx_wh stepA F s) (hx_wh stepB F' s') Q := by
  intro F
  induction F with
  | zero => intro F' n s s' _ h; omega
  | succ F ih =>
    intro F' n s s' hI hn hn'
    obtain ⟨F', rfl⟩ : ∃ m, F' = m + 1 := ⟨F' - 1, by omega⟩
    obtain ⟨t, t', e, e', ht⟩ := hs n s s' hI
    unfold hx_wh
    rw [e, e']
    cases t with
    | inl s1 =>
      cases t' with
      | inl s1' =>
        obtain ⟨m, hm, hI'⟩ := ht
        exact ih F' m s1 s1' hI' (by omega) (by omega)
      | inr r => exact ht.elim
    | inr r =>
      cases t' with
      | inl s1' => exact ht.elim
      | inr r' => exact ⟨r, r', rfl, rfl, ht⟩
theorem yes2.wh {σ τ σ' τ' : Type} {stepA : σ → Option (σ ⊕ τ)} {stepB : σ' → Option (σ' ⊕ τ')} {I : Nat → σ → σ' → Prop} {Q : τ → τ' → Prop} {s : σ} {s' : σ'} {n : Nat} (hI : I n s s') (hn : n < 1000000) (hs : ∀ n s s', I n s s' → yes2 (stepA s) (stepB s') (yes2_st (fun t t' => ∃ m, m < n ∧ I m t t') Q)) : yes2 (hx_wh stepA hx_FU s) (hx_wh stepB hx_FU s') Q :=
  yes2.wh0 hs hx_FU hx_FU n s s' hI (by have := hx_FU_ge; omega) (by have := hx_FU_ge; omega)
theorem yes2.of {α β : Type} {o : Option α} {u : Option β} {P : α → β → Prop} {a : α} {b : β} (e : o = some a) (e' : u = some b) (h : P a b) : yes2 o u P := ⟨a, b, e, e', h⟩
theorem yes.two {α β : Type} {o : Option α} {u : Option β} {P : α → Prop} {R : β → Prop} (h : yes o P) (k : yes u R) : yes2 o u (fun a b => P a ∧ R b) := by
  obtain ⟨a, e, ha⟩ := h
  obtain ⟨b, e', hb⟩ := k
  exact ⟨a, b, e, e', ha, hb⟩
/-! roles: cells of the heap that have a place in the system (live L, at ad, content cl, as far as it goes); g: cells that stay -/
def csim (c x : hx_C) : Prop := c.1 = x.1 ∧ c.2.1 = x.2.1 ∧ ∀ i, i < x.2.1 → c.2.2 i = x.2.2 i
theorem csim.refl (c : hx_C) : csim c c := ⟨rfl, rfl, fun _ _ => rfl⟩
theorem csim.trans {a b c : hx_C} (h : csim a b) (k : csim b c) : csim a c := ⟨h.1.trans k.1, h.2.1.trans k.2.1, fun i hi => (h.2.2 i (by rw [k.2.1]; exact hi)).trans (k.2.2 i hi)⟩
def RS (V : hx_V) (h : hx_S) (L : Nat → Nat → Prop) (ad : Nat → Nat → Nat) (cl : Nat → Nat → hx_C) (g : Nat → Option hx_C) : Prop :=
  (∀ k j, L k j → ∃ c, h.2.2 (ad k j) = some c ∧ csim c (cl k j)) ∧ (∀ k j, L k j → V.2.1.size ≤ ad k j ∧ ad k j < h.1) ∧
  (∀ k j k' j', L k j → L k' j' → ad k j = ad k' j' → k = k' ∧ j = j') ∧ (∀ q c, g q = some c → h.2.2 q = some c ∧ q < h.1 ∧ ∀ k j, L k j → ad k j ≠ q)
section RSs
variable {V : hx_V} {h : hx_S} {L : Nat → Nat → Prop} {ad : Nat → Nat → Nat} {cl : Nat → Nat → hx_C} {g : Nat → Option hx_C}
theorem RS.set (C : RS V h L ad cl g) {k j : Nat} (hl : L k j) (c : hx_C) {cl' : Nat → Nat → hx_C} (h1 : csim c (cl' k j)) (h2 : ∀ k' j', L k' j' → ¬ (k' = k ∧ j' = j) → csim (cl k' j') (cl' k' j')) : RS V (hx_set h (ad k j) c) L ad cl' g := by
  obtain ⟨c1, c2, c3, c4⟩ := C
  refine ⟨fun k' j' hl' => ?_, c2, c3, fun q x hq => ?_⟩
  · show ∃ c', (if ad k' j' = ad k j then some c else h.2.2 (ad k' j')) = _ ∧ _
    by_cases e : k' = k ∧ j' = j
    · obtain ⟨rfl, rfl⟩ := e
      rw [if_pos rfl]
      exact ⟨c, rfl, h1⟩
    · rw [if_neg (fun x => e (c3 _ _ _ _ hl' hl x))]
      obtain ⟨c', e1, e2⟩ := c1 _ _ hl'
      exact ⟨c', e1, e2.trans (h2 _ _ hl' e)⟩
  · obtain ⟨d1, d2, d3⟩ := c4 q x hq
    refine ⟨?_, d2, d3⟩
    show (if q = ad k j then some c else h.2.2 q) = _
    rw [if_neg (fun x => d3 k j hl x.symm), d1]
theorem RS.push (C : RS V h L ad cl g) (n : Nat) (c : hx_C) : RS V (hx_push h n c) L ad cl (fun q => if q = h.1 then some c else g q) := by
  obtain ⟨c1, c2, c3, c4⟩ := C
  refine ⟨fun k' j' hl' => ?_, fun k j hl => ?_, c3, fun q x hq => ?_⟩
  · show ∃ c', (if ad k' j' = h.1 then some c else h.2.2 (ad k' j')) = _ ∧ _
    rw [if_neg (by have := c2 _ _ hl'; omega)]
    exact c1 _ _ hl'
  · have := c2 _ _ hl
    exact ⟨this.1, by show _ < h.1 + 1; omega⟩
  · replace hq : (if q = h.1 then some c else g q) = some x := hq
    show (if q = h.1 then some c else h.2.2 q) = _ ∧ q < h.1 + 1 ∧ _
    by_cases e : q = h.1
    · rw [if_pos e] at hq ⊢
      exact ⟨hq, by omega, fun k j hl => by have := c2 _ _ hl; omega⟩
    · rw [if_neg e] at hq ⊢
      obtain ⟨d1, d2, d3⟩ := c4 q x hq
      exact ⟨d1, by omega, d3⟩
theorem RS.less (C : RS V h L ad cl g) {g' : Nat → Option hx_C} (hg : ∀ q c, g' q = some c → g q = some c) : RS V h L ad cl g' :=
  ⟨C.1, C.2.1, C.2.2.1, fun q c hq => C.2.2.2 q c (hg q c hq)⟩
theorem RS.cells (C : RS V h L ad cl g) {L' : Nat → Nat → Prop} {cl' : Nat → Nat → hx_C} (hL : ∀ k j, L' k j → L k j) (hc : ∀ k j, L' k j → csim (cl k j) (cl' k j)) : RS V h L' ad cl' g :=
  ⟨fun k j hl => by obtain ⟨c, e1, e2⟩ := C.1 k j (hL k j hl); exact ⟨c, e1, e2.trans (hc k j hl)⟩, fun k j hl => C.2.1 k j (hL k j hl), fun k j k' j' hl hl' => C.2.2.1 k j k' j' (hL k j hl) (hL k' j' hl'), fun q c hq => ⟨(C.2.2.2 q c hq).1, (C.2.2.2 q c hq).2.1, fun k j hl => (C.2.2.2 q c hq).2.2 k j (hL k j hl)⟩⟩
end RSs
