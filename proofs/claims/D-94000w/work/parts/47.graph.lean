/-! PLAIN LAW, 8: what can be reached, and cuts -/
theorem pairsOf_to : ∀ r, r < 6 → ∀ q ∈ pairsOf r, ∃ b, b < r + 1 ∧ ∃ a, a < b ∧ q = (2 ^ prI a b, 2 ^ a, 2 ^ b) := by decide +kernel
theorem all_range {n : Nat} {f : Nat → Bool} (h : (List.range n).all f = true) {i : Nat} (hi : i < n) : f i = true := List.all_eq_true.mp h i (List.mem_range.mpr hi)
theorem pairsOf_ofB : ((List.range 6).all fun r => (List.range (r + 1)).all fun b => (List.range b).all fun a => decide ((2 ^ prI a b, 2 ^ a, 2 ^ b) ∈ pairsOf r)) = true := by decide +kernel
theorem pairsOf_of (r : Nat) (hr : r < 6) (b : Nat) (hb : b < r + 1) (a : Nat) (ha : a < b) : (2 ^ prI a b, 2 ^ a, 2 ^ b) ∈ pairsOf r := of_decide_eq_true (all_range (all_range (all_range pairsOf_ofB hr) hb) ha)
theorem prI_injB : ((List.range 6).all fun b => (List.range b).all fun a => (List.range 6).all fun d => (List.range d).all fun c => decide (prI a b = prI c d → a = c ∧ b = d)) = true := by decide +kernel
theorem prI_inj {a b c d : Nat} (hb : b < 6) (ha : a < b) (hd : d < 6) (hc : c < d) (h : prI a b = prI c d) : a = c ∧ b = d := of_decide_eq_true (all_range (all_range (all_range (all_range prI_injB hb) ha) hd) hc) h
theorem two_inj {a b : Nat} (h : 2 ^ a = 2 ^ b) : a = b := by
  have h1 : (2 ^ a).testBit a = true := by rw [Nat.testBit_two_pow]; simp
  rw [h, Nat.testBit_two_pow] at h1
  exact (by simpa using h1 : b = a).symm
theorem land_bit (E i : Nat) : Nat.beq (Nat.land E (2 ^ i)) 0 = !E.testBit i := by
  have h : Nat.land E (2 ^ i) = if E.testBit i then 2 ^ i else 0 := by
    show E &&& 2 ^ i = _
    apply Nat.eq_of_testBit_eq
    intro j
    rw [Nat.testBit_and, Nat.testBit_two_pow]
    by_cases hj : i = j
    · subst hj
      cases hb : E.testBit i <;> simp
    · cases hb : E.testBit i <;> simp [hj, Nat.testBit_two_pow]
  rw [h]
  have hp := Nat.two_pow_pos i
  cases E.testBit i with
  | false => rfl
  | true =>
    rw [if_pos rfl]
    cases hq : Nat.beq (2 ^ i) 0 with
    | false => rfl
    | true => have := Nat.eq_of_beq_eq_true hq; omega
theorem edgesOf_mem (E : Nat) (q : Nat × Nat × Nat) : ∀ ps : List (Nat × Nat × Nat), q ∈ edgesOf E ps ↔ q ∈ ps ∧ Nat.beq (Nat.land E q.1) 0 = false := by
  intro ps
  induction ps with
  | nil => simp [edgesOf]
  | cons x ps ih =>
    obtain ⟨i, a, b⟩ := x
    unfold edgesOf
    cases h : Nat.beq (Nat.land E i) 0 with
    | true =>
      rw [cond_true, ih, List.mem_cons]
      constructor
      · rintro ⟨h1, h2⟩; exact ⟨Or.inr h1, h2⟩
      · rintro ⟨rfl | h1, h2⟩
        · rw [h] at h2; cases h2
        · exact ⟨h1, h2⟩
    | false =>
      rw [cond_false, List.mem_cons, List.mem_cons, ih]
      constructor
      · rintro (rfl | ⟨h1, h2⟩)
        · exact ⟨Or.inl rfl, h⟩
        · exact ⟨Or.inr h1, h2⟩
      · rintro ⟨rfl | h1, h2⟩
        · exact Or.inl rfl
        · exact Or.inr ⟨h1, h2⟩
theorem frc_eq (s : Nat) (k : Nat → Nat) : frc s k = k s := by cases s <;> rfl
theorem frcB_eq (s : Nat) (k : Nat → Bool) : frcB s k = k s := by cases s <;> rfl
theorem stepM_bit (a b s v : Nat) : (stepM (2 ^ a) (2 ^ b) s).testBit v = (s.testBit v || (s.testBit a && decide (b = v)) || (s.testBit b && decide (a = v))) := by
  unfold stepM
  rw [land_bit, land_bit]
  have ho : ∀ x y : Nat, Nat.lor x y = x ||| y := fun _ _ => rfl
  cases ha : s.testBit a with
  | true =>
    simp only [Bool.not_true, cond_false, Bool.true_and]
    rw [ho, Nat.testBit_or, Nat.testBit_two_pow]
    by_cases hv : a = v
    · subst hv; simp [ha]
    · simp [hv]
  | false =>
    cases hb : s.testBit b with
    | true =>
      simp only [Bool.not_true, Bool.not_false, cond_false, cond_true, Bool.false_and, Bool.or_false, Bool.true_and]
      rw [ho, Nat.testBit_or, Nat.testBit_two_pow]
    | false => simp
/-- the edges of a list, as pairs of spots -/
def EdgeIn (l : List (Nat × Nat × Nat)) (a b : Nat) : Prop := ∃ i, (i, 2 ^ a, 2 ^ b) ∈ l
def PowL (l : List (Nat × Nat × Nat)) : Prop := ∀ q ∈ l, ∃ a b, q.2.1 = 2 ^ a ∧ q.2.2 = 2 ^ b
theorem growM_inc : ∀ (l : List (Nat × Nat × Nat)), PowL l → ∀ (s v : Nat), s.testBit v = true → (growM l s).testBit v = true := by
  intro l
  induction l with
  | nil => intro _ s v h; exact h
  | cons q l ih =>
    intro hp s v h
    obtain ⟨i, x, y⟩ := q
    obtain ⟨a, b, h1, h2⟩ := hp _ List.mem_cons_self
    dsimp only at h1 h2
    subst h1 h2
    unfold growM
    rw [frc_eq]
    exact ih (fun q hq => hp q (List.mem_cons_of_mem _ hq)) _ _ (by rw [stepM_bit, h]; rfl)
theorem growM_cut (χ : Nat → Bool) (k : Bool) : ∀ (l : List (Nat × Nat × Nat)), PowL l → (∀ a b, EdgeIn l a b → χ a = χ b) → ∀ s, (∀ v, s.testBit v = true → χ v = k) → ∀ v, (growM l s).testBit v = true → χ v = k := by
  intro l
  induction l with
  | nil => intro _ _ s h v hv; exact h v hv
  | cons q l ih =>
    intro hp hc s h v hv
    obtain ⟨i, x, y⟩ := q
    obtain ⟨a, b, h1, h2⟩ := hp _ List.mem_cons_self
    dsimp only at h1 h2
    subst h1 h2
    unfold growM at hv
    rw [frc_eq] at hv
    have hab : χ a = χ b := hc a b ⟨i, List.mem_cons_self⟩
    refine ih (fun q hq => hp q (List.mem_cons_of_mem _ hq)) (fun a b ⟨j, hj⟩ => hc a b ⟨j, List.mem_cons_of_mem _ hj⟩) _ (fun u hu => ?_) v hv
    rw [stepM_bit] at hu
    simp only [Bool.or_eq_true, Bool.and_eq_true, decide_eq_true_eq] at hu
    rcases hu with (hu | ⟨h3, rfl⟩) | ⟨h3, rfl⟩
    · exact h u hu
    · rw [← hab]; exact h a h3
    · rw [hab]; exact h b h3
theorem growM_closed : ∀ (l : List (Nat × Nat × Nat)), PowL l → ∀ s, (∀ v, (growM l s).testBit v = true → s.testBit v = true) → ∀ a b, EdgeIn l a b → s.testBit a = s.testBit b := by
  intro l
  induction l with
  | nil => intro _ s _ a b ⟨i, h⟩; cases h
  | cons q l ih =>
    intro hp s h a b ⟨j, hj⟩
    obtain ⟨i, x, y⟩ := q
    obtain ⟨a', b', h1, h2⟩ := hp _ List.mem_cons_self
    dsimp only at h1 h2
    subst h1 h2
    have hp' : PowL l := fun q hq => hp q (List.mem_cons_of_mem _ hq)
    unfold growM at h
    rw [frc_eq] at h
    have hs : ∀ v, (stepM (2 ^ a') (2 ^ b') s).testBit v = s.testBit v := by
      intro v
      cases hv : s.testBit v with
      | true => rw [stepM_bit, hv]; rfl
      | false =>
        cases hw : (stepM (2 ^ a') (2 ^ b') s).testBit v with
        | false => rfl
        | true => rw [h v (growM_inc l hp' _ _ hw)] at hv; cases hv
    have hse : stepM (2 ^ a') (2 ^ b') s = s := Nat.eq_of_testBit_eq hs
    rcases List.mem_cons.mp hj with hq | hq
    · have e1 : 2 ^ a = 2 ^ a' := congrArg (fun q => q.2.1) hq
      have e2 : 2 ^ b = 2 ^ b' := congrArg (fun q => q.2.2) hq
      have e1 := two_inj e1
      have e2 := two_inj e2
      subst e1 e2
      cases ha : s.testBit a with
      | true =>
        have := hs b
        rw [stepM_bit, ha] at this
        simp at this
        exact this.symm
      | false =>
        cases hb : s.testBit b with
        | false => rfl
        | true =>
          have := hs a
          rw [stepM_bit, ha, hb] at this
          simp at this
    · rw [hse] at h
      exact ih hp' s h a b ⟨j, hq⟩
