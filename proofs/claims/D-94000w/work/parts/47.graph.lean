/-! PLAIN LAW, 8: what can be reached, and cuts -/
theorem pairsOf_to : ∀ r, r < 6 → ∀ q ∈ pairsOf r, ∃ b, b < r + 1 ∧ ∃ a, a < b ∧ q = (2 ^ prI a b, 2 ^ a, 2 ^ b) := by decide +kernel
theorem all_range {n : Nat} {f : Nat → Bool} (h : (List.range n).all f = true) {i : Nat} (hi : i < n) : f i = true := List.all_eq_true.mp h i (List.mem_range.mpr hi)
theorem pairsOf_ofB : ((List.range 6).all fun r => (List.range (r + 1)).all fun b => (List.range b).all fun a => decide ((2 ^ prI a b, 2 ^ a, 2 ^ b) ∈ pairsOf r)) = true := by decide +kernel
theorem pairsOf_of (r : Nat) (hr : r < 6) (b : Nat) (hb : b < r + 1) (a : Nat) (ha : a < b) : (2 ^ prI a b, 2 ^ a, 2 ^ b) ∈ pairsOf r := of_decide_eq_true (all_range (all_range (all_range pairsOf_ofB hr) hb) ha)
theorem prI_injB : ((List.range 6).all fun b => (List.range b).all fun a => (List.range 6).all fun d => (List.range d).all fun c => decide (prI a b = prI c d → a = c ∧ b = d)) = true := by decide +kernel
theorem prI_inj {a b c d : Nat} (hb : b < 6) (ha : a < b) (hd : d < 6) (hc : c < d) (h : prI a b = prI c d) : a = c ∧ b = d := of_decide_eq_true (all_range (all_range (all_range (all_range prI_injB hb) ha) hd) hc) h
theorem two_inj {a b : Nat} (h : 2 ^ a = 2 ^ b) : a = b := by
  have h1 : (2 ^ a).testBit a = true := by rw [Nat.testBit_two_pow]; simp
  rw [h, Nat.testBit_two_pow] at h1
  exact (by simpa using h1 : b = a).symm
theorem land_bit (E i : Nat) : Nat.beq (Nat.land E (2 ^ i)) 0 = !E.testBit i := by
  have h : Nat.land E (2 ^ i) = if E.testBit i then 2 ^ i else 0 := by
    show E &&& 2 ^ i = _
    apply Nat.eq_of_testBit_eq
    intro j
    rw [Nat.testBit_and, Nat.testBit_two_pow]
    by_cases hj : i = j
    · subst hj
      cases hb : E.testBit i <;> simp
    · cases hb : E.testBit i <;> simp [hj, Nat.testBit_two_pow]
  rw [h]
  have hp := Nat.two_pow_pos i
  cases E.testBit i with
  | false => rfl
  | true =>
    rw [if_pos rfl]
    cases hq : Nat.beq (2 ^ i) 0 with
    | false => rfl
    | true => have := Nat.eq_of_beq_eq_true hq; omega
theorem edgesOf_mem (E : Nat) (q : Nat × Nat × Nat) : ∀ ps : List (Nat × Nat × Nat), q ∈ edgesOf E ps ↔ q ∈ ps ∧ Nat.beq (Nat.land E q.1) 0 = false := by
  intro ps
  induction ps with
  | nil => simp [edgesOf]
  | cons x ps ih =>
    obtain ⟨i, a, b⟩ := x
    unfold edgesOf
    cases h : Nat.beq (Nat.land E i) 0 with
    | true =>
      rw [cond_true, ih, List.mem_cons]
      constructor
      · rintro ⟨h1, h2⟩; exact ⟨Or.inr h1, h2⟩
      · rintro ⟨rfl | h1, h2⟩
        · rw [h] at h2; cases h2
        · exact ⟨h1, h2⟩
    | false =>
      rw [cond_false, List.mem_cons, List.mem_cons, ih]
      constructor
      · rintro (rfl | ⟨h1, h2⟩)
        · exact ⟨Or.inl rfl, h⟩
        · exact ⟨Or.inr h1, h2⟩
      · rintro ⟨rfl | h1, h2⟩
        · exact Or.inl rfl
        · exact Or.inr ⟨h1, h2⟩
theorem frc_eq (s : Nat) (k : Nat → Nat) : frc s k = k s := by cases s <;> rfl
theorem frcB_eq (s : Nat) (k : Nat → Bool) : frcB s k = k s := by cases s <;> rfl
theorem stepM_bit (a b s v : Nat) : (stepM (2 ^ a) (2 ^ b) s).testBit v = (s.testBit v || (s.testBit a && decide (b = v)) || (s.testBit b && decide (a = v))) := by
  unfold stepM
  rw [land_bit, land_bit]
  have ho : ∀ x y : Nat, Nat.lor x y = x ||| y := fun _ _ => rfl
  cases ha : s.testBit a with
  | true =>
    simp only [Bool.not_true, cond_false, Bool.true_and]
    rw [ho, Nat.testBit_or, Nat.testBit_two_pow]
    by_cases hv : a = v
    · subst hv; simp [ha]
    · simp [hv]
  | false =>
    cases hb : s.testBit b with
    | true =>
      simp only [Bool.not_true, Bool.not_false, cond_false, cond_true, Bool.false_and, Bool.or_false, Bool.true_and]
      rw [ho, Nat.testBit_or, Nat.testBit_two_pow]
    | false => simp
/-- the edges of a list, as pairs of spots -/
def EdgeIn (l : List (Nat × Nat × Nat)) (a b : Nat) : Prop := ∃ i, (i, 2 ^ a, 2 ^ b) ∈ l
def PowL (l : List (Nat × Nat × Nat)) : Prop := ∀ q ∈ l, ∃ a b, q.2.1 = 2 ^ a ∧ q.2.2 = 2 ^ b
theorem growM_inc : ∀ (l : List (Nat × Nat × Nat)), PowL l → ∀ (s v : Nat), s.testBit v = true → (growM l s).testBit v = true := by
  intro l
  induction l with
  | nil => intro _ s v h; exact h
  | cons q l ih =>
    intro hp s v h
    obtain ⟨i, x, y⟩ := q
    obtain ⟨a, b, h1, h2⟩ := hp _ List.mem_cons_self
    dsimp only at h1 h2
    subst h1 h2
    unfold growM
    rw [frc_eq]
    exact ih (fun q hq => hp q (List.mem_cons_of_mem _ hq)) _ _ (by rw [stepM_bit, h]; rfl)
theorem growM_cut (χ : Nat → Bool) (k : Bool) : ∀ (l : List (Nat × Nat × Nat)), PowL l → (∀ a b, EdgeIn l a b → χ a = χ b) → ∀ s, (∀ v, s.testBit v = true → χ v = k) → ∀ v, (growM l s).testBit v = true → χ v = k := by
  intro l
  induction l with
  | nil => intro _ _ s h v hv; exact h v hv
  | cons q l ih =>
    intro hp hc s h v hv
    obtain ⟨i, x, y⟩ := q
    obtain ⟨a, b, h1, h2⟩ := hp _ List.mem_cons_self
    dsimp only at h1 h2
    subst h1 h2
    unfold growM at hv
    rw [frc_eq] at hv
    have hab : χ a = χ b := hc a b ⟨i, List.mem_cons_self⟩
    refine ih (fun q hq => hp q (List.mem_cons_of_mem _ hq)) (fun a b ⟨j, hj⟩ => hc a b ⟨j, List.mem_cons_of_mem _ hj⟩) _ (fun u hu => ?_) v hv
    rw [stepM_bit] at hu
    simp only [Bool.or_eq_true, Bool.and_eq_true, decide_eq_true_eq] at hu
    rcases hu with (hu | ⟨h3, rfl⟩) | ⟨h3, rfl⟩
    · exact h u hu
    · rw [← hab]; exact h a h3
    · rw [hab]; exact h b h3
theorem growM_closed : ∀ (l : List (Nat × Nat × Nat)), PowL l → ∀ s, (∀ v, (growM l s).testBit v = true → s.testBit v = true) → ∀ a b, EdgeIn l a b → s.testBit a = s.testBit b := by
  intro l
  induction l with
  | nil => intro _ s _ a b ⟨i, h⟩; cases h
  | cons q l ih =>
    intro hp s h a b ⟨j, hj⟩
    obtain ⟨i, x, y⟩ := q
    obtain ⟨a', b', h1, h2⟩ := hp _ List.mem_cons_self
    dsimp only at h1 h2
    subst h1 h2
    have hp' : PowL l := fun q hq => hp q (List.mem_cons_of_mem _ hq)
    unfold growM at h
    rw [frc_eq] at h
    have hs : ∀ v, (stepM (2 ^ a') (2 ^ b') s).testBit v = s.testBit v := by
      intro v
      cases hv : s.testBit v with
      | true => rw [stepM_bit, hv]; rfl
      | false =>
        cases hw : (stepM (2 ^ a') (2 ^ b') s).testBit v with
        | false => rfl
        | true => rw [h v (growM_inc l hp' _ _ hw)] at hv; cases hv
    have hse : stepM (2 ^ a') (2 ^ b') s = s := Nat.eq_of_testBit_eq hs
    rcases List.mem_cons.mp hj with hq | hq
    · have e1 : 2 ^ a = 2 ^ a' := congrArg (fun q => q.2.1) hq
      have e2 : 2 ^ b = 2 ^ b' := congrArg (fun q => q.2.2) hq
      have e1 := two_inj e1
      have e2 := two_inj e2
      subst e1 e2
      cases ha : s.testBit a with
      | true =>
        have := hs b
        rw [stepM_bit, ha] at this
        simp at this
        exact this.symm
      | false =>
        cases hb : s.testBit b with
        | false => rfl
        | true =>
          have := hs a
          rw [stepM_bit, ha, hb] at this
          simp at this
    · rw [hse] at h
      exact ih hp' s h a b ⟨j, hq⟩
theorem growN_s (l : List (Nat × Nat × Nat)) (n s : Nat) : growN l (n + 1) s = growN l n (growM l s) := by
  show frc (growM l s) (growN l n) = _
  exact frc_eq _ _
theorem growN_inc (l : List (Nat × Nat × Nat)) (hp : PowL l) : ∀ (n s v : Nat), s.testBit v = true → (growN l n s).testBit v = true := by
  intro n
  induction n with
  | zero => intro s v h; exact h
  | succ n ih => intro s v h; rw [growN_s]; exact ih _ v (growM_inc l hp s v h)
theorem growN_cut (χ : Nat → Bool) (k : Bool) (l : List (Nat × Nat × Nat)) (hp : PowL l) (hc : ∀ a b, EdgeIn l a b → χ a = χ b) : ∀ (n s : Nat), (∀ v, s.testBit v = true → χ v = k) → ∀ v, (growN l n s).testBit v = true → χ v = k := by
  intro n
  induction n with
  | zero => intro s h v hv; exact h v hv
  | succ n ih => intro s h v hv; rw [growN_s] at hv; exact ih _ (growM_cut χ k l hp hc s h) v hv
theorem popB_le : ∀ (m s t : Nat), (∀ v, v < m → s.testBit v = true → t.testBit v = true) → popB m s ≤ popB m t := by
  intro m s t
  induction m with
  | zero => intro _; exact Nat.le_refl _
  | succ m ih =>
    intro h
    unfold popB
    have h1 := ih (fun v hv => h v (by omega))
    have h2 := h m (by omega)
    cases hs : s.testBit m with
    | false => simp; omega
    | true => rw [h2 hs]; simp; omega
theorem popB_lt : ∀ (m s t : Nat), (∀ v, v < m → s.testBit v = true → t.testBit v = true) → (∃ v, v < m ∧ t.testBit v = true ∧ s.testBit v = false) → popB m s < popB m t := by
  intro m s t
  induction m with
  | zero => rintro _ ⟨v, h, _⟩; omega
  | succ m ih =>
    rintro h ⟨v, hv, h1, h2⟩
    unfold popB
    have hle := popB_le m s t (fun v hv => h v (by omega))
    have hm := h m (by omega)
    by_cases hvm : v = m
    · subst hvm
      rw [h1, h2]; simp; omega
    · have := ih (fun v hv => h v (by omega)) ⟨v, by omega, h1, h2⟩
      cases hs : s.testBit m with
      | false => simp; omega
      | true => rw [hm hs]; simp; omega
theorem popB_max : ∀ (m s : Nat), popB m s ≤ m ∧ (popB m s = m → ∀ v, v < m → s.testBit v = true) := by
  intro m s
  induction m with
  | zero => exact ⟨Nat.le_refl _, fun _ v h => by omega⟩
  | succ m ih =>
    obtain ⟨h1, h2⟩ := ih
    unfold popB
    cases hs : s.testBit m with
    | false => simp; exact ⟨by omega, fun h => by omega⟩
    | true =>
      simp
      refine ⟨h1, fun h v hv => ?_⟩
      by_cases hvm : v = m
      · subst hvm; exact hs
      · exact h2 h v (by omega)
/-- behind as many rounds as there are spots but one, the set is closed -/
theorem grow_closed {r : Nat} (l : List (Nat × Nat × Nat)) (hp : PowL l) (hb : ∀ a b, EdgeIn l a b → a < r + 1 ∧ b < r + 1) : ∀ (n s : Nat), (∀ v, s.testBit v = true → v < r + 1) → r + 1 ≤ popB (r + 1) s + n → ∀ a b, EdgeIn l a b → (growN l n s).testBit a = (growN l n s).testBit b := by
  have bound : ∀ s, (∀ v, s.testBit v = true → v < r + 1) → ∀ v, (growM l s).testBit v = true → v < r + 1 := by
    intro s hs v hv
    have := growM_cut (fun v => decide (v < r + 1)) true l hp (fun a b hab => by have := hb a b hab; simp [this.1, this.2]) s (fun v hv => by simpa using hs v hv) v hv
    simpa using this
  intro n
  induction n with
  | zero =>
    intro s hs hn a b hab
    have := (popB_max (r + 1) s).2 (by have := (popB_max (r + 1) s).1; omega)
    obtain ⟨h1, h2⟩ := hb a b hab
    show s.testBit a = s.testBit b
    rw [this a h1, this b h2]
  | succ n ih =>
    intro s hs hn a b hab
    by_cases hc : ∀ v, (growM l s).testBit v = true → s.testBit v = true
    · have e : growM l s = s := Nat.eq_of_testBit_eq fun v => by
        cases hv : s.testBit v with
        | true => exact growM_inc l hp s v hv
        | false =>
          cases hw : (growM l s).testBit v with
          | false => rfl
          | true => rw [hc v hw] at hv; cases hv
      have all : ∀ n, growN l n s = s := by
        intro n
        induction n with
        | zero => rfl
        | succ n ihn => rw [growN_s, e]; exact ihn
      rw [all]
      exact growM_closed l hp s hc a b hab
    · have hex : ∃ v, (growM l s).testBit v = true ∧ s.testBit v = false := by
        refine Classical.byContradiction fun hno => hc fun v hv => ?_
        cases hs2 : s.testBit v with
        | true => rfl
        | false => exact absurd ⟨v, hv, hs2⟩ hno
      obtain ⟨v, h1, h2⟩ := hex
      have := popB_lt (r + 1) s (growM l s) (fun v _ h => growM_inc l hp s v h) ⟨v, bound s hs v h1, h1, h2⟩
      rw [growN_s]
      exact ih _ (bound s hs) (by omega) a b hab
/-- a cut: the same along every pair of E -/
def Cut (r E : Nat) (χ : Nat → Bool) : Prop := ∀ b, b < r + 1 → ∀ a, a < b → E.testBit (prI a b) = true → χ a = χ b
theorem powL_edges (r E : Nat) (hr : r < 6) : PowL (edgesOf E (pairsOf r)) := by
  intro q hq
  obtain ⟨b, _, a, _, rfl⟩ := pairsOf_to r hr q ((edgesOf_mem E q _).mp hq).1
  exact ⟨a, b, rfl, rfl⟩
theorem edge_to (r E : Nat) (hr : r < 6) {a b : Nat} (h : EdgeIn (edgesOf E (pairsOf r)) a b) : b < r + 1 ∧ a < b ∧ E.testBit (prI a b) = true := by
  obtain ⟨i, h⟩ := h
  obtain ⟨h1, h2⟩ := (edgesOf_mem E _ _).mp h
  obtain ⟨b', hb, a', ha, e⟩ := pairsOf_to r hr _ h1
  have e1 : i = 2 ^ prI a' b' := congrArg (fun q => q.1) e
  have e2 := two_inj (congrArg (fun q => q.2.1) e)
  have e3 := two_inj (congrArg (fun q => q.2.2) e)
  subst e2 e3
  rw [e1, land_bit] at h2
  exact ⟨hb, ha, by simpa using h2⟩
theorem edge_of (r E : Nat) (hr : r < 6) {a b : Nat} (hb : b < r + 1) (ha : a < b) (h : E.testBit (prI a b) = true) : EdgeIn (edgesOf E (pairsOf r)) a b :=
  ⟨_, (edgesOf_mem E _ _).mpr ⟨pairsOf_of r hr b hb a ha, by rw [land_bit, h]; rfl⟩⟩
theorem one_bit (v : Nat) : (2 ^ 0).testBit v = true → v = 0 := by rw [Nat.testBit_two_pow]; simp; omega
theorem popB_two (m f : Nat) (h : f < m) : 1 ≤ popB m (2 ^ f) := by
  have := popB_lt m 0 (2 ^ f) (fun v _ h => by simp at h) ⟨f, h, by rw [Nat.testBit_two_pow]; simp, Nat.zero_testBit _⟩
  omega
/-- what grows from f: closed, with f in it, and within each cut's side -/
theorem grow_spec (r E f : Nat) (hr : r < 6) (hf : f < r + 1) : Cut r E (fun v => (growN (edgesOf E (pairsOf r)) r (2 ^ f)).testBit v) ∧ (growN (edgesOf E (pairsOf r)) r (2 ^ f)).testBit f = true ∧
    (∀ v, (growN (edgesOf E (pairsOf r)) r (2 ^ f)).testBit v = true → v < r + 1) ∧ ∀ χ, Cut r E χ → ∀ v, (growN (edgesOf E (pairsOf r)) r (2 ^ f)).testBit v = true → χ v = χ f := by
  have hp := powL_edges r E hr
  have hfb : ∀ v, (2 ^ f).testBit v = true → v = f := by intro v h; rw [Nat.testBit_two_pow] at h; exact (by simpa using h : f = v).symm
  have cutE : ∀ χ, Cut r E χ → ∀ a b, EdgeIn (edgesOf E (pairsOf r)) a b → χ a = χ b := by
    intro χ h a b hab
    obtain ⟨h1, h2, h3⟩ := edge_to r E hr hab
    exact h b h1 a h2 h3
  refine ⟨fun b hb a ha h => ?_, growN_inc _ hp _ _ _ (by rw [Nat.testBit_two_pow]; simp), fun v hv => ?_, fun χ h v hv => ?_⟩
  · refine grow_closed (r := r) _ hp (fun a b hab => ?_) r _ (fun v hv => ?_) ?_ a b (edge_of r E hr hb ha h)
    · obtain ⟨h1, h2, _⟩ := edge_to r E hr hab
      exact ⟨by omega, h1⟩
    · rw [hfb v hv]; exact hf
    · have := popB_two (r + 1) f hf; omega
  · have := growN_cut (fun v => decide (v < r + 1)) true _ hp (fun a b hab => by obtain ⟨h1, h2, _⟩ := edge_to r E hr hab; simp [h1]; omega) r (2 ^ f) (fun v hv => by rw [hfb v hv]; simpa using hf) v hv
    simpa using this
  · exact growN_cut χ (χ f) _ hp (cutE χ h) r _ (fun v hv => by rw [hfb v hv]) v hv
theorem conn_cut {r E : Nat} (hr : r < 6) (h : conn r E = true) {χ : Nat → Bool} (hc : Cut r E χ) (v : Nat) (hv : v < r + 1) : χ v = χ 0 := by
  unfold conn at h
  rw [frcB_eq] at h
  have h := Nat.eq_of_beq_eq_true h
  refine (grow_spec r E 0 hr (by omega)).2.2.2 χ hc v ?_
  show (growN (edgesOf E (pairsOf r)) r 1).testBit v = true
  rw [h, Nat.testBit_two_pow_sub_one]
  simpa using hv
theorem conn_of {r E : Nat} (hr : r < 6) (h : ∀ χ, Cut r E χ → ∀ v, v < r + 1 → χ v = χ 0) : conn r E = true := by
  obtain ⟨h1, h2, h3, _⟩ := grow_spec r E 0 hr (by omega)
  have hall := h _ h1
  unfold conn
  rw [frcB_eq]
  have e : growN (edgesOf E (pairsOf r)) r 1 = 2 ^ (r + 1) - 1 := by
    apply Nat.eq_of_testBit_eq
    intro v
    rw [Nat.testBit_two_pow_sub_one]
    by_cases hv : v < r + 1
    · have := hall v hv
      try dsimp only at this
      rw [h2] at this
      simp only [hv, decide_true]
      exact this
    · simp only [hv, decide_false]
      cases hq : (growN (edgesOf E (pairsOf r)) r 1).testBit v with
      | false => rfl
      | true => exact absurd (h3 v hq) hv
  rw [e]
  exact Nat.beq_refl _
/-- the current of a tree's unit flow through one of its pairs, by any function that is cut there and only there -/
theorem beta_cut {r f a b E : Nat} (hr : r < 6) (hc : conn r E = true) (hf : f < r + 1) (ha : a < b) (hb : b < r + 1) (hE : E.testBit (prI a b) = true) {χ : Nat → Bool} (h1 : Cut r (E ^^^ 2 ^ prI a b) χ) (h2 : χ a ≠ χ b) :
    beta r f a b E = if χ r = χ f then 0 else if χ a = χ f then 1 else -1 := by
  obtain ⟨g1, g2, g3, g4⟩ := grow_spec r (E ^^^ 2 ^ prI a b) f hr hf
  generalize hA : growN (edgesOf (E ^^^ 2 ^ prI a b) (pairsOf r)) r (2 ^ f) = A at g1 g2 g3 g4
  have hbeta : beta r f a b E = betaA r a A := by unfold beta; rw [if_pos hE, hA]
  have bits : ∀ c d, c < d → d < r + 1 → E.testBit (prI c d) = true → ¬ (c = a ∧ d = b) → (E ^^^ 2 ^ prI a b).testBit (prI c d) = true := by
    intro c d hcd hd hEc hne
    rw [Nat.testBit_xor, hEc, Nat.testBit_two_pow]
    have : prI a b ≠ prI c d := fun q => by
      have := prI_inj (by omega) ha (by omega) hcd q
      exact hne ⟨this.1.symm, this.2.symm⟩
    simp [this]
  -- a is in A just if χ a = χ f; the whole of A is χ's side of f
  have side : ∀ v, v < r + 1 → (A.testBit v = true ↔ χ v = χ f) := by
    intro v hv
    refine ⟨fun h => g4 χ h1 v h, fun h => ?_⟩
    by_cases hab : A.testBit a = A.testBit b
    · -- then A is cut nowhere
      have hcut : Cut r E (fun v => A.testBit v) := by
        intro d hd c hcd hEc
        by_cases hq : c = a ∧ d = b
        · obtain ⟨rfl, rfl⟩ := hq; exact hab
        · exact g1 d hd c hcd (bits c d hcd hd hEc hq)
      have e1 := conn_cut hr hc hcut v hv
      have e2 := conn_cut hr hc hcut f hf
      try dsimp only at e1 e2
      rw [e1, ← e2]; exact g2
    · have hcut : Cut r E (fun v => A.testBit v == χ v) := by
        intro d hd c hcd hEc
        by_cases hq : c = a ∧ d = b
        · obtain ⟨rfl, rfl⟩ := hq
          dsimp only
          revert hab h2
          cases A.testBit c <;> cases A.testBit d <;> cases χ c <;> cases χ d <;> decide
        · dsimp only
          have := g1 d hd c hcd (bits c d hcd hd hEc hq)
          try dsimp only at this
          rw [this, h1 d hd c hcd (bits c d hcd hd hEc hq)]
      have e1 := conn_cut hr hc hcut v hv
      have e2 := conn_cut hr hc hcut f hf
      try dsimp only at e1 e2
      rw [g2] at e2
      rw [← e2, h] at e1
      revert e1
      cases A.testBit v <;> cases χ f <;> decide
  rw [hbeta]
  unfold betaA
  have s1 := side r (by omega)
  have s2 := side a (by omega)
  by_cases q1 : χ r = χ f
  · rw [if_pos (s1.mpr q1), if_pos q1]
  · rw [if_neg (fun h => q1 (s1.mp h)), if_neg q1]
    by_cases q2 : χ a = χ f
    · rw [if_pos (s2.mpr q2), if_pos q2]
    · rw [if_neg (fun h => q2 (s2.mp h)), if_neg q2]
