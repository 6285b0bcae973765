/-! PLAIN LAW, 10: the sum over all sets of pipes is the loop's sum -/
def rsum (g : Nat → Int64) : Nat → Int64
  | 0 => 0
  | m + 1 => rsum g m + g m
theorem rsum_congr (g h : Nat → Int64) : ∀ m, (∀ i, i < m → g i = h i) → rsum g m = rsum h m := by
  intro m
  induction m with
  | zero => intro _; rfl
  | succ m ih => intro q; unfold rsum; rw [ih (fun i hi => q i (by omega)), q m (by omega)]
theorem rsum_add (g : Nat → Int64) (a : Nat) : ∀ b, rsum g (a + b) = rsum g a + rsum (fun i => g (a + i)) b := by
  intro b
  induction b with
  | zero => show rsum g a = rsum g a + 0; grind
  | succ b ih =>
    show rsum g (a + b) + g (a + b) = rsum g a + (rsum (fun i => g (a + i)) b + g (a + b))
    rw [ih]; grind
theorem rsum_mul (c : Int64) (g : Nat → Int64) : ∀ m, rsum (fun i => c * g i) m = c * rsum g m := by
  intro m
  induction m with
  | zero => show (0 : Int64) = c * 0; grind
  | succ m ih => unfold rsum; rw [ih]; grind
theorem sumB_rsum (c : Nat → Int64) : ∀ (p : Nat) (h : Nat → Int64), sumB c p h = rsum (fun m => h m * prodB c p m) (2 ^ p) := by
  intro p
  induction p with
  | zero => intro h; show h 0 = 0 + h 0 * 1; grind
  | succ p ih =>
    intro h
    unfold sumB
    rw [ih h, ih (fun E => h (E + 2 ^ p)), Nat.pow_succ, Nat.mul_two, rsum_add, ← rsum_mul]
    congr 1
    · refine rsum_congr _ _ _ (fun m hm => ?_)
      unfold prodB
      rw [Nat.testBit_lt_two_pow hm]; rfl
    · refine rsum_congr _ _ _ (fun m hm => ?_)
      show c p * (h (m + 2 ^ p) * prodB c p m) = h (2 ^ p + m) * (if (2 ^ p + m).testBit p then c p * prodB c p (2 ^ p + m) else prodB c p (2 ^ p + m))
      rw [Nat.add_comm (2 ^ p) m, testBit_top hm, if_pos rfl, prodB_congr c p (m + 2 ^ p) m (fun i hi => testBit_low hi)]
      grind
theorem prodB_zero (c : Nat → Int64) (k : Nat) (hk : c k = 0) : ∀ (p m : Nat), k < p → m.testBit k = true → prodB c p m = 0 := by
  intro p
  induction p with
  | zero => intro m h; omega
  | succ p ih =>
    intro m h hb
    unfold prodB
    by_cases hkp : k = p
    · subst hkp; rw [if_pos hb, hk]; grind
    · rw [ih m (by omega) hb]; split <;> grind
theorem rsum_subS (own : Nat) (g : Nat → Int64) (hz : ∀ m, ¬ (m &&& own = m) → g m = 0) : ∀ M, rsum g (M + 1) = g 0 + subS own g (M + 1) := by
  intro M
  induction M with
  | zero => rw [subS_end]; show (0 : Int64) + g 0 = g 0 + 0; grind
  | succ M ih =>
    show rsum g (M + 1) + g (M + 1) = g 0 + (subS own g (M + 1) + (if M + 1 &&& own = M + 1 ∧ M + 1 ≠ 0 then g (M + 1) else 0))
    rw [ih]
    by_cases h : M + 1 &&& own = M + 1
    · rw [if_pos ⟨h, by omega⟩]; grind
    · rw [if_neg (fun q => h q.1), hz _ h]
/-- where the pipes that aren't own lead nothing -/
theorem sumB_own (c : Nat → Int64) (p own : Nat) (ho : own < 2 ^ p) (hc : ∀ k, k < p → own.testBit k = false → c k = 0) (h : Nat → Int64) : sumB c p h = h 0 + subS own (fun m => h m * prodB c p m) (own + 1) := by
  have h2 := Nat.two_pow_pos p
  have hz : ∀ m, m < 2 ^ p → ¬ (m &&& own = m) → prodB c p m = 0 := by
    intro m hm hne
    refine Classical.byContradiction fun hp => hne ?_
    apply Nat.eq_of_testBit_eq
    intro k
    rw [Nat.testBit_and]
    cases hb : m.testBit k with
    | false => rfl
    | true =>
      cases hk : own.testBit k with
      | true => rfl
      | false =>
        exfalso
        have hkp : k < p := by
          rcases Nat.lt_or_ge k p with q | q
          · exact q
          · rw [Nat.testBit_lt_two_pow (Nat.lt_of_lt_of_le hm (Nat.pow_le_pow_right (by decide) q))] at hb; cases hb
        exact hp (prodB_zero c k (hc k hkp hk) p m hkp hb)
  rw [sumB_rsum]
  have e1 : rsum (fun m => h m * prodB c p m) (2 ^ p) = rsum (fun m => if m &&& own = m then h m * prodB c p m else 0) (2 ^ p) :=
    rsum_congr _ _ _ (fun m hm => by
      by_cases q : m &&& own = m
      · rw [if_pos q]
      · rw [if_neg q, hz m hm q]; grind)
  obtain ⟨M, hM⟩ : ∃ M, 2 ^ p = M + 1 := ⟨2 ^ p - 1, by omega⟩
  rw [e1, hM, rsum_subS own _ (fun m hm => if_neg hm)]
  have e0 : (if 0 &&& own = 0 then h 0 * prodB c p 0 else 0) = h 0 := by
    rw [if_pos (Nat.zero_and own)]
    have : ∀ p, prodB c p 0 = 1 := by
      intro p
      induction p with
      | zero => rfl
      | succ p ih => unfold prodB; rw [Nat.zero_testBit]; exact ih
    rw [this]; grind
  have key : ∀ g g' : Nat → Int64, (∀ m, m &&& own = m → g m = g' m) → ∀ m, subS own g m = subS own g' m := by
    intro g g' hg m
    induction m with
    | zero => rfl
    | succ m ih =>
      show subS own g m + (if m &&& own = m ∧ m ≠ 0 then g m else 0) = subS own g' m + (if m &&& own = m ∧ m ≠ 0 then g' m else 0)
      rw [ih]
      by_cases q : m &&& own = m ∧ m ≠ 0
      · rw [if_pos q, if_pos q, hg m q.1]
      · rw [if_neg q, if_neg q]
  rw [e0, key _ (fun m => h m * prodB c p m) (fun m hm => if_pos hm)]
  obtain ⟨d, hd⟩ : ∃ d, M + 1 = own + 1 + d := ⟨M - own, by omega⟩
  rw [hd, subS_gap own _ (own + 1) d (fun S h1 _ => by
    rintro ⟨h3, _⟩
    have : S &&& own ≤ own := Nat.and_le_right
    omega)]
