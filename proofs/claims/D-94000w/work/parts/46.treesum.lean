/-! PLAIN LAW, 7: determinant and flows as sums over sets of pipes -/
theorem tmono_prod (w : Nat → Int64) (E : Nat) : tmono w E = prodB w 15 E := by
  have key : ∀ (n : Nat) (c : Int64), (List.range n).foldr (fun v c => if E.testBit v then w v * c else c) c = prodB w n E * c := by
    intro n
    induction n with
    | zero => intro c; show c = 1 * c; grind
    | succ n ih =>
      intro c
      rw [List.range_succ, List.foldr_append, ih]
      show prodB w n E * (if E.testBit n then w n * c else c) = (if E.testBit n then w n * prodB w n E else prodB w n E) * c
      split <;> grind
  unfold tmono
  rw [key]; grind
/-- how often E stands in the list, each time with g's factor -/
def lsum (g : Nat → Int64) (l : List Nat) (E : Nat) : Int64 := l.foldr (fun F acc => (if E = F then g F else 0) + acc) 0
theorem lsum_ev (w : Nat → Int64) (g : Nat → Int64) (l : List Nat) (hl : ∀ F ∈ l, F < 2 ^ 15) : l.foldr (fun F acc => g F * tmono w F + acc) 0 = sumB w 15 (lsum g l) := by
  induction l with
  | nil => exact (sumB_zero w 15).symm
  | cons F l ih =>
    rw [List.foldr_cons, ih (fun G hG => hl G (List.mem_cons_of_mem _ hG)), tmono_prod, ← sumB_one w (g F) 15 F (hl F List.mem_cons_self), ← sumB_add]
    rfl
theorem lsum_nodup (g : Nat → Int64) (l : List Nat) (hn : l.Nodup) (E : Nat) : lsum g l E = if E ∈ l then g E else 0 := by
  induction l with
  | nil => rfl
  | cons F l ih =>
    obtain ⟨h1, h2⟩ := List.nodup_cons.mp hn
    show (if E = F then g F else 0) + lsum g l E = _
    rw [ih h2]
    by_cases h : E = F
    · subst h
      rw [if_pos rfl, if_neg h1, if_pos List.mem_cons_self]; grind
    · rw [if_neg h]
      by_cases h3 : E ∈ l
      · rw [if_pos h3, if_pos (List.mem_cons_of_mem _ h3)]; grind
      · rw [if_neg h3, if_neg (fun q => by rcases List.mem_cons.mp q with q | q; exact h q; exact h3 q)]; grind
/-- how many bits below n -/
def popB : Nat → Nat → Nat
  | 0, _ => 0
  | n + 1, E => popB n E + (if E.testBit n then 1 else 0)
theorem popB_congr : ∀ (n E F : Nat), (∀ i, i < n → E.testBit i = F.testBit i) → popB n E = popB n F := by
  intro n E F
  induction n with
  | zero => intro _; rfl
  | succ n ih => intro h; unfold popB; rw [h n (by omega), ih (fun i hi => h i (by omega))]
theorem testBit_top {m E : Nat} (h : E < 2 ^ m) : (E + 2 ^ m).testBit m = true := by rw [Nat.add_comm, Nat.testBit_two_pow_add_eq, Nat.testBit_lt_two_pow h]; rfl
theorem testBit_low {m i E : Nat} (h : i < m) : (E + 2 ^ m).testBit i = E.testBit i := by rw [Nat.add_comm, Nat.testBit_two_pow_add_gt h]
theorem combos_mem : ∀ (m k E : Nat), E ∈ combos m k ↔ E < 2 ^ m ∧ popB m E = k := by
  intro m
  induction m with
  | zero =>
    intro k E
    cases k with
    | zero => simp [combos, popB]
    | succ k => simp [combos, popB]
  | succ m ih =>
    intro k E
    have split2 : E < 2 ^ (m + 1) → E < 2 ^ m ∨ ∃ D, D < 2 ^ m ∧ E = D + 2 ^ m := by
      intro h
      rw [Nat.pow_succ] at h
      rcases Nat.lt_or_ge E (2 ^ m) with q | q
      · exact Or.inl q
      · exact Or.inr ⟨E - 2 ^ m, by omega, by omega⟩
    have lo : ∀ D, D < 2 ^ m → popB (m + 1) D = popB m D := by
      intro D h
      show popB m D + (if D.testBit m then 1 else 0) = popB m D
      rw [Nat.testBit_lt_two_pow h]; rfl
    have hi : ∀ D, D < 2 ^ m → popB (m + 1) (D + 2 ^ m) = popB m D + 1 := by
      intro D h
      show popB m (D + 2 ^ m) + (if (D + 2 ^ m).testBit m then 1 else 0) = _
      rw [testBit_top h, popB_congr m (D + 2 ^ m) D (fun i hi => testBit_low hi)]; rfl
    have zero : ∀ (m E : Nat), E < 2 ^ m → popB m E = 0 → E = 0 := by
      intro m
      induction m with
      | zero => intro E h _; omega
      | succ m ihm =>
        intro E h h0
        unfold popB at h0
        have hb : E.testBit m = false := by
          cases hb : E.testBit m with
          | false => rfl
          | true => rw [hb] at h0; simp at h0
        have hlt : E < 2 ^ m := by
          rcases Nat.lt_or_ge E (2 ^ m) with q | q
          · exact q
          · exfalso
            rw [Nat.pow_succ] at h
            obtain ⟨D, rfl⟩ : ∃ D, E = D + 2 ^ m := ⟨E - 2 ^ m, by omega⟩
            rw [testBit_top (by omega)] at hb; cases hb
        exact ihm E hlt (by omega)
    cases k with
    | zero =>
      simp only [combos, List.mem_singleton]
      constructor
      · rintro rfl
        refine ⟨Nat.two_pow_pos _, ?_⟩
        have : ∀ n, popB n 0 = 0 := by
          intro n
          induction n with
          | zero => rfl
          | succ n ihn => unfold popB; rw [ihn, Nat.zero_testBit]; rfl
        exact this _
      · rintro ⟨h1, h2⟩; exact zero _ _ h1 h2
    | succ k =>
      simp only [combos, List.mem_append, List.mem_map]
      constructor
      · rintro (h | ⟨D, h, rfl⟩)
        · obtain ⟨h1, h2⟩ := (ih _ _).mp h
          exact ⟨by rw [Nat.pow_succ]; omega, by rw [lo _ h1]; exact h2⟩
        · obtain ⟨h1, h2⟩ := (ih _ _).mp h
          exact ⟨by rw [Nat.pow_succ]; omega, by rw [hi _ h1, h2]⟩
      · rintro ⟨h1, h2⟩
        rcases split2 h1 with h | ⟨D, h, rfl⟩
        · exact Or.inl ((ih _ _).mpr ⟨h, by rw [← lo _ h]; exact h2⟩)
        · exact Or.inr ⟨D, (ih _ _).mpr ⟨h, by rw [hi _ h] at h2; omega⟩, rfl⟩
theorem combos_nodup : ∀ (m k : Nat), (combos m k).Nodup := by
  intro m
  induction m with
  | zero => intro k; cases k <;> simp [combos]
  | succ m ih =>
    intro k
    cases k with
    | zero => simp [combos]
    | succ k =>
      simp only [combos]
      rw [List.nodup_append]
      refine ⟨ih _, ?_, ?_⟩
      · exact List.pairwise_map.mpr ((ih k).imp (fun {a b} h q => h (by omega)))
      · intro a ha b hb
        obtain ⟨D, _, rfl⟩ := List.mem_map.mp hb
        have := ((combos_mem _ _ _).mp ha).1
        omega
/-- a tree of r pairs on the spots 0 .. r -/
def isT (r E : Nat) : Bool := decide (E < 2 ^ (r * (r + 1) / 2)) && (decide (popB (r * (r + 1) / 2) E = r) && conn r E)
theorem TL_mem (r E : Nat) : E ∈ TL r ↔ isT r E = true := by
  unfold TL isT
  rw [List.mem_filter, combos_mem]
  simp only [Bool.and_eq_true, decide_eq_true_eq, and_assoc]
theorem TL_nodup (r : Nat) : (TL r).Nodup := (combos_nodup _ _).filter _
theorem TL_lt (r E : Nat) (h5 : r ≤ 5) (h : E ∈ TL r) : E < 2 ^ 15 := by
  have h1 := ((combos_mem _ _ _).mp (List.mem_filter.mp h).1).1
  refine Nat.lt_of_lt_of_le h1 (Nat.pow_le_pow_right (by decide) ?_)
  have hr : r = 0 ∨ r = 1 ∨ r = 2 ∨ r = 3 ∨ r = 4 ∨ r = 5 := by omega
  rcases hr with rfl | rfl | rfl | rfl | rfl | rfl <;> decide
theorem det_pipes (e : Nat → Nat) (c : Nat → Int64) (p r : Nat) (h1 : 1 ≤ r) (h5 : r ≤ 5) (he : ∀ k, k < p → e k < 15) (hi : ∀ j k, j < p → k < p → e j = e k → j = k) (M : Nat → Nat → Int64) (hM : ∀ a b, a < r → b < r → M a b = lfEval (wOf e c p) (lapL r a b)) :
    mnR r M r 0 (2 ^ r - 1) = sumB c p (fun S => if isT r (imgE e p S) then 1 else 0) := by
  rw [det_trees (wOf e c p) r h1 h5 M hM]
  have e1 : tlEval (wOf e c p) (TL r) = sumB (wOf e c p) 15 (lsum (fun _ => 1) (TL r)) := by
    rw [← lsum_ev _ _ _ (fun F hF => TL_lt r F h5 hF)]
    unfold tlEval
    congr 1
    funext F acc
    grind
  rw [e1, sumB_pipes e c 15 p _ he hi]
  exact sumB_congr c p _ _ (fun S _ => by
    rw [lsum_nodup _ _ (TL_nodup r)]
    by_cases h : isT r (imgE e p S) = true
    · rw [if_pos ((TL_mem _ _).mpr h), if_pos h]
    · rw [if_neg (fun q => h ((TL_mem _ _).mp q)), if_neg h])
theorem flow_pipes (e : Nat → Nat) (c : Nat → Int64) (p r f a b : Nat) (h5 : r ≤ 5) (hf : f < r) (hab : a < b) (hb : b ≤ r) (he : ∀ k, k < p → e k < 15) (hi : ∀ j k, j < p → k < p → e j = e k → j = k) (M : Nat → Nat → Int64) (hM : ∀ a b, a < r → b < r → M a b = lfEval (wOf e c p) (lapL r a b)) :
    wOf e c p (prI a b) * (hgt r f M a - hgt r f M b) = sumB c p (fun S => if isT r (imgE e p S) then Int64.ofInt (beta r f a b (imgE e p S)) else 0) := by
  rw [flow_trees (wOf e c p) r f a b h5 hf hab hb M hM]
  unfold btEval
  rw [lsum_ev _ (fun E => Int64.ofInt (beta r f a b E)) _ (fun F hF => TL_lt r F h5 hF), sumB_pipes e c 15 p _ he hi]
  exact sumB_congr c p _ _ (fun S _ => by
    rw [lsum_nodup _ _ (TL_nodup r)]
    by_cases h : isT r (imgE e p S) = true
    · rw [if_pos ((TL_mem _ _).mpr h), if_pos h]
    · rw [if_neg (fun q => h ((TL_mem _ _).mp q)), if_neg h])
