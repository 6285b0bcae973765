/-! PLAIN LAW, 6: sums over sets of pairs, as sums over sets of pipes -/
/-- over all sets of the things below n: f(set) times the product of their weights -/
def sumB (w : Nat → Int64) : Nat → (Nat → Int64) → Int64
  | 0, f => f 0
  | n + 1, f => sumB w n f + w n * sumB w n (fun E => f (E + 2 ^ n))
theorem sumB_congr (w : Nat → Int64) : ∀ (n : Nat) (f g : Nat → Int64), (∀ E, E < 2 ^ n → f E = g E) → sumB w n f = sumB w n g := by
  intro n
  induction n with
  | zero => intro f g h; exact h 0 (by decide)
  | succ n ih =>
    intro f g h
    unfold sumB
    rw [ih f g (fun E hE => h E (by rw [Nat.pow_succ]; omega)), ih (fun E => f (E + 2 ^ n)) (fun E => g (E + 2 ^ n)) (fun E hE => h _ (by rw [Nat.pow_succ]; omega))]
theorem sumB_add (w : Nat → Int64) : ∀ (n : Nat) (f g : Nat → Int64), sumB w n (fun E => f E + g E) = sumB w n f + sumB w n g := by
  intro n
  induction n with
  | zero => intro f g; rfl
  | succ n ih =>
    intro f g
    unfold sumB
    rw [ih f g, ih (fun E => f (E + 2 ^ n)) (fun E => g (E + 2 ^ n))]
    grind
theorem sumB_mul (w : Nat → Int64) (c : Int64) : ∀ (n : Nat) (f : Nat → Int64), sumB w n (fun E => c * f E) = c * sumB w n f := by
  intro n
  induction n with
  | zero => intro f; rfl
  | succ n ih =>
    intro f
    unfold sumB
    rw [ih f, ih (fun E => f (E + 2 ^ n))]
    grind
theorem sumB_zero (w : Nat → Int64) (n : Nat) : sumB w n (fun _ => 0) = 0 := by
  induction n with
  | zero => rfl
  | succ n ih => unfold sumB; rw [ih]; grind
/-- weights that differ at one place -/
def updW (w : Nat → Int64) (i : Nat) (c : Int64) : Nat → Int64 := fun j => if j = i then c else w j
theorem sumB_out (w : Nat → Int64) (i : Nat) (c : Int64) : ∀ (n : Nat) (f : Nat → Int64), n ≤ i → sumB (updW w i c) n f = sumB w n f := by
  intro n
  induction n with
  | zero => intro f _; rfl
  | succ n ih =>
    intro f h
    unfold sumB
    rw [ih _ (by omega), ih _ (by omega), show updW w i c n = w n from if_neg (by omega)]
theorem add_or {E n : Nat} (h : E < 2 ^ n) : E + 2 ^ n = E ||| 2 ^ n := by
  have := Nat.two_pow_add_eq_or_of_lt h 1
  rw [Nat.mul_one] at this
  rw [Nat.add_comm, this, Nat.or_comm]
/-- where the weight i is zero, giving it c adds c times the sum over the sets with i -/
theorem sumB_upd (w : Nat → Int64) (i : Nat) (c : Int64) (h0 : w i = 0) : ∀ (n : Nat) (f : Nat → Int64), i < n → sumB (updW w i c) n f = sumB w n f + c * sumB w n (fun E => if E.testBit i then 0 else f (E ||| 2 ^ i)) := by
  intro n
  induction n with
  | zero => intro f h; omega
  | succ n ih =>
    intro f h
    by_cases hi : i = n
    · subst hi
      unfold sumB
      rw [sumB_out w i c i _ (Nat.le_refl _), sumB_out w i c i _ (Nat.le_refl _), show updW w i c i = c from if_pos rfl, h0]
      have e : sumB w i (fun E => if E.testBit i then 0 else f (E ||| 2 ^ i)) = sumB w i (fun E => f (E + 2 ^ i)) :=
        sumB_congr w i _ _ (fun E hE => by rw [Nat.testBit_lt_two_pow hE, add_or hE]; rfl)
      rw [e]
      grind
    · have hlt : i < n := by omega
      unfold sumB
      rw [ih f hlt, ih (fun E => f (E + 2 ^ n)) hlt, show updW w i c n = w n from if_neg (by omega)]
      have e : sumB w n (fun E => if (E + 2 ^ n).testBit i then 0 else f (E + 2 ^ n ||| 2 ^ i)) = sumB w n (fun E => if E.testBit i then 0 else f ((E ||| 2 ^ i) + 2 ^ n)) :=
        sumB_congr w n _ _ (fun E hE => by
          have hb : (E + 2 ^ n).testBit i = E.testBit i := by rw [Nat.add_comm, Nat.testBit_two_pow_add_gt hlt]
          have h2 : E ||| 2 ^ i < 2 ^ n := Nat.or_lt_two_pow hE (Nat.pow_lt_pow_right (by decide) hlt)
          rw [hb, add_or hE, add_or h2, Nat.or_assoc, Nat.or_assoc, Nat.or_comm (2 ^ n)])
      rw [e]
      grind
/-- the pairs' set of a set of pipes -/
def imgE (e : Nat → Nat) : Nat → Nat → Nat
  | 0, _ => 0
  | p + 1, S => imgE e p S ||| (if S.testBit p then 2 ^ e p else 0)
theorem imgE_s (e : Nat → Nat) (p S : Nat) : imgE e (p + 1) S = imgE e p S ||| (if S.testBit p then 2 ^ e p else 0) := rfl
/-- weights of pairs by pipes -/
def wOf (e : Nat → Nat) (c : Nat → Int64) : Nat → Nat → Int64
  | 0, _ => 0
  | p + 1, i => if i = e p then c p else wOf e c p i
theorem wOf_none (e : Nat → Nat) (c : Nat → Int64) (i : Nat) : ∀ p, (∀ k, k < p → e k ≠ i) → wOf e c p i = 0 := by
  intro p
  induction p with
  | zero => intro _; rfl
  | succ p ih => intro h; unfold wOf; rw [if_neg (fun q => h p (by omega) q.symm)]; exact ih (fun k hk => h k (by omega))
theorem imgE_bit (e : Nat → Nat) (i : Nat) : ∀ (p S : Nat), (imgE e p S).testBit i = true ↔ ∃ k, k < p ∧ S.testBit k = true ∧ e k = i := by
  intro p S
  induction p with
  | zero => simp [imgE]
  | succ p ih =>
    unfold imgE
    rw [Nat.testBit_or, Bool.or_eq_true, ih]
    constructor
    · rintro (⟨k, h1, h2, h3⟩ | h)
      · exact ⟨k, by omega, h2, h3⟩
      · split at h
        · rename_i hp
          rw [Nat.testBit_two_pow] at h
          exact ⟨p, by omega, hp, by simpa using h⟩
        · simp at h
    · rintro ⟨k, h1, h2, h3⟩
      by_cases hk : k = p
      · subst hk
        right
        rw [if_pos h2, Nat.testBit_two_pow, h3]; simp
      · exact Or.inl ⟨k, by omega, h2, h3⟩
theorem imgE_congr (e : Nat → Nat) : ∀ (p S T : Nat), (∀ k, k < p → S.testBit k = T.testBit k) → imgE e p S = imgE e p T := by
  intro p S T
  induction p with
  | zero => intro _; rfl
  | succ p ih => intro h; unfold imgE; rw [ih (fun k hk => h k (by omega)), h p (by omega)]
/-- a sum over sets of pairs, where each pair has at most one pipe -/
theorem sumB_pipes (e : Nat → Nat) (c : Nat → Int64) (n : Nat) : ∀ (p : Nat) (f : Nat → Int64), (∀ k, k < p → e k < n) → (∀ j k, j < p → k < p → e j = e k → j = k) → sumB (wOf e c p) n f = sumB c p (fun S => f (imgE e p S)) := by
  intro p
  induction p with
  | zero =>
    intro f _ _
    have key : ∀ (n : Nat) (f : Nat → Int64), sumB (wOf e c 0) n f = f 0 := by
      intro n
      induction n with
      | zero => intro f; rfl
      | succ n ih => intro f; unfold sumB; rw [ih, show wOf e c 0 n = 0 from rfl]; grind
    exact key n f
  | succ p ih =>
    intro f he hi
    have hw : wOf e c (p + 1) = updW (wOf e c p) (e p) (c p) := rfl
    have he' : ∀ k, k < p → e k < n := fun k hk => he k (by omega)
    have hi' : ∀ j k, j < p → k < p → e j = e k → j = k := fun j k hj hk => hi j k (by omega) (by omega)
    rw [hw, sumB_upd _ _ _ (wOf_none e c (e p) p (fun k hk q => by have := hi k p (by omega) (by omega) q; omega)) n f (he p (by omega)), ih f he' hi', ih _ he' hi']
    show _ = sumB c p (fun S => f (imgE e (p + 1) S)) + c p * sumB c p (fun S => f (imgE e (p + 1) (S + 2 ^ p)))
    have e1 : sumB c p (fun S => f (imgE e (p + 1) S)) = sumB c p (fun S => f (imgE e p S)) :=
      sumB_congr c p _ _ (fun S hS => by rw [imgE_s, Nat.testBit_lt_two_pow hS]; simp)
    have e2 : sumB c p (fun S => f (imgE e (p + 1) (S + 2 ^ p))) = sumB c p (fun S => if (imgE e p S).testBit (e p) then 0 else f (imgE e p S ||| 2 ^ e p)) :=
      sumB_congr c p _ _ (fun S hS => by
        have hn : (imgE e p S).testBit (e p) = false := by
          cases hb : (imgE e p S).testBit (e p) with
          | false => rfl
          | true =>
            obtain ⟨k, h1, h2, h3⟩ := (imgE_bit e (e p) p S).mp hb
            have := hi k p (by omega) (by omega) h3; omega
        have hp : (S + 2 ^ p).testBit p = true := by rw [Nat.add_comm, Nat.testBit_two_pow_add_eq, Nat.testBit_lt_two_pow hS]; rfl
        have hc : imgE e p (S + 2 ^ p) = imgE e p S := imgE_congr e p _ _ (fun k hk => by rw [Nat.add_comm, Nat.testBit_two_pow_add_gt hk])
        rw [hn, imgE_s, hc, hp]
        rfl)
    rw [e1, e2]
/-- the product of the weights of a set -/
def prodB (w : Nat → Int64) : Nat → Nat → Int64
  | 0, _ => 1
  | n + 1, E => if E.testBit n then w n * prodB w n E else prodB w n E
theorem prodB_congr (w : Nat → Int64) : ∀ (n E F : Nat), (∀ i, i < n → E.testBit i = F.testBit i) → prodB w n E = prodB w n F := by
  intro n E F
  induction n with
  | zero => intro _; rfl
  | succ n ih => intro h; unfold prodB; rw [h n (by omega), ih (fun i hi => h i (by omega))]
/-- the sum of one set's term alone -/
theorem sumB_one (w : Nat → Int64) (k : Int64) : ∀ (n E : Nat), E < 2 ^ n → sumB w n (fun F => if F = E then k else 0) = k * prodB w n E := by
  intro n
  induction n with
  | zero =>
    intro E h
    have : E = 0 := by omega
    subst this
    show (if 0 = 0 then k else 0) = k * 1
    rw [if_pos rfl]; grind
  | succ n ih =>
    intro E h
    unfold sumB prodB
    by_cases hb : E.testBit n = true
    · have hge : 2 ^ n ≤ E := Nat.ge_two_pow_of_testBit hb
      rw [Nat.pow_succ] at h
      have e1 : sumB w n (fun F => if F = E then k else 0) = 0 := by
        refine (sumB_congr w n _ (fun _ => 0) (fun F hF => ?_)).trans (sumB_zero w n)
        show (if F = E then k else 0) = 0
        exact if_neg (by omega)
      have e2 : sumB w n (fun F => if F + 2 ^ n = E then k else 0) = sumB w n (fun F => if F = E - 2 ^ n then k else 0) :=
        sumB_congr w n _ _ (fun F hF => by
          by_cases q : F = E - 2 ^ n
          · rw [if_pos q, if_pos (by omega)]
          · rw [if_neg q, if_neg (by omega)])
      rw [e1, e2, ih _ (by omega), if_pos hb, prodB_congr w n (E - 2 ^ n) E (fun i hi => by
        obtain ⟨D, rfl⟩ : ∃ D, E = D + 2 ^ n := ⟨E - 2 ^ n, by omega⟩
        rw [Nat.add_sub_cancel, Nat.add_comm, Nat.testBit_two_pow_add_gt hi])]
      grind
    · have hlt : E < 2 ^ n := by
        rcases Nat.lt_or_ge E (2 ^ n) with q | q
        · exact q
        · exfalso
          apply hb
          rw [Nat.pow_succ] at h
          obtain ⟨D, rfl⟩ : ∃ D, E = D + 2 ^ n := ⟨E - 2 ^ n, by omega⟩
          rw [Nat.add_comm, Nat.testBit_two_pow_add_eq, Nat.testBit_lt_two_pow (by omega)]; rfl
      have e2 : sumB w n (fun F => if F + 2 ^ n = E then k else 0) = 0 := by
        refine (sumB_congr w n _ (fun _ => 0) (fun F hF => ?_)).trans (sumB_zero w n)
        show (if F + 2 ^ n = E then k else 0) = 0
        exact if_neg (by omega)
      rw [e2, ih E hlt, if_neg hb]
      grind
