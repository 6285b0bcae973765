/-! PLAIN LAW, 9: the loop over the subsets of a set, downward -/
theorem sub_pred : ∀ (n own set S : Nat), set ≤ n → set &&& own = set → S &&& own = S → S < set → S ≤ (set - 1) &&& own := by
  intro n
  induction n using Nat.strongRecOn with
  | _ n ih =>
    intro own set S hn h1 h2 h3
    have d1 : set / 2 &&& own / 2 = set / 2 := by rw [← Nat.and_div_two, h1]
    have d2 : S / 2 &&& own / 2 = S / 2 := by rw [← Nat.and_div_two, h2]
    have e1 : ((set - 1) &&& own) / 2 = (set - 1) / 2 &&& own / 2 := Nat.and_div_two
    have m1 : ((set - 1) &&& own) % 2 = 1 ↔ (set - 1) % 2 = 1 ∧ own % 2 = 1 := Nat.and_mod_two_eq_one
    have m2 : (S &&& own) % 2 = 1 ↔ S % 2 = 1 ∧ own % 2 = 1 := Nat.and_mod_two_eq_one
    rw [h2] at m2
    have hS := Nat.mod_two_eq_zero_or_one S
    rcases Nat.mod_two_eq_zero_or_one set with hs | hs
    · have e2 : (set - 1) / 2 = set / 2 - 1 := by omega
      have hlt : S / 2 < set / 2 := by omega
      have := ih (set / 2) (by omega) (own / 2) (set / 2) (S / 2) (Nat.le_refl _) d1 d2 hlt
      rw [e2] at e1
      rw [← e1] at this
      have hodd : (set - 1) % 2 = 1 := by omega
      have hb : S % 2 = 1 → ((set - 1) &&& own) % 2 = 1 := fun h => m1.mpr ⟨hodd, (m2.mp h).2⟩
      rcases hS with h | h
      · omega
      · have := hb h; omega
    · have e2 : (set - 1) / 2 = set / 2 := by omega
      rw [e2, d1] at e1
      omega
theorem sub_and (own x : Nat) : (x &&& own) &&& own = x &&& own := by rw [Nat.and_assoc, Nat.and_self]
/-- the sum over the subsets of own that are not empty and below m -/
def subS (own : Nat) (g : Nat → Int64) : Nat → Int64
  | 0 => 0
  | m + 1 => subS own g m + (if m &&& own = m ∧ m ≠ 0 then g m else 0)
theorem subS_gap (own : Nat) (g : Nat → Int64) (lo : Nat) : ∀ d, (∀ S, lo ≤ S → S < lo + d → ¬ (S &&& own = S ∧ S ≠ 0)) → subS own g (lo + d) = subS own g lo := by
  intro d
  induction d with
  | zero => intro _; rfl
  | succ d ih =>
    intro h
    show subS own g (lo + d) + (if lo + d &&& own = lo + d ∧ lo + d ≠ 0 then g (lo + d) else 0) = subS own g lo
    rw [ih (fun S h1 h2 => h S h1 (by omega)), if_neg (h (lo + d) (by omega) (by omega))]; grind
/-- one round of the loop -/
theorem subS_step (own : Nat) (g : Nat → Int64) (set : Nat) (h1 : set &&& own = set) (h0 : set ≠ 0) : subS own g (set + 1) = g set + subS own g (((set - 1) &&& own) + 1) := by
  show subS own g set + _ = _
  rw [if_pos ⟨h1, h0⟩]
  have hle : (set - 1) &&& own ≤ set - 1 := Nat.and_le_left
  obtain ⟨d, hd⟩ : ∃ d, set = ((set - 1) &&& own) + 1 + d := ⟨set - (((set - 1) &&& own) + 1), by omega⟩
  have := subS_gap own g (((set - 1) &&& own) + 1) d (fun S h2 h3 => by
    rintro ⟨h4, h5⟩
    have := sub_pred set own set S (Nat.le_refl _) h1 h4 (by omega)
    omega)
  rw [← hd] at this
  rw [this]; grind
theorem subS_end (own : Nat) (g : Nat → Int64) : subS own g 1 = 0 := by
  show (0 : Int64) + (if 0 &&& own = 0 ∧ (0 : Nat) ≠ 0 then g 0 else 0) = 0
  rw [if_neg (fun h => h.2 rfl)]; grind
/-- only sets within the weights' support count -/
theorem sumB_supp (w : Nat → Int64) : ∀ (n : Nat) (f g : Nat → Int64), (∀ S, S < 2 ^ n → (∀ k, k < n → S.testBit k = true → w k ≠ 0) → f S = g S) → sumB w n f = sumB w n g := by
  intro n
  induction n with
  | zero => intro f g h; exact h 0 (by decide) (fun k hk => by omega)
  | succ n ih =>
    intro f g h
    unfold sumB
    rw [ih f g (fun S hS hk => h S (by rw [Nat.pow_succ]; omega) (fun k hk1 hk2 => by
      by_cases hkn : k = n
      · subst hkn; rw [Nat.testBit_lt_two_pow hS] at hk2; cases hk2
      · exact hk k (by omega) hk2))]
    by_cases hw : w n = 0
    · rw [hw]; grind
    · rw [ih (fun E => f (E + 2 ^ n)) (fun E => g (E + 2 ^ n)) (fun S hS hk => h _ (by rw [Nat.pow_succ]; omega) (fun k hk1 hk2 => by
        by_cases hkn : k = n
        · subst hkn; exact hw
        · exact hk k (by omega) (by rw [testBit_low (by omega)] at hk2; exact hk2)))]
