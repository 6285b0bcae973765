/-! PLAIN LAW, 5: what the flows stand for -/
def hgt (r f : Nat) (M : Nat → Nat → Int64) (v : Nat) : Int64 := if v = r then 0 else mnR r (fun i j => if j = v then (if i = f then 1 else 0) else M i j) r 0 (2 ^ r - 1)
def btEval (w : Nat → Int64) (r f a b : Nat) (l : List Nat) : Int64 := l.foldr (fun E acc => Int64.ofInt (beta r f a b E) * tmono w E + acc) 0
theorem flowList_ev (w : Nat → Int64) (r f a b : Nat) (l : List Nat) : ppEval w ((l.map fun E => (codeOf E, beta r f a b E)).filter fun q => q.2 != 0) = btEval w r f a b l := by
  induction l with
  | nil => rfl
  | cons E l ih =>
    show _ = Int64.ofInt (beta r f a b E) * tmono w E + btEval w r f a b l
    rw [← ih, List.map_cons, List.filter_cons]
    split
    · show Int64.ofInt (beta r f a b E) * ppMono w (codeOf E) + _ = _
      rw [ppMono_code]
    · rename_i h
      have h0 : beta r f a b E = 0 := by simpa using h
      rw [h0, show Int64.ofInt 0 = 0 from rfl]; grind
theorem flowP_at (r f a b : Nat) (h5 : r ≤ 5) (hf : f < r) (hab : a < b) (hb : b ≤ r) : flowP r f a b = flowList r f a b := by
  have hr : r = 1 ∨ r = 2 ∨ r = 3 ∨ r = 4 ∨ r = 5 := by omega
  rcases hr with rfl | rfl | rfl | rfl | rfl
  · exact flowP_1 f hf b (by omega) a hab
  · exact flowP_2 f hf b (by omega) a hab
  · exact flowP_3 f hf b (by omega) a hab
  · exact flowP_4 f hf b (by omega) a hab
  · have e : flowL5 f a b = flowList 5 f a b := by unfold flowList flowL5; rw [TL_5]
    have hf' : f = 0 ∨ f = 1 ∨ f = 2 ∨ f = 3 ∨ f = 4 := by omega
    rcases hf' with rfl | rfl | rfl | rfl | rfl
    · exact (flowP_5_0 b (by omega) a hab).trans e
    · exact (flowP_5_1 b (by omega) a hab).trans e
    · exact (flowP_5_2 b (by omega) a hab).trans e
    · exact (flowP_5_3 b (by omega) a hab).trans e
    · exact (flowP_5_4 b (by omega) a hab).trans e
theorem height_ev (w : Nat → Int64) (r f v : Nat) (M : Nat → Nat → Int64) (hM : ∀ a c, a < r → c < r → M a c = lfEval w (lapL r a c)) : ppEval w (heightP r f v) = hgt r f M v := by
  unfold heightP hgt
  split
  · rfl
  · refine ppMin_ev w r _ (repL r f v) (fun a c ha hc => ⟨fun q hq => ?_, ?_⟩) r 0 _ (by omega)
    · unfold repL at hq
      split at hq
      · split at hq
        · simp only [List.mem_singleton] at hq; subst hq; decide
        · cases hq
      · exact Nat.lt_succ_of_lt (lapL_lt r a c q hq)
    · show (if c = v then (if a = f then 1 else 0) else M a c) = lfEval w (repL r f v a c)
      unfold repL
      split
      · split
        · show (1 : Int64) = Int64.ofInt 1 * wt w 15 + 0
          rfl
        · rfl
      · exact hM a c ha hc
/-- the flow through the pair a, b -/
theorem flow_trees (w : Nat → Int64) (r f a b : Nat) (h5 : r ≤ 5) (hf : f < r) (hab : a < b) (hb : b ≤ r) (M : Nat → Nat → Int64) (hM : ∀ a c, a < r → c < r → M a c = lfEval w (lapL r a c)) :
    w (prI a b) * (hgt r f M a - hgt r f M b) = btEval w r f a b (TL r) := by
  rw [← flowList_ev]
  show _ = ppEval w (flowList r f a b)
  rw [← flowP_at r f a b h5 hf hab hb]
  unfold flowP
  rw [ppEval_mulV w (prI_lt a b), ppEval_add, ppEval_scale, height_ev w r f a M hM, height_ev w r f b M hM, show Int64.ofInt (-1) = -1 from rfl]
  grind
