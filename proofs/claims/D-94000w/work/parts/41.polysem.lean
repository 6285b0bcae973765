/-! PLAIN LAW, 2: what the polynomials stand for -/
theorem i64_ofInt_add (a b : Int) : Int64.ofInt (a + b) = Int64.ofInt a + Int64.ofInt b := Int64.ofInt_add a b
theorem i64_ofInt_mul (a b : Int) : Int64.ofInt (a * b) = Int64.ofInt a * Int64.ofInt b := Int64.ofInt_mul a b
theorem ppMono_0 (w : Nat → Int64) : ppMono w 0 = 1 := by rw [ppMono]; rfl
theorem ppMono_s (w : Nat → Int64) {c : Nat} (h : c ≠ 0) : ppMono w c = w (c % 16 - 1) * ppMono w (c / 16) := by rw [ppMono]; exact dif_neg h
theorem ppMono_c (w : Nat → Int64) {v : Nat} (h : v < 15) (c : Nat) : ppMono w (c * 16 + (v + 1)) = w v * ppMono w c := by
  rw [ppMono_s w (by omega), show (c * 16 + (v + 1)) % 16 - 1 = v by omega, show (c * 16 + (v + 1)) / 16 = c by omega]
theorem ppMono_ins (w : Nat → Int64) {v : Nat} (h : v < 15) : ∀ (f c : Nat), ppMono w (ppIns v f c) = w v * ppMono w c := by
  intro f
  induction f with
  | zero => intro c; exact ppMono_c w h c
  | succ f ih =>
    intro c
    unfold ppIns
    split
    · exact ppMono_c w h c
    · rename_i hc
      have h0 : c ≠ 0 := by
        intro h0
        subst h0
        exact hc (by simp [Nat.beq])
      have e : ppMono w (ppIns v f (c / 16) * 16 + c % 16) = w (c % 16 - 1) * ppMono w (ppIns v f (c / 16)) := by
        by_cases hz : ppIns v f (c / 16) * 16 + c % 16 = 0
        · have : ppIns v f (c / 16) = 0 := by omega
          exfalso
          have key : ∀ f c, ppIns v f c ≠ 0 := by
            intro f
            induction f with
            | zero => intro c; unfold ppIns; omega
            | succ f ih =>
              intro c
              unfold ppIns
              split
              · omega
              · have := ih (c / 16)
                omega
          exact key _ _ this
        · rw [ppMono_s w hz, show (ppIns v f (c / 16) * 16 + c % 16) % 16 = c % 16 by omega, show (ppIns v f (c / 16) * 16 + c % 16) / 16 = ppIns v f (c / 16) by omega]
      rw [e, ih, ppMono_s w h0]
      grind
theorem ppEval_app (w : Nat → Int64) (p q : PP) : ppEval w (p ++ q) = ppEval w p + ppEval w q := by
  induction p with
  | nil => show ppEval w q = 0 + ppEval w q; grind
  | cons a p ih => show _ + ppEval w (p ++ q) = _ + ppEval w p + _; rw [ih]; grind
theorem ppEval_add (w : Nat → Int64) : ∀ (f : Nat) (p q : PP), ppEval w (ppAdd f p q) = ppEval w p + ppEval w q := by
  intro f
  induction f with
  | zero => intro p q; exact ppEval_app w p q
  | succ f ih =>
    intro p q
    match p, q with
    | [], q => unfold ppAdd; show ppEval w q = 0 + ppEval w q; grind
    | a :: p, [] => unfold ppAdd; show ppEval w (a :: p) = ppEval w (a :: p) + 0; grind
    | (c, k) :: p, (d, l) :: q =>
      unfold ppAdd
      split
      · rename_i h
        have h := Nat.eq_of_beq_eq_true h
        subst h
        have e : ppEval w ((c, k) :: p) + ppEval w ((c, l) :: q) = Int64.ofInt (k + l) * ppMono w c + (ppEval w p + ppEval w q) := by
          rw [i64_ofInt_add]
          show Int64.ofInt k * ppMono w c + ppEval w p + (Int64.ofInt l * ppMono w c + ppEval w q) = _
          grind
        rw [e]
        split
        · rename_i h0
          rw [h0, ih]
          have : Int64.ofInt 0 = 0 := rfl
          rw [this]
          grind
        · show Int64.ofInt (k + l) * ppMono w c + ppEval w (ppAdd f p q) = _
          rw [ih]
      · split
        · show Int64.ofInt k * ppMono w c + ppEval w (ppAdd f p ((d, l) :: q)) = Int64.ofInt k * ppMono w c + ppEval w p + ppEval w ((d, l) :: q)
          rw [ih]; grind
        · show Int64.ofInt l * ppMono w d + ppEval w (ppAdd f ((c, k) :: p) q) = ppEval w ((c, k) :: p) + (Int64.ofInt l * ppMono w d + ppEval w q)
          rw [ih]; grind
theorem ppEval_scale (w : Nat → Int64) (s : Int) (p : PP) : ppEval w (ppScale s p) = Int64.ofInt s * ppEval w p := by
  induction p with
  | nil => show (0 : Int64) = Int64.ofInt s * 0; grind
  | cons a p ih =>
    show Int64.ofInt (s * a.2) * ppMono w a.1 + ppEval w (ppScale s p) = Int64.ofInt s * (Int64.ofInt a.2 * ppMono w a.1 + ppEval w p)
    rw [ih, i64_ofInt_mul]; grind
theorem ppEval_mulV (w : Nat → Int64) {v : Nat} (h : v < 15) (p : PP) : ppEval w (ppMulV v p) = w v * ppEval w p := by
  induction p with
  | nil => show (0 : Int64) = w v * 0; grind
  | cons a p ih =>
    show ppEval w (ppAdd 4000 [(ppIns v 8 a.1, a.2)] (ppMulV v p)) = w v * (Int64.ofInt a.2 * ppMono w a.1 + ppEval w p)
    rw [ppEval_add, ih]
    show Int64.ofInt a.2 * ppMono w (ppIns v 8 a.1) + 0 + _ = _
    rw [ppMono_ins w h]; grind
/-- a weight, the constant 1 behind the fifteen -/
def wt (w : Nat → Int64) (v : Nat) : Int64 := if v = 15 then 1 else w v
theorem ppEval_mulT (w : Nat → Int64) {v : Nat} (h : v < 16) (p : PP) : ppEval w (ppMulT v p) = wt w v * ppEval w p := by
  unfold ppMulT wt
  by_cases hv : v = 15
  · subst hv
    rw [if_pos rfl, if_pos (by decide)]; grind
  · rw [if_neg hv, if_neg (fun h => hv (Nat.eq_of_beq_eq_true h))]
    exact ppEval_mulV w (by omega) p
/-- a linear form -/
def lfEval (w : Nat → Int64) (l : List (Nat × Int)) : Int64 := l.foldr (fun q acc => Int64.ofInt q.2 * wt w q.1 + acc) 0
theorem ppEval_mulL (w : Nat → Int64) (l : List (Nat × Int)) (hl : ∀ q ∈ l, q.1 < 16) (p : PP) : ppEval w (ppMulL l p) = lfEval w l * ppEval w p := by
  induction l with
  | nil => show (0 : Int64) = 0 * ppEval w p; grind
  | cons a l ih =>
    show ppEval w (ppAdd 4000 (ppScale a.2 (ppMulT a.1 p)) (ppMulL l p)) = (Int64.ofInt a.2 * wt w a.1 + lfEval w l) * ppEval w p
    rw [ppEval_add, ih (fun q hq => hl q (List.mem_cons_of_mem _ hq)), ppEval_scale, ppEval_mulT w (hl a List.mem_cons_self)]; grind
/-- the determinant as the program takes it, over a matrix of longs -/
def mnLoop (r row cols : Nat) (M : Nat → Nat → Int64) (rec : Nat → Int64) : Nat → Int64 → Int64
  | 0, _ => 0
  | n + 1, sg => if cols.testBit (r - (n + 1)) then sg * M row (r - (n + 1)) * rec (cols - 2 ^ (r - (n + 1))) + mnLoop r row cols M rec n (-sg) else mnLoop r row cols M rec n sg
def mnR (r : Nat) (M : Nat → Nat → Int64) : Nat → Nat → Nat → Int64
  | 0, _, _ => 1
  | f + 1, row, cols => mnLoop r row cols M (mnR r M f (row + 1)) r 1
theorem ppLoop_ev (w : Nat → Int64) (r row cols : Nat) (M : Nat → Nat → Int64) (ML : Nat → Nat → List (Nat × Int)) (rec : Nat → Int64) (recL : Nat → PP) (hM : ∀ c, c < r → (∀ q ∈ ML row c, q.1 < 16) ∧ M row c = lfEval w (ML row c)) (hr : ∀ s, ppEval w (recL s) = rec s) :
    ∀ (n : Nat), n ≤ r → ∀ sg : Int, ppEval w (ppLoop r row cols ML recL n sg) = mnLoop r row cols M rec n (Int64.ofInt sg) := by
  intro n
  induction n with
  | zero => intro _ sg; rfl
  | succ n ih =>
    intro hn sg
    unfold ppLoop mnLoop
    have e : Int64.ofInt (-sg) = -Int64.ofInt sg := Int64.ofInt_neg sg
    split
    · obtain ⟨h1, h2⟩ := hM (r - (n + 1)) (by omega)
      rw [ppEval_add, ppEval_scale, ppEval_mulL w _ h1, hr, ih (by omega), h2, e]; grind
    · exact ih (by omega) sg
theorem ppMin_ev (w : Nat → Int64) (r : Nat) (M : Nat → Nat → Int64) (ML : Nat → Nat → List (Nat × Int)) (hM : ∀ a c, a < r → c < r → (∀ q ∈ ML a c, q.1 < 16) ∧ M a c = lfEval w (ML a c)) :
    ∀ (f row cols : Nat), row + f ≤ r → ppEval w (ppMin r ML f row cols) = mnR r M f row cols := by
  intro f
  induction f with
  | zero => intro row cols _; show Int64.ofInt 1 * ppMono w 0 + 0 = 1; rw [ppMono_0]; rfl
  | succ f ih =>
    intro row cols h
    unfold ppMin mnR
    exact ppLoop_ev w r row cols M ML _ _ (fun c hc => hM row c (by omega) hc) (fun s => ih (row + 1) s (by omega)) r (Nat.le_refl _) 1
/-- a sum over sets of pairs, each the product of its weights -/
def tmono (w : Nat → Int64) (E : Nat) : Int64 := (List.range 15).foldr (fun v c => if E.testBit v then w v * c else c) 1
def tlEval (w : Nat → Int64) (l : List Nat) : Int64 := l.foldr (fun E acc => tmono w E + acc) 0
theorem ppMono_code (w : Nat → Int64) (E : Nat) : ppMono w (codeOf E) = tmono w E := by
  unfold codeOf tmono
  have key : ∀ l : List Nat, (∀ v ∈ l, v < 15) → ppMono w (l.foldr (fun v c => if E.testBit v then c * 16 + (v + 1) else c) 0) = l.foldr (fun v c => if E.testBit v then w v * c else c) 1 := by
    intro l
    induction l with
    | nil => intro _; exact ppMono_0 w
    | cons v l ih =>
      intro h
      have ih := ih (fun v hv => h v (List.mem_cons_of_mem _ hv))
      rw [List.foldr_cons, List.foldr_cons]
      split
      · rw [ppMono_c w (h v List.mem_cons_self), ih]
      · exact ih
  exact key _ (fun v hv => List.mem_range.mp hv)
theorem tl_ev (w : Nat → Int64) (l : List Nat) : ppEval w (l.map (fun E => (codeOf E, 1))) = tlEval w l := by
  induction l with
  | nil => rfl
  | cons E l ih =>
    show Int64.ofInt 1 * ppMono w (codeOf E) + ppEval w (l.map _) = tmono w E + tlEval w l
    rw [ih, ppMono_code]
    have : Int64.ofInt 1 = 1 := rfl
    rw [this]; grind
theorem detP_at (r : Nat) (h1 : 1 ≤ r) (h5 : r ≤ 5) : detP r = (TL r).map (fun E => (codeOf E, 1)) := by
  match r, h1, h5 with
  | 1, _, _ => exact detP_1
  | 2, _, _ => exact detP_2
  | 3, _, _ => exact detP_3
  | 4, _, _ => exact detP_4
  | 5, _, _ => exact detP_5
theorem prI_lt (a b : Nat) : prI a b < 15 := Nat.mod_lt _ (by decide)
theorem lapL_lt (r a b : Nat) : ∀ q ∈ lapL r a b, q.1 < 15 := by
  intro q hq
  unfold lapL at hq
  split at hq
  · obtain ⟨u, _, rfl⟩ := List.mem_map.mp hq; exact prI_lt _ _
  · simp only [List.mem_singleton] at hq; subst hq; exact prI_lt _ _
/-- the matrix-tree theorem on at most six spots -/
theorem det_trees (w : Nat → Int64) (r : Nat) (h1 : 1 ≤ r) (h5 : r ≤ 5) (M : Nat → Nat → Int64) (hM : ∀ a c, a < r → c < r → M a c = lfEval w (lapL r a c)) : mnR r M r 0 (2 ^ r - 1) = tlEval w (TL r) := by
  rw [← tl_ev, ← detP_at r h1 h5]
  exact (ppMin_ev w r M (lapL r) (fun a c ha hc => ⟨fun q hq => Nat.lt_succ_of_lt (lapL_lt r a c q hq), hM a c ha hc⟩) r 0 _ (by omega)).symm
