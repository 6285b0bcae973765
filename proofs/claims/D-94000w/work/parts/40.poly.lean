/-! PLAIN LAW, 1: determinants of Laplacians on at most six spots, as sums over trees; polynomials, normalised -/
/-- a polynomial: monomials (digits base 16, the variable + 1, greatest first) with whole coefficients, ascending -/
abbrev PP : Type := List (Nat × Int)
def ppIns (v : Nat) : Nat → Nat → Nat
  | 0, c => c * 16 + (v + 1)
  | f + 1, c => if Nat.ble (v + 1) (c % 16) || Nat.beq c 0 then c * 16 + (v + 1) else ppIns v f (c / 16) * 16 + c % 16
def ppMono (w : Nat → Int64) (c : Nat) : Int64 := if h : c = 0 then 1 else w (c % 16 - 1) * ppMono w (c / 16)
termination_by c
decreasing_by omega
def ppEval (w : Nat → Int64) : PP → Int64
  | [] => 0
  | (c, k) :: p => Int64.ofInt k * ppMono w c + ppEval w p
def ppAdd : Nat → PP → PP → PP
  | 0, p, q => p ++ q
  | _ + 1, [], q => q
  | _ + 1, p, [] => p
  | f + 1, (c, k) :: p, (d, l) :: q =>
    if Nat.beq c d then (if k + l = 0 then ppAdd f p q else (c, k + l) :: ppAdd f p q)
    else if Nat.blt c d then (c, k) :: ppAdd f p ((d, l) :: q)
    else (d, l) :: ppAdd f ((c, k) :: p) q
def ppScale (s : Int) (p : PP) : PP := p.map fun q => (q.1, s * q.2)
/-- by a variable: sorted again -/
def ppMulV (v : Nat) (p : PP) : PP := p.foldr (fun q acc => ppAdd 4000 [(ppIns v 8 q.1, q.2)] acc) []
/-- a linear form's term; the variable 15 is the constant 1 -/
def ppMulT (v : Nat) (p : PP) : PP := if Nat.beq v 15 then p else ppMulV v p
def ppMulL (l : List (Nat × Int)) (p : PP) : PP := l.foldr (fun q acc => ppAdd 4000 (ppScale q.2 (ppMulT q.1 p)) acc) []
def ppLoop (r row cols : Nat) (M : Nat → Nat → List (Nat × Int)) (rec : Nat → PP) : Nat → Int → PP
  | 0, _ => []
  | n + 1, sg => if cols.testBit (r - (n + 1)) then ppAdd 4000 (ppScale sg (ppMulL (M row (r - (n + 1))) (rec (cols - 2 ^ (r - (n + 1)))))) (ppLoop r row cols M rec n (-sg)) else ppLoop r row cols M rec n sg
def ppMin (r : Nat) (M : Nat → Nat → List (Nat × Int)) : Nat → Nat → Nat → PP
  | 0, _, _ => [(0, 1)]
  | f + 1, row, cols => ppLoop r row cols M (ppMin r M f (row + 1)) r 1
def prI (a b : Nat) : Nat := (if a < b then b * (b - 1) / 2 + a else a * (a - 1) / 2 + b) % 15
def lapL (r a b : Nat) : List (Nat × Int) := if a = b then ((List.range (r + 1)).filter (fun u => u ≠ a)).map (fun u => (prI a u, 1)) else [(prI a b, -1)]
/-- all k-subsets of m things, ascending -/
def combos : Nat → Nat → List Nat
  | _, 0 => [0]
  | 0, _ + 1 => []
  | m + 1, k + 1 => combos m (k + 1) ++ (combos m k).map (· + 2 ^ m)
/-- the pairs' bits and their spots' bits -/
def pairs15 : List (Nat × Nat × Nat) := [(1, 1, 2), (2, 1, 4), (4, 2, 4), (8, 1, 8), (16, 2, 8), (32, 4, 8), (64, 1, 16), (128, 2, 16), (256, 4, 16), (512, 8, 16), (1024, 1, 32), (2048, 2, 32), (4096, 4, 32), (8192, 8, 32), (16384, 16, 32)]
def pairsOf (r : Nat) : List (Nat × Nat × Nat) := pairs15.take (r * (r + 1) / 2)
/-- a number is found first, then handed on -/
def frc (s : Nat) (k : Nat → Nat) : Nat := match s with
  | 0 => k 0
  | n + 1 => k (Nat.succ n)
def frcB (s : Nat) (k : Nat → Bool) : Bool := match s with
  | 0 => k 0
  | n + 1 => k (Nat.succ n)
def stepM (a b s : Nat) : Nat := bif Nat.beq (Nat.land s a) 0 then (bif Nat.beq (Nat.land s b) 0 then s else Nat.lor s a) else Nat.lor s b
def growM : List (Nat × Nat × Nat) → Nat → Nat
  | [], s => s
  | (_, a, b) :: ps, s => frc (stepM a b s) (growM ps)
def growN (ps : List (Nat × Nat × Nat)) : Nat → Nat → Nat
  | 0, s => s
  | n + 1, s => frc (growM ps s) (growN ps n)
def edgesOf (E : Nat) : List (Nat × Nat × Nat) → List (Nat × Nat × Nat)
  | [] => []
  | (i, a, b) :: ps => bif Nat.beq (Nat.land E i) 0 then edgesOf E ps else (i, a, b) :: edgesOf E ps
def conn (r E : Nat) : Bool := frcB E fun E => Nat.beq (growN (edgesOf E (pairsOf r)) r 1) (2 ^ (r + 1) - 1)
def TL (r : Nat) : List Nat := (combos (r * (r + 1) / 2) r).filter (conn r)
def codeOf (E : Nat) : Nat := (List.range 15).foldr (fun v c => if E.testBit v then c * 16 + (v + 1) else c) 0
def detP (r : Nat) : PP := ppMin r (lapL r) r 0 (2 ^ r - 1)
theorem detP_1 : detP 1 = (TL 1).map (fun E => (codeOf E, 1)) := by decide +kernel
theorem detP_2 : detP 2 = (TL 2).map (fun E => (codeOf E, 1)) := by decide +kernel
theorem detP_3 : detP 3 = (TL 3).map (fun E => (codeOf E, 1)) := by decide +kernel
theorem detP_4 : detP 4 = (TL 4).map (fun E => (codeOf E, 1)) := by decide +kernel
theorem detP_5 : detP 5 = (TL 5).map (fun E => (codeOf E, 1)) := by decide +kernel
