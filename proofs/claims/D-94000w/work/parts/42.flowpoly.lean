/-! PLAIN LAW, 3: flows on at most six spots, as sums over trees -/
/-- the matrix with the unit at row f in the place of the column v -/
def repL (r f v a b : Nat) : List (Nat × Int) := if b = v then (if a = f then [(15, 1)] else []) else lapL r a b
def heightP (r f v : Nat) : PP := if v = r then [] else ppMin r (repL r f v) r 0 (2 ^ r - 1)
def betaA (r a A : Nat) : Int := if A.testBit r then 0 else if A.testBit a then 1 else -1
/-- the current that the tree E leads from a to b when a unit comes in at f and goes out at r -/
def beta (r f a b E : Nat) : Int :=
  if E.testBit (prI a b) then
    betaA r a (growN (edgesOf (E ^^^ 2 ^ prI a b) (pairsOf r)) r (2 ^ f))
  else 0
def flowList (r f a b : Nat) : PP := ((TL r).map fun E => (codeOf E, beta r f a b E)).filter fun q => q.2 != 0
def flowP (r f a b : Nat) : PP := ppMulV (prI a b) (ppAdd 4000 (heightP r f a) (ppScale (-1) (heightP r f b)))
theorem flowP_1 : ∀ f, f < 1 → ∀ b, b < 2 → ∀ a, a < b → flowP 1 f a b = flowList 1 f a b := by decide +kernel
theorem flowP_2 : ∀ f, f < 2 → ∀ b, b < 3 → ∀ a, a < b → flowP 2 f a b = flowList 2 f a b := by decide +kernel
theorem flowP_3 : ∀ f, f < 3 → ∀ b, b < 4 → ∀ a, a < b → flowP 3 f a b = flowList 3 f a b := by decide +kernel
theorem flowP_4 : ∀ f, f < 4 → ∀ b, b < 5 → ∀ a, a < b → flowP 4 f a b = flowList 4 f a b := by decide +kernel
