/-! THE ABSTRACT HEAP: cells by number; a pure function over it stands for each method -/
abbrev AV : Type := Int32 ⊕ Int64 ⊕ Option Nat
abbrev AH : Type := (Nat × (Nat → Nat) × (Nat → Nat)) × (Nat → Nat → Int32) × (Nat → Nat → Int64) × (Nat → Nat → Option Nat) × (Nat → Option Nat)
def vi (x : Int32) : AV := .inl x
def vl (x : Int64) : AV := .inr (.inl x)
def vr (r : Option Nat) : AV := .inr (.inr r)
def hn (A : AH) : Nat := A.1.1
def hk (A : AH) : Nat → Nat := A.1.2.1
def hl (A : AH) : Nat → Nat := A.1.2.2
def hI (A : AH) : Nat → Nat → Int32 := A.2.1
def hL (A : AH) : Nat → Nat → Int64 := A.2.2.1
def hR (A : AH) : Nat → Nat → Option Nat := A.2.2.2.1
def hU (A : AH) : Nat → Option Nat := A.2.2.2.2
def up2 {α : Type} (f : Nat → Nat → α) (k j : Nat) (v : α) : Nat → Nat → α := fun k' j' => if k' = k ∧ j' = j then v else f k' j'
def setI (A : AH) (k j : Nat) (v : Int32) : AH := (A.1, up2 A.2.1 k j v, A.2.2)
def setL (A : AH) (k j : Nat) (v : Int64) : AH := (A.1, A.2.1, up2 A.2.2.1 k j v, A.2.2.2)
def setR (A : AH) (k j : Nat) (v : Option Nat) : AH := (A.1, A.2.1, A.2.2.1, up2 A.2.2.2.1 k j v, A.2.2.2.2)
/-- a new cell of kind c and length n, all zero -/
def mkC (c n : Nat) (A : AH) : AH :=
  ((A.1.1 + 1, (fun k => if k = A.1.1 then c else A.1.2.1 k), (fun k => if k = A.1.1 then n else A.1.2.2 k)),
   (fun k j => if k = A.1.1 then 0 else A.2.1 k j), (fun k j => if k = A.1.1 then 0 else A.2.2.1 k j), (fun k j => if k = A.1.1 then none else A.2.2.2.1 k j), A.2.2.2.2)
/-- the first cell that the law makes -/
def np : Nat := 32
/-- field reads: object of kind c, field j -/
def gI (c j : Nat) (A : AH) (r : Option Nat) : Option Int32 := r.bind fun k => if hk A k = c then some (hI A k j) else none
def gL (c j : Nat) (A : AH) (r : Option Nat) : Option Int64 := r.bind fun k => if hk A k = c then some (hL A k j) else none
def gR (c j : Nat) (A : AH) (r : Option Nat) : Option (Option Nat) := r.bind fun k => if hk A k = c then some (hR A k j) else none
/-- field writes -/
def pI (c j : Nat) (A : AH) (r : Option Nat) (v : Int32) : Option AH := r.bind fun k => if hk A k = c ∧ 32 ≤ k then some (setI A k j v) else none
def pZ (c j : Nat) (A : AH) (r : Option Nat) (v : Int32) : Option AH := r.bind fun k => if (hk A k = c ∧ 32 ≤ k) ∧ (v = 0 ∨ v = 1) then some (setI A k j v) else none
def pL (c j : Nat) (A : AH) (r : Option Nat) (v : Int64) : Option AH := r.bind fun k => if hk A k = c ∧ 32 ≤ k then some (setL A k j v) else none
def pR (c j : Nat) (A : AH) (r : Option Nat) (v : Option Nat) : Option AH := r.bind fun k => if hk A k = c ∧ 32 ≤ k then some (setR A k j v) else none
/-- a write that nothing reads, to a PlateReader -/
def pB (A : AH) (r : Option Nat) : Option AH := r.bind fun k => if hk A k = 6 ∧ 32 ≤ k then some A else none
/-- array reads: kind t -/
def aI (t : Nat) (A : AH) (r : Option Nat) (i : Int32) : Option Int32 := r.bind fun k => if hk A k = t ∧ ¬ (i < 0 ∨ hl A k ≤ i.toNatClampNeg) then some (hI A k i.toNatClampNeg) else none
def aL (A : AH) (r : Option Nat) (i : Int32) : Option Int64 := r.bind fun k => if hk A k = 13 ∧ ¬ (i < 0 ∨ hl A k ≤ i.toNatClampNeg) then some (hL A k i.toNatClampNeg) else none
def aR (t : Nat) (A : AH) (r : Option Nat) (i : Int32) : Option (Option Nat) := r.bind fun k => if hk A k = t ∧ ¬ (i < 0 ∨ hl A k ≤ i.toNatClampNeg) then some (hR A k i.toNatClampNeg) else none
/-- array writes -/
def sI (A : AH) (r : Option Nat) (i v : Int32) : Option AH := r.bind fun k => if (hk A k = 10 ∧ 32 ≤ k) ∧ ¬ (i < 0 ∨ hl A k ≤ i.toNatClampNeg) then some (setI A k i.toNatClampNeg v) else none
def sB (A : AH) (r : Option Nat) (i v : Int32) : Option AH := r.bind fun k => if (hk A k = 11 ∧ 32 ≤ k) ∧ ¬ (i < 0 ∨ hl A k ≤ i.toNatClampNeg) then some (setI A k i.toNatClampNeg v.toInt8.toInt32) else none
def sZ (A : AH) (r : Option Nat) (i v : Int32) : Option AH := r.bind fun k => if ((hk A k = 12 ∧ 32 ≤ k) ∧ (v = 0 ∨ v = 1)) ∧ ¬ (i < 0 ∨ hl A k ≤ i.toNatClampNeg) then some (setI A k i.toNatClampNeg v) else none
def sL (A : AH) (r : Option Nat) (i : Int32) (v : Int64) : Option AH := r.bind fun k => if (hk A k = 13 ∧ 32 ≤ k) ∧ ¬ (i < 0 ∨ hl A k ≤ i.toNatClampNeg) then some (setL A k i.toNatClampNeg v) else none
/-- into an array of references of kind t, a thing of kind c -/
def sR (t c : Nat) (A : AH) (r : Option Nat) (i : Int32) (v : Option Nat) : Option AH := r.bind fun k => v.bind fun w => if (hk A k = t ∧ 32 ≤ k) ∧ (hk A w = c ∧ ¬ (i < 0 ∨ hl A k ≤ i.toNatClampNeg)) then some (setR A k i.toNatClampNeg v) else none
def al (t : Nat) (A : AH) (r : Option Nat) : Option Int32 := r.bind fun k => if hk A k = t then some (Int32.ofNat (hl A k)) else none
/-- making an array of kind t, of at most B places -/
def mkB (B t : Nat) (A : AH) (n : Int32) : Option AH := if n < 0 ∨ B < n.toNatClampNeg then none else some (mkC t n.toNatClampNeg A)
def nwC (c : Nat) (A : AH) : Option AH := some (mkC c 0 A)
/-- a receiver of kind c -/
def rcv (c : Nat) (A : AH) (r : Option Nat) : Option Nat := r.bind fun k => if hk A k = c then some k else none
/-- a cast -/
def cst (c : Nat) (A : AH) (r : Option Nat) : Option (Option Nat) := match r with
  | none => some none
  | some k => if hk A k = c then some (some k) else none
def dvI (a b : Int32) : Option Int32 := if b = 0 then none else some (a / b)
def rmI (a b : Int32) : Option Int32 := if b = 0 then none else some (a - a / b * b)
def dvL (a b : Int64) : Option Int64 := if b = 0 then none else some (a / b)
def rmL (a b : Int64) : Option Int64 := if b = 0 then none else some (a - a / b * b)
def ushI (x y : Int32) : Int32 := (x.toUInt32 >>> (y.toUInt32 &&& Int32.toUInt32 31)).toInt32
def mxI (x y : Int32) : Int32 := if x < y then y else x
def mnI (x y : Int32) : Int32 := if y < x then y else x
def abL (x : Int64) : Int64 := if 0 < x then x else -x
def ckB (v : Int32) : Option Int32 := if v.toInt8.toInt32 = v then some v else none
def ckC (v : Int32) : Option Int32 := if v.toUInt32.toUInt16.toUInt32.toInt32 = v then some v else none
/-- the length of an ArrayList's array, the empty one or one of its own -/
def alq (A : AH) (r : Option Nat) : Option Int32 := r.bind fun k => if hk A k = 14 ∨ hk A k = 16 then some (Int32.ofNat (hl A k)) else none
def ckZ (v : Int32) : Option Int32 := if v = 0 ∨ v = 1 then some v else none
/-- the String constants -/
def stx : List (List Int32) := [[115, 112, 111, 116], [112, 105, 112, 101], [102, 111, 111, 100], [115, 97, 108, 116], [108, 97, 119], [119, 105, 100, 116, 104], [108, 101, 97, 114, 110]]
def strV (r : Option Nat) : Option (Option Nat) := r.bind fun k => if 2 ≤ k ∧ k < 9 then some (some (k + 7)) else none
def rcvS (r : Option Nat) : Option Nat := r.bind fun k => if 2 ≤ k ∧ k < 9 then some k else none
def strC (r : Option Nat) : Option Int32 := r.bind fun k => if 2 ≤ k ∧ k < 9 then some 0 else none
/-! loops -/
def whO {σ ε : Type} (s : σ → Option (σ ⊕ ε)) : Nat → σ → Option ε
  | 0, _ => none
  | n + 1, st => (s st).bind fun o => match o with
    | .inl st' => whO s n st'
    | .inr e => some e
theorem whO_more {σ ε : Type} {s : σ → Option (σ ⊕ ε)} {e : ε} : ∀ (n m : Nat) (st : σ), whO s n st = some e → whO s (n + m) st = some e := by
  intro n
  induction n with
  | zero => intro m st h; cases h
  | succ n ih =>
    intro m st h
    rw [Nat.add_right_comm]
    unfold whO at h ⊢
    cases hs : s st with
    | none => rw [hs] at h; cases h
    | some o =>
      rw [hs] at h
      cases o with
      | inl st' => exact ih m st' h
      | inr e' => exact h
noncomputable def whl {σ ε : Type} (s : σ → Option (σ ⊕ ε)) (st : σ) : Option ε := by
  classical
  exact if h : ∃ (e : ε) (n : Nat), whO s n st = some e then some (Classical.choose h) else none
theorem whl_iff {σ ε : Type} {s : σ → Option (σ ⊕ ε)} {st : σ} {e : ε} : whl s st = some e ↔ ∃ n, whO s n st = some e := by
  constructor
  · intro h
    unfold whl at h
    split at h
    · rename_i hx
      cases h
      exact Classical.choose_spec hx
    · cases h
  · intro h
    have hx : ∃ (e : ε) (n : Nat), whO s n st = some e := ⟨e, h⟩
    unfold whl
    rw [dif_pos hx]
    obtain ⟨n, hn⟩ := h
    obtain ⟨m, hm⟩ := Classical.choose_spec hx
    have h1 := whO_more n m st hn
    have h2 := whO_more m n st hm
    rw [Nat.add_comm] at h2
    rw [h1] at h2
    exact h2.symm
theorem whl_inr {σ ε : Type} {s : σ → Option (σ ⊕ ε)} {st : σ} {e : ε} (h : s st = some (.inr e)) : whl s st = some e :=
  whl_iff.mpr ⟨1, by unfold whO; rw [h]; rfl⟩
theorem whl_inl {σ ε : Type} {s : σ → Option (σ ⊕ ε)} {st st' : σ} (h : s st = some (.inl st')) : whl s st = whl s st' := by
  have key : ∀ e, whl s st = some e ↔ whl s st' = some e := by
    intro e
    constructor
    · intro q
      obtain ⟨n, hn⟩ := whl_iff.mp q
      cases n with
      | zero => cases hn
      | succ n =>
        unfold whO at hn
        rw [h] at hn
        exact whl_iff.mpr ⟨n, hn⟩
    · intro q
      obtain ⟨n, hn⟩ := whl_iff.mp q
      exact whl_iff.mpr ⟨n + 1, by unfold whO; rw [h]; exact hn⟩
  cases h1 : whl s st with
  | some e => exact ((key e).mp h1).symm
  | none =>
    cases h2 : whl s st' with
    | none => rfl
    | some e => rw [(key e).mpr h2] at h1; cases h1
/-- the walk's rule: K says what is owed at the head (inl) and behind the loop (inr) -/
theorem whl_ind {σ ε : Type} {s : σ → Option (σ ⊕ ε)} (K : σ ⊕ ε → Prop) (hs : ∀ st out, s st = some out → K out → K (.inl st)) {st : σ} {e : ε} (h : whl s st = some e) (he : K (.inr e)) : K (.inl st) := by
  obtain ⟨n, hn⟩ := whl_iff.mp h
  induction n generalizing st with
  | zero => cases hn
  | succ n ih =>
    unfold whO at hn
    cases ho : s st with
    | none => rw [ho] at hn; cases hn
    | some o =>
      rw [ho] at hn
      cases o with
      | inl st' => exact hs st _ ho (ih (whl_iff.mpr ⟨n, hn⟩) hn)
      | inr e' =>
        cases hn
        exact hs st _ ho he
/-- the same for a loop with a bound on its rounds -/
theorem whO_ind {σ ε : Type} {s : σ → Option (σ ⊕ ε)} (K : Nat → σ ⊕ ε → Prop) (hs : ∀ n st out, s st = some out → K n out → K (n + 1) (.inl st)) (hr : ∀ n e, K 0 (.inr e) → K n (.inr e)) {n : Nat} {st : σ} {e : ε} (h : whO s n st = some e) (he : K 0 (.inr e)) : K n (.inl st) := by
  induction n generalizing st with
  | zero => cases h
  | succ n ih =>
    unfold whO at h
    cases ho : s st with
    | none => rw [ho] at h; cases h
    | some o =>
      rw [ho] at h
      cases o with
      | inl st' => exact hs n st _ ho (ih h)
      | inr e' =>
        cases h
        exact hs n st _ ho (hr n _ he)
/-- counting up -/
theorem whl_up {σ ε : Type} {s : σ → Option (σ ⊕ ε)} (f : Nat → σ) {i e : Nat} {r : ε} (hi : i ≤ e) (hs : ∀ k, i ≤ k → k < e → s (f k) = some (.inl (f (k + 1)))) (he : s (f e) = some (.inr r)) : whl s (f i) = some r := by
  obtain ⟨d, rfl⟩ : ∃ d, e = i + d := ⟨e - i, by omega⟩
  clear hi
  induction d generalizing i with
  | zero => exact whl_inr he
  | succ d ih =>
    rw [whl_inl (hs i (Nat.le_refl _) (by omega))]
    have h := ih (i := i + 1) (fun k h1 h2 => hs k (by omega) (by omega)) (by rw [show i + 1 + d = i + (d + 1) by omega]; exact he)
    exact h
/-- by an invariant and a measure -/
theorem whl_inv {σ ε : Type} {s : σ → Option (σ ⊕ ε)} (I : σ → Prop) (Q : ε → Prop) (μ : σ → Nat) (hs : ∀ st, I st → (∃ st', s st = some (.inl st') ∧ I st' ∧ μ st' < μ st) ∨ ∃ e, s st = some (.inr e) ∧ Q e) (st : σ) (h : I st) : ∃ e, whl s st = some e ∧ Q e := by
  generalize hm : μ st = m
  induction m using Nat.strongRecOn generalizing st with
  | _ m ih =>
    rcases hs st h with ⟨st', h1, h2, h3⟩ | ⟨e, h1, h2⟩
    · obtain ⟨e, h4, h5⟩ := ih (μ st') (by omega) st' h2 rfl
      exact ⟨e, by rw [whl_inl h1]; exact h4, h5⟩
    · exact ⟨e, whl_inr h1, h2⟩
/-- counting up, by an invariant -/
theorem whl_for {σ ε : Type} {s : σ → Option (σ ⊕ ε)} (I : Nat → σ → Prop) (Q : ε → Prop) (e : Nat) (hs : ∀ k st, k < e → I k st → (∃ st', s st = some (.inl st') ∧ I (k + 1) st') ∨ ∃ r, s st = some (.inr r) ∧ Q r) (hx : ∀ st, I e st → ∃ r, s st = some (.inr r) ∧ Q r) (i : Nat) (hi : i ≤ e) (st : σ) (h : I i st) : ∃ r, whl s st = some r ∧ Q r := by
  obtain ⟨d, rfl⟩ : ∃ d, e = i + d := ⟨e - i, by omega⟩
  clear hi
  induction d generalizing i st with
  | zero =>
    obtain ⟨r, h1, h2⟩ := hx st h
    exact ⟨r, whl_inr h1, h2⟩
  | succ d ih =>
    rcases hs i st (by omega) h with ⟨st', h1, h2⟩ | ⟨r, h1, h2⟩
    · rw [whl_inl h1]
      have e1 : i + (d + 1) = i + 1 + d := by omega
      rw [e1] at hs hx
      exact ih (i + 1) st' h2 hs hx
    · exact ⟨r, whl_inr h1, h2⟩
theorem ob_some {α β : Type} {o : Option α} {f : α → Option β} {b : β} (h : o.bind f = some b) : ∃ a, o = some a ∧ f a = some b := by
  cases o with
  | none => cases h
  | some a => exact ⟨a, rfl, h⟩
theorem rcv_spec {c : Nat} {A : AH} {r : Option Nat} {k : Nat} (h : rcv c A r = some k) : r = some k ∧ hk A k = c := by
  obtain ⟨k', h1, h2⟩ := ob_some h
  split at h2
  · rename_i hc
    cases h2
    exact ⟨h1, hc⟩
  · cases h2
theorem rcvS_spec {r : Option Nat} {k : Nat} (h : rcvS r = some k) : r = some k ∧ 2 ≤ k ∧ k < 9 := by
  obtain ⟨k', h1, h2⟩ := ob_some h
  split at h2
  · rename_i hc
    cases h2
    exact ⟨h1, hc⟩
  · cases h2
theorem ckZ_spec {v w : Int32} (h : ckZ v = some w) : w = v ∧ (v = 0 ∨ v = 1) := by
  unfold ckZ at h
  split at h
  · rename_i hc; cases h; exact ⟨rfl, hc⟩
  · cases h
theorem ckB_spec {v w : Int32} (h : ckB v = some w) : w = v ∧ v.toInt8.toInt32 = v := by
  unfold ckB at h
  split at h
  · rename_i hc; cases h; exact ⟨rfl, hc⟩
  · cases h
theorem ckC_spec {v w : Int32} (h : ckC v = some w) : w = v ∧ v.toUInt32.toUInt16.toUInt32.toInt32 = v := by
  unfold ckC at h
  split at h
  · rename_i hc; cases h; exact ⟨rfl, hc⟩
  · cases h
