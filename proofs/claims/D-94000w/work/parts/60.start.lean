/-! THE START: what holds at the law's entry, as the abstract heap sees it -/
theorem selects_of {C : String} {y : MethodName} {s : State} {args : Array Value} {n n' : Nat} (hy : y.cls ≠ "java/lang/invoke/MethodHandle" ∧ y.cls ≠ "java/lang/invoke/VarHandle") (hC : (Cond.instantiable C n').before args s = true)
    (hins : (Cond.instantiable y.cls n).before args s = true) (hpriv : (Cond.privateMethod y).before args s = true) (hinst : (Cond.instanceMethod y).before args s = true) :
    (Cond.selects C y y).before args s = true := by
  obtain ⟨c0, k0, hc0, -⟩ := Cond.instantiable_spec hC
  obtain ⟨c, k, hc, hk, -, hniab, -, -⟩ := Cond.instantiable_spec hins
  have hni : k.isInterface = false := (Bool.or_eq_false_iff.mp hniab).1
  obtain ⟨mk, methM, hnamed, hmethM, -, -⟩ := Cond.instanceMethod_spec hinst
  have hfound : s.methodFound? y.cls y.name y.desc = some mk := State.methodFound?_of_named hnamed hy
  have hcls : mk.cls = c := Option.some.inj ((findClass_of_methodNamed hnamed).symm.trans hc)
  have hsel : selectMethod {} s.vm c0 mk = .method mk := selectMethod_private hmethM (Cond.privateMethod_at hpriv mk methM hnamed hmethM)
  simp only [Cond.before, Cond.holds, Cond.value, hc0, hfound, hnamed, hsel, hcls, hk]
  simp; exact hni
theorem xsel_at {s : State} {args : Array Value} (hts : ∀ w ∈ lw_tbl, w.before args s = true) : ∀ w ∈ LW, w.before args s = true := by
  intro w hw
  rcases List.mem_append.mp hw with hw | hw
  · have hC : (Cond.instantiable "SlimeNet$PlateReader" 9).before args s = true := hts _ (lw_all_tbl q436)
    have key : ∀ y : MethodName, ∀ n : Nat, (y, n) ∈ lw_privs → (Cond.selects "SlimeNet$PlateReader" y y).before args s = true := by
      intro y n hq
      obtain ⟨h0, h1, h2, h3⟩ := lw_privs_ok _ hq
      have up : ∀ w ∈ tables_1, w ∈ lw_tbl := fun w h => show w ∈ k2_sels lw_privs ++ tables_1 from List.mem_append_right _ h
      exact selects_of h0 hC (hts _ (up _ h1)) (hts _ (up _ h2)) (hts _ (up _ h3))
    simp only [xsel, List.mem_cons, List.not_mem_nil, or_false] at hw
    rcases hw with rfl | rfl | rfl
    · exact key _ 6 (List.mem_of_getElem? (i := 2) rfl)
    · exact key _ 6 (List.mem_of_getElem? (i := 3) rfl)
    · exact key _ 6 (List.mem_of_getElem? (i := 4) rfl)
  · exact hts _ (lw_all_tbl hw)
def clY : List vw_C := [(RX0, TX0, 31), (RX0, TX0, 31), (RX1, TX1, 8), (RX2, TX2, 11), (RX3, TX3, 13), (RX4, TX4, 73), (RX6, TX6, 9), (RX7, TX7, 5), (RJ4, TJ4, 3)]
theorem k_all {args : Array Value} {s : State} (hts : ∀ w ∈ lw_all, w.before args s = true) : ∃ D : va_G, va_K D clX [] s ∧ APX D ∧ SlotIs s (TX6 8).1 (TX6 8).2.1 (TX6 8).2.2.1 (D.2 6 8) := by
  have key : ∀ c : Nat, ∃ p : ClassId × (Nat → Nat), ∀ q, clY[c]? = some q → u_Kn s q.1 q.2.1 q.2.2 p.1 p.2 := by
    have mk : ∀ (R : String) (T : u_T) (N n : Nat), (∀ w ∈ u_ws R T N, w ∈ lw_all) → Cond.instantiable R n ∈ lw_all → ∃ p : ClassId × (Nat → Nat), u_Kn s R T N p.1 p.2 := by
      intro R T N n h1 h2
      obtain ⟨cC, iS, h⟩ := u_known hts h1 (hts _ h2)
      exact ⟨(cC, iS), h⟩
    intro c
    match c with
    | 0 => obtain ⟨p, h⟩ := mk _ _ _ _ in_X0 q94; exact ⟨p, fun q hq => by cases hq; exact h⟩
    | 1 => obtain ⟨p, h⟩ := mk _ _ _ _ in_X0 q94; exact ⟨p, fun q hq => by cases hq; exact h⟩
    | 2 => obtain ⟨p, h⟩ := mk _ _ _ _ in_X1 q102; exact ⟨p, fun q hq => by cases hq; exact h⟩
    | 3 => obtain ⟨p, h⟩ := mk _ _ _ _ in_X2 q169; exact ⟨p, fun q hq => by cases hq; exact h⟩
    | 4 => obtain ⟨p, h⟩ := mk _ _ _ _ in_X3 q261; exact ⟨p, fun q hq => by cases hq; exact h⟩
    | 5 => obtain ⟨p, h⟩ := mk _ _ _ _ in_X4 q1025; exact ⟨p, fun q hq => by cases hq; exact h⟩
    | 6 => obtain ⟨p, h⟩ := mk _ _ _ _ in_X6 q436; exact ⟨p, fun q hq => by cases hq; exact h⟩
    | 7 => obtain ⟨p, h⟩ := mk _ _ _ _ in_X7 q636; exact ⟨p, fun q hq => by cases hq; exact h⟩
    | 8 => obtain ⟨p, h⟩ := mk _ _ _ _ in_J4 q175; exact ⟨p, fun q hq => by cases hq; exact h⟩
    | c + 9 => exact ⟨(0, fun _ => 0), fun q hq => by simp [clY] at hq⟩
  obtain ⟨f, hf⟩ := Classical.axiomOfChoice key
  let D : va_G := (fun c => (f c).1, fun c => (f c).2)
  have hK : va_K D clX [] s := ⟨fun c q hq => by
    match c, hq with
    | 0, hq => cases hq; exact hf 0 _ rfl
    | 1, hq => cases hq; exact hf 1 _ rfl
    | 2, hq => cases hq; exact hf 2 _ rfl
    | 3, hq => cases hq; exact hf 3 _ rfl
    | 4, hq => cases hq; exact hf 4 _ rfl
    | 5, hq => cases hq; exact hf 5 _ rfl
    | 6, hq => cases hq; exact ⟨fun k hk => (hf 6 _ rfl).1 k (Nat.lt_succ_of_lt hk), (hf 6 _ rfl).2⟩
    | 7, hq => cases hq; exact hf 7 _ rfl
    | 8, hq => cases hq; exact hf 8 _ rfl
    | c + 9, hq => simp [clX] at hq, fun k q hq => by simp at hq⟩
  have in6 : ∀ w ∈ u_ws RX6 TX6 8, w ∈ lw_all := by
    intro w hw
    obtain ⟨j, hj, rfl⟩ := List.mem_map.mp hw
    exact in_X6 _ (List.mem_map.mpr ⟨j, List.mem_range.mpr (Nat.lt_succ_of_lt (List.mem_range.mp hj)), rfl⟩)
  refine ⟨D, hK, fun c q hq => ?_, (hf 6 _ rfl).1 8 (by decide)⟩
  match c, hq with
  | 0, hq => cases hq; exact va_apart (own := "") hts in_X0 tyX0 tyX0_ok nmX0 hK (ci := 0) rfl
  | 1, hq => cases hq; exact va_apart (own := "") hts in_X0 tyX0 tyX0_ok nmX0 hK (ci := 1) rfl
  | 2, hq => cases hq; exact va_apart (own := "") hts in_X1 tyX1 tyX1_ok nmX1 hK (ci := 2) rfl
  | 3, hq => cases hq; exact va_apart (own := "") hts in_X2 tyX2 tyX2_ok nmX2 hK (ci := 3) rfl
  | 4, hq => cases hq; exact va_apart (own := "") hts in_X3 tyX3 tyX3_ok nmX3 hK (ci := 4) rfl
  | 5, hq => cases hq; exact va_apart (own := "") hts in_X4 tyX4 tyX4_ok nmX4 hK (ci := 5) rfl
  | 6, hq => cases hq; exact va_apart (own := "") hts in6 tyX6 (fun k hk => tyX6_ok k (Nat.lt_succ_of_lt hk)) (by decide +kernel) hK (ci := 6) rfl
  | 7, hq => cases hq; exact va_apart (own := "") hts in_X7 tyX7 tyX7_ok nmX7 hK (ci := 7) rfl
  | 8, hq => cases hq; exact va_apart (own := "") hts in_J4 tyJ4 tyJ4_ok nmJ4 hK (ci := 8) rfl
  | c + 9, hq => simp [clX] at hq
/-! the heap at the start -/
def pos9 (k : Nat) : Bool := Nat.ble 9 k && Nat.blt k 16
def A00 (hu : Nat → Option Nat) (L : Nat) (xs : Nat → Int32) : AH :=
  ((32, (fun k => if k = 0 then 10 else if k = 1 then 16 else if pos9 k then 11 else 0), (fun k => if k = 0 then L else if pos9 k then (stx.getD (k - 9) []).length else 0)),
   (fun k j => if k = 0 then xs j else if pos9 k then (stx.getD (k - 9) []).getD j 0 else 0), (fun _ _ => 0), (fun _ _ => none), hu)
/-- a static that is a reference or null -/
theorem st_ref {args : Array Value} {s : State} {C n d : String} {z : Nat} (i : Nat) (hz : z = s.heap.size) (h0 : 0 < z) (hl : (Cond.laysStatic C n d).before args s = true) (hini : (Cond.initialized C).before args s = true) (h : (Cond.isRef (.static C n d)).before args s = true) :
    ∃ (o : Option Nat) (a : Nat), a < z ∧ ∀ ad : Nat → Nat, ad i = a → (∀ k, 32 ≤ k → ad k = z + (k - 32)) → va_Z C n d (va_rf (o.map ad)) (fun q => z ≤ q) s s.heap := by
  have hA : ∀ a : Nat, a < s.heap.size → ¬ (z ≤ a) := fun a ha => by omega
  obtain ⟨v, hv, hr⟩ := Cond.isRef_spec h
  cases v with
  | null => exact ⟨none, 0, h0, fun ad _ _ => va_Zof hl hini hv hA⟩
  | ref t =>
    have hZ := va_Zof hl hini hv hA
    by_cases ht : t < z
    · exact ⟨some i, t, ht, fun ad e _ => by show va_Z C n d (.ref (ad i)) _ _ _; rw [e]; exact hZ⟩
    · have ht' : z ≤ t := Nat.not_lt.mp ht
      exact ⟨some (32 + (t - z)), 0, h0, fun ad _ e => by
        show va_Z C n d (.ref (ad (32 + (t - z)))) _ _ _
        rw [e _ (Nat.le_add_right _ _), show z + (32 + (t - z) - 32) = t from by rw [Nat.add_sub_cancel_left]; exact Nat.add_sub_cancel' ht']
        exact hZ⟩
  | _ => cases hr
/-! the String constants -/
def strI : List Nat := [52, 56, 60, 77, 81, 97, 101]
def strJ : List Nat := [149, 154, 159, 164, 110, 116, 118]
def strW : List String := ["spot", "pipe", "food", "salt", "law", "width", "learn"]
def strL : List Nat := [4, 4, 4, 4, 3, 5, 5]
abbrev strTm (i : Nat) : Term := .string "SlimeNet$PlateReader" (strI.getD i 0)
abbrev givenW : Cond := Jvm.Cond.and given_1 narrow_1
theorem str_1 : ∀ i : Nat, i < 7 → Cond.exactly (strTm i) "java/lang/String" ∈ flatC givenW := by decide +kernel
theorem str_2 : ∀ i : Nat, i < 7 → Cond.eq (.field (strTm i) "java/lang/String" "coder" "B") (.int 0) ∈ flatC givenW := by decide +kernel
theorem str_3 : ∀ i : Nat, i < 7 → Cond.arrayOf (.field (strTm i) "java/lang/String" "value" "[B") .byte ∈ flatC givenW := by decide +kernel
theorem str_4 : ∀ i : Nat, i < 7 → Cond.eq (.length (.field (strTm i) "java/lang/String" "value" "[B")) (.int (Int32.ofNat (strL.getD i 0))) ∈ flatC givenW := by decide +kernel
theorem str_5 : ∀ i : Nat, i < 7 → ∀ j : Nat, j < strL.getD i 0 → Cond.eq (.elem (.field (strTm i) "java/lang/String" "value" "[B") (.int (Int32.ofNat j))) (.int ((stx.getD i []).getD j 0)) ∈ flatC givenW := by decide +kernel
theorem str_6 : ∀ i : Nat, i < 7 → ∀ j : Nat, j < 7 → i ≠ j → Cond.not (Cond.eq (strTm i) (strTm j)) ∈ flatC givenW ∨ Cond.not (Cond.eq (strTm j) (strTm i)) ∈ flatC givenW := by decide +kernel
theorem str_7 : ∀ i : Nat, i < 7 → Cond.eq (strTm i) (.string "SlimeNetModel" (strJ.getD i 0)) ∈ flatC givenW := by decide +kernel
theorem str_8 : ∀ i : Nat, i < 7 → Cond.stringRef "SlimeNet$PlateReader" (strI.getD i 0) (strW.getD i "") ∈ lw_tbl ∧ Cond.stringRef "SlimeNetModel" (strJ.getD i 0) (strW.getD i "") ∈ lw_tbl := by
  intro i hi
  match i, hi with
  | 0, _ => exact ⟨q506, q1296⟩
  | 1, _ => exact ⟨q597, q1319⟩
  | 2, _ => exact ⟨q724, q1335⟩
  | 3, _ => exact ⟨q729, q1340⟩
  | 4, _ => exact ⟨q734, q1349⟩
  | 5, _ => exact ⟨q746, q1350⟩
  | 6, _ => exact ⟨q747, q1351⟩
theorem str_9 : ∀ own k i, (own, k, i) ∈ strT → i < 7 ∧ ((own = "SlimeNet$PlateReader" ∧ k = strI.getD i 0) ∨ (own = "SlimeNetModel" ∧ k = strJ.getD i 0)) := by
  intro own k i h
  simp only [strT, List.mem_cons, List.not_mem_nil, or_false, Prod.mk.injEq] at h
  rcases h with ⟨rfl, rfl, rfl⟩ | ⟨rfl, rfl, rfl⟩ | ⟨rfl, rfl, rfl⟩ | ⟨rfl, rfl, rfl⟩ | ⟨rfl, rfl, rfl⟩ | ⟨rfl, rfl, rfl⟩ | ⟨rfl, rfl, rfl⟩ | ⟨rfl, rfl, rfl⟩ | ⟨rfl, rfl, rfl⟩ | ⟨rfl, rfl, rfl⟩ | ⟨rfl, rfl, rfl⟩ | ⟨rfl, rfl, rfl⟩ | ⟨rfl, rfl, rfl⟩ | ⟨rfl, rfl, rfl⟩
  all_goals first | exact ⟨by decide, Or.inl ⟨rfl, rfl⟩⟩ | exact ⟨by decide, Or.inr ⟨rfl, rfl⟩⟩
theorem eq_ref {args : Array Value} {s : State} {t u : Term} {a : Nat} (h : (Cond.eq t u).before args s = true) (ht : t.eval args s none [] s = some (.ref a)) : u.eval args s none [] s = some (.ref a) := by
  simp only [Cond.before, Cond.holds, Cond.value, ht] at h
  cases hu : u.eval args s none [] s with
  | none => simp [hu] at h
  | some w =>
    cases w <;> simp [hu] at h
    rw [h]
theorem str_all {args : Array Value} {s : State} {z : Nat} (hz : z = s.heap.size) (hg : givenW.before args s = true) (hts : ∀ w ∈ lw_tbl, w.before args s = true) : ∃ adK adV : Nat → Nat,
    (∀ i, i < 7 → adK i < z ∧ adV i < z ∧ va_O "java/lang/String" (adK i) (fun q => z ≤ q) s s.heap ∧ va_OF "java/lang/String" "value" "[B" (.ref (adV i)) (adK i) (fun q => z ≤ q) s s.heap ∧ va_OF "java/lang/String" "coder" "B" (.int 0) (adK i) (fun q => z ≤ q) s s.heap ∧
      va_T .byte (adV i) (strL.getD i 0) (fun j => .int ((stx.getD i []).getD j 0)) (fun q => z ≤ q) s s.heap) ∧
    ∀ own k i, (own, k, i) ∈ strT → ∃ tx, vk_R own k tx (adK i) s := by
  have hs := flat_of_before _ hg
  have hA : ∀ a : Nat, a < s.heap.size → ¬ (z ≤ a) := fun a ha => by omega
  obtain ⟨adK, adV, ⟨h1, -⟩, h2⟩ := vk_Sof (args := args) (s := s) (N := 7) (tm := strTm) (len := strL) (byt := stx) (A := fun q => z ≤ q) (by decide) (fun i hi => hs _ (str_1 i hi)) (fun i hi => hs _ (str_2 i hi)) (fun i hi => hs _ (str_3 i hi)) (fun i hi => hs _ (str_4 i hi)) (fun i hi j hj => hs _ (str_5 i hi j hj))
    (fun i j hi hj hn => (str_6 i hi j hj hn).imp (hs _) (hs _)) hA
  refine ⟨adK, adV, fun i hi => ?_, fun own k i h => ?_⟩
  · obtain ⟨o1, o2, o3, o4⟩ := h1 i hi
    obtain ⟨c1, e1, -, -, n1⟩ := id o1
    obtain ⟨c2, e2, -, -, -, -, -⟩ := id o4
    exact ⟨by have := (Array.getElem?_eq_some_iff.mp e1).1; omega, by have := (Array.getElem?_eq_some_iff.mp e2).1; omega, o1, o3, o2, o4⟩
  · obtain ⟨hi, h⟩ := str_9 own k i h
    obtain ⟨g1, g2⟩ := str_8 i hi
    rcases h with ⟨rfl, rfl⟩ | ⟨rfl, rfl⟩
    · exact ⟨strW.getD i "", vk_R.of (hts _ g1) (h2 i hi)⟩
    · exact ⟨strW.getD i "", vk_R.of (hts _ g2) (eq_ref (hs _ (str_7 i hi)) (h2 i hi))⟩
