/-! from the law's own function to the law's walk -/
theorem fresh_same {s t : State} {L : List Loc} {c n : Nat} (h : s.sameButNew t L c n) (hf : ∀ q ∈ L, s.heap.size ≤ q.base) : s.sameButNew t [] c n := by
  obtain ⟨h1, h2, h3, h4, h5, h6⟩ := h
  refine ⟨h1, h2, h3, h4, h5, fun a c hc => ?_⟩
  obtain ⟨c', g1, g2, g3, g4⟩ := h6 a c hc
  exact ⟨c', g1, g2, g3, fun i _ => g4 i (fun hm => absurd (hf _ hm) (Nat.not_le.mpr (Array.getElem?_eq_some_iff.mp hc).1))⟩
def preW (b a1 : Nat) (adK adV : Nat → Nat) (t0 t1 t2 : Nat) (k : Nat) : Nat :=
  if k = 0 then b else if k = 1 then a1 else if k < 9 then adK (k - 2) else if k < 16 then adV (k - 9) else if k = 16 then t0 else if k = 17 then t1 else if k = 18 then t2 else 0
theorem whole_of (pure : ∀ (hu : Nat → Option Nat) (L : Nat) (xs : Nat → Int32), L ≤ 384 → ∃ A1, f_L_law (some 0) (A00 hu L xs) = some (1, A1)) {p : Program} {e : Env} {s : State} {m : MethodId} {below : List Frame} {meth : Method} {c : Code} (l : Launch) {b L : Nat} {xs : Nat → Int32} (hL : L ≤ 384) (C0 : lw_At p s m meth c b L xs) : W p l e room_1 s m #[Value.ref b] below meth c s.heap [] 0 0 (lw_Z below #[Value.ref b] s) (entryFrame m ([Value.ref b] : List Value).toArray 4) := by
  obtain ⟨hx, hb, hret, hml, hown, hts, hX, hbl, hlk, hg⟩ := C0
  obtain ⟨z, hz⟩ : ∃ z, z = s.heap.size := ⟨_, rfl⟩
  have hbl' : b < z := by rw [hz]; exact hbl
  have hz0 : 0 < z := Nat.lt_of_le_of_lt (Nat.zero_le _) hbl'
  have hA : ∀ a : Nat, a < s.heap.size → ¬ (z ≤ a) := fun a ha => by rw [hz]; exact Nat.not_le.mpr ha
  have hs := flat_of_before _ hg
  have hall : ∀ w ∈ lw_all, w.before #[Value.ref b] s = true := fun w h => hts _ (lw_all_tbl h)
  obtain ⟨D, hK, hAP, hSl⟩ := k_all hall
  obtain ⟨adK, adV, hS, hR⟩ := str_all hz hg hts
  obtain ⟨a1, ha1, hT1⟩ := va_Tof (args := #[Value.ref b]) (s := s) (tm := .static "java/util/ArrayList" "DEFAULTCAPACITY_EMPTY_ELEMENTDATA" "[Ljava/lang/Object;") (ty := .object "java/lang/Object") (N := 0) (f := fun _ => .null) (A := fun q => z ≤ q) (by decide) (hs _ (by decide +kernel)) (va_eqt (hs _ (by decide +kernel))) (fun j hj => absurd hj (Nat.not_lt_zero _)) hA
  have hZ1 := va_Zof (A := fun q => z ≤ q) (hts _ q187) (hall _ q77) ha1 hA
  have hZ5 := va_Zof (A := fun q => z ≤ q) (hts _ q522) (hall _ q83) (va_eqt (z := 1) (hs _ (by decide +kernel))) hA
  obtain ⟨o0, t0, ht0, hZ2⟩ := st_ref 16 hz hz0 (hts _ q126) (hall _ q71) (hs _ (by decide +kernel))
  obtain ⟨o1, t1, ht1, hZ3⟩ := st_ref 17 hz hz0 (hts _ q128) (hall _ q71) (hs _ (by decide +kernel))
  obtain ⟨o2, t2, ht2, hZ4⟩ := st_ref 18 hz hz0 (hts _ q538) (hall _ q85) (hs _ (by decide +kernel))
  have ha1z : a1 < z := by
    obtain ⟨cell, e1, -⟩ := hT1
    rw [hz]; exact (Array.getElem?_eq_some_iff.mp e1).1
  let pre := preW b a1 adK adV t0 t1 t2
  let hu : Nat → Option Nat := fun i => if i = 0 then o0 else if i = 1 then o1 else if i = 2 then o2 else none
  have hpre : ∀ i, i < 32 → pre i < z := by
    intro i _
    show preW b a1 adK adV t0 t1 t2 i < z
    unfold preW
    split
    · exact hbl'
    split
    · exact ha1z
    split
    · rename_i h1 h2 h3; exact (hS (i - 2) (by omega)).1
    split
    · rename_i h1 h2 h3 h4; exact (hS (i - 9) (by omega)).2.1
    split
    · exact ht0
    split
    · exact ht1
    split
    · exact ht2
    · exact hz0
  have had : ∀ k, 32 ≤ k → adX pre z k = z + (k - 32) := fun k hk => adX_new hk
  have hE : ENV D pre z hu s := by
    refine ⟨hK, hAP, hpre, Nat.le_of_eq hz, fun a i b n d h q => va_Nw.of rfl (hts _ q), fun a i x h q => va_Nw.of rfl (hts _ q), fun a b q => va_Nw.of rfl (hts _ q), ⟨va_AO.of (hts _ q313), va_AO.of (hts _ q714)⟩,
      ⟨hZ1, hZ2 _ rfl had, hZ3 _ rfl had, hZ4 _ rfl had, hZ5⟩, fun i hi => ?_, fun own k i h => ?_, hSl⟩
    · match i, hi with
      | 0, _ => exact ⟨(hS 0 (by decide)).2.2.1, (hS 0 (by decide)).2.2.2.1, (hS 0 (by decide)).2.2.2.2.1⟩
      | 1, _ => exact ⟨(hS 1 (by decide)).2.2.1, (hS 1 (by decide)).2.2.2.1, (hS 1 (by decide)).2.2.2.2.1⟩
      | 2, _ => exact ⟨(hS 2 (by decide)).2.2.1, (hS 2 (by decide)).2.2.2.1, (hS 2 (by decide)).2.2.2.2.1⟩
      | 3, _ => exact ⟨(hS 3 (by decide)).2.2.1, (hS 3 (by decide)).2.2.2.1, (hS 3 (by decide)).2.2.2.2.1⟩
      | 4, _ => exact ⟨(hS 4 (by decide)).2.2.1, (hS 4 (by decide)).2.2.2.1, (hS 4 (by decide)).2.2.2.2.1⟩
      | 5, _ => exact ⟨(hS 5 (by decide)).2.2.1, (hS 5 (by decide)).2.2.2.1, (hS 5 (by decide)).2.2.2.2.1⟩
      | 6, _ => exact ⟨(hS 6 (by decide)).2.2.1, (hS 6 (by decide)).2.2.2.1, (hS 6 (by decide)).2.2.2.2.1⟩
    · obtain ⟨hi, -⟩ := str_9 own k i h
      obtain ⟨tx, h1⟩ := hR own k i h
      refine ⟨tx, ?_⟩
      match i, hi with
      | 0, _ => exact h1
      | 1, _ => exact h1
      | 2, _ => exact h1
      | 3, _ => exact h1
      | 4, _ => exact h1
      | 5, _ => exact h1
      | 6, _ => exact h1
  have c9 : ∀ i, i < 7 → hk (A00 hu L xs) (9 + i) = 11 ∧ hl (A00 hu L xs) (9 + i) = strL.getD i 0 ∧ (∀ j, hI (A00 hu L xs) (9 + i) j = (stx.getD i []).getD j 0) ∧ pre (9 + i) = adV i := by
    intro i hi
    match i, hi with
    | 0, _ => exact ⟨rfl, rfl, fun _ => rfl, rfl⟩
    | 1, _ => exact ⟨rfl, rfl, fun _ => rfl, rfl⟩
    | 2, _ => exact ⟨rfl, rfl, fun _ => rfl, rfl⟩
    | 3, _ => exact ⟨rfl, rfl, fun _ => rfl, rfl⟩
    | 4, _ => exact ⟨rfl, rfl, fun _ => rfl, rfl⟩
    | 5, _ => exact ⟨rfl, rfl, fun _ => rfl, rfl⟩
    | 6, _ => exact ⟨rfl, rfl, fun _ => rfl, rfl⟩
  have hHW : HW s D pre z hu (A00 hu L xs) s.heap := by
    refine ⟨rfl, by rw [hz]; rfl, Nat.le_refl _, fun k hk0 => ?_, fun k => ?_⟩
    · show k < 32
      by_cases h0 : k = 0
      · omega
      by_cases h1 : k = 1
      · omega
      by_cases h9 : pos9 k = true
      · simp only [pos9, Bool.and_eq_true, Nat.ble_eq, Nat.blt_eq] at h9; omega
      · exact absurd (show hk (A00 hu L xs) k = 0 by show (if k = 0 then 10 else if k = 1 then 16 else if pos9 k then 11 else 0) = 0; rw [if_neg h0, if_neg h1, if_neg h9]) hk0
    · by_cases h0 : k = 0
      · subst h0
        have e0 : hk (A00 hu L xs) 0 = 10 := rfl
        unfold CellOK
        rw [e0]
        obtain ⟨scr, s1, s2, s3, s4, s5⟩ := hX
        refine ⟨fun _ q hq => by simp [clX] at hq, fun ty hty => ?_, fun h => (by cases h), fun h => (by cases h), fun h => (by cases h)⟩
        cases hty
        exact ⟨scr, s1, s2, s3, ⟨Nat.le_of_eq s4.symm, by rw [s4]; rfl⟩, fun j hj => s5 j hj⟩
      by_cases h1 : k = 1
      · subst h1
        have e0 : hk (A00 hu L xs) 1 = 16 := rfl
        unfold CellOK
        rw [e0]
        obtain ⟨cell, s1, s2, s3, s4, s5, s6⟩ := hT1
        refine ⟨fun _ q hq => by simp [clX] at hq, fun ty hty => ?_, fun h => (by cases h), fun h => (by cases h), fun h => (by cases h)⟩
        cases hty
        exact ⟨cell, s1, s2, s3, ⟨Nat.zero_le _, s5⟩, fun j hj => absurd hj (Nat.not_lt_zero _)⟩
      by_cases h9 : pos9 k = true
      · simp only [pos9, Bool.and_eq_true, Nat.ble_eq, Nat.blt_eq] at h9
        obtain ⟨i, rfl⟩ : ∃ i, k = 9 + i := ⟨k - 9, by omega⟩
        have hi : i < 7 := by omega
        obtain ⟨e0, e1, e2, e3⟩ := c9 i hi
        unfold CellOK
        rw [e0, e1]
        obtain ⟨cell, s1, s2, s3, s4, s5, s6, s7⟩ := (hS i hi).2.2.2.2.2
        refine ⟨fun _ q hq => by simp [clX] at hq, fun ty hty => ?_, fun h => (by cases h), fun h => (by cases h), fun h => (by cases h)⟩
        cases hty
        refine ⟨cell, ?_, s2, s3, ⟨s4, s5⟩, fun j hj => ?_⟩
        · rw [show adX pre z (9 + i) = pre (9 + i) from if_pos (by omega), e3]; exact s1
        · rw [av_0 rfl, e2 j]; exact s6 j hj
      · have e0 : hk (A00 hu L xs) k = 0 := by show (if k = 0 then 10 else if k = 1 then 16 else if pos9 k then 11 else 0) = 0; rw [if_neg h0, if_neg h1, if_neg h9]
        unfold CellOK
        rw [e0]
        exact ⟨fun h => absurd rfl h, fun ty hty => (by cases hty), fun h => (by cases h), fun h => (by cases h), fun h => (by cases h)⟩
  obtain ⟨A1, hf⟩ := pure hu L xs hL
  let X : Ctx := ((p, l, e, room_1, s, m, #[Value.ref b]), (below, meth, c), (D, pre, z, hu), (.inl (some (vi 1), A1), 601024, 7293034))
  have hM : MX X yL_law cL_law 4 "SlimeNetLaw" (some Jvm.ClassFile.FieldType.boolean) rm_L_law [] := ⟨⟨hx, hb, hml, hown, xsel_at hts, hret, hlk, hE⟩, rfl, rfl, rfl, fun h => absurd rfl h⟩
  have k := w_f_L_law hM hf rfl
  have k2 : W p l e room_1 s m #[Value.ref b] below meth c s.heap [] 0 0 (XQ X) (entryFrame m ([Value.ref b] : List Value).toArray 4) := by
    rw [lg_entry_eq]
    refine k s.heap [] _ hHW va_S.rf ?_
    have h1 := lv_entry ([vr (some 0)].map (cv (adX pre z))) (n := 4) (by rw [lg_sl_len]; exact Nat.le_of_ble_eq_true rfl)
    show lv_has _ c.maxLocals _
    rw [hml]
    exact h1
  intro T hT X0
  obtain ⟨t, st, o, b1, b2, b3⟩ := k2 T hT X0
  refine ⟨t, st, o, b1, b2, ?_⟩
  rcases b3 with ⟨⟨v, A, hres, ho, -, -⟩, Ls, hFE, hfree⟩ | ⟨q, -, E, ce, Ls, ⟨k', A', hres, -⟩, -⟩
  · cases hres
    exact ⟨ho, ⟨_, ho⟩, hFE.2.1, fresh_same hFE.2.2 (fun q hq => by have := hfree q hq; rw [← hz]; exact this)⟩
  · cases hres
