/-! THE MACHINE OVER THE ABSTRACT HEAP: the judgement G and its rows -/
def xsel : List Cond := [.selects RX6 yX5_see yX5_see, .selects RX6 yX5_isSmall yX5_isSmall, .selects RX6 yX5_isDigit yX5_isDigit]
def LW : List Cond := xsel ++ lw_all
theorem xsel_good : xsel.all goodWord = true := by decide +kernel
theorem lw_LW {w : Cond} (h : w ∈ lw_all) : w ∈ LW := List.mem_append_right _ h
theorem LW_self : GoodIn LW LW := fun w h => ⟨h, by
  rcases List.mem_append.mp h with h | h
  · exact good_of_word (List.all_eq_true.mp xsel_good w h)
  · exact (lw_self w h).2⟩
theorem LW_good {ws : List Cond} (h : ∀ w ∈ ws, w ∈ LW) : GoodIn LW ws := fun w hw => LW_self w (h w hw)
theorem LW_cons {a : Cond} {ws : List Cond} (ha : a ∈ LW) (h : GoodIn LW ws) : GoodIn LW (a :: ws) := fun w hw => by
  rcases List.mem_cons.mp hw with rfl | h1
  · exact LW_self _ ha
  · exact h w h1
abbrev clX : List vw_C := [(RX0, TX0, 31), (RX0, TX0, 31), (RX1, TX1, 8), (RX2, TX2, 11), (RX3, TX3, 13), (RX4, TX4, 73), (RX6, TX6, 8), (RX7, TX7, 5), (RJ4, TJ4, 3)]
def ftX (c : Nat) : Nat → FieldType := match c with
  | 2 => tyX1
  | 3 => tyX2
  | 4 => tyX3
  | 5 => tyX4
  | 6 => tyX6
  | 7 => tyX7
  | 8 => tyJ4
  | _ => tyX0
/-- 0 a number of one slot, 1 a long, 2 a reference -/
def tk : FieldType → Nat
  | .long => 1
  | .object _ => 2
  | .array _ => 2
  | _ => 0
def cvN (t : Nat) (i : Int32) (l : Int64) (r : Value) : Value := match t with
  | 0 => .int i
  | 1 => .long l
  | _ => r
def fvX (ad : Nat → Nat) (A : AH) (c k j : Nat) : Value := cvN (tk (ftX c j)) (hI A k j) (hL A k j) (va_rf ((hR A k j).map ad))
def atX : Nat → Option FieldType
  | 10 => some .int
  | 11 => some .byte
  | 12 => some .boolean
  | 13 => some .long
  | 14 => some (.object "java/lang/Object")
  | 15 => some (.object "SlimeNet$Slime")
  | 16 => some (.object "java/lang/Object")
  | _ => none
def avX (ad : Nat → Nat) (A : AH) (ty : FieldType) (k j : Nat) : Value := cvN (tk ty) (hI A k j) (hL A k j) (va_rf ((hR A k j).map ad))
def ArrC (U : State) (ty : FieldType) (a n : Nat) (V : Nat → Value) (H : Heap) : Prop :=
  ∃ cell : Cell, H[a]? = some cell ∧ U.isArrayOf cell ty ∧ cell.vm ≠ .unknown ∧ (n ≤ cell.slots.size ∧ cell.slots.size.toInt32 = Int32.ofNat n) ∧ ∀ j : Nat, j < n → cell.slots[j]? = some (V j)
def ArrR (U : State) (C : String) (a : Nat) (H : Heap) : Prop :=
  ∃ (cell : Cell) (kA : Class) (comp : ClassId), H[a]? = some cell ∧ (∀ q, cell.vm ≠ .statics q) ∧ U.vm.classes[cell.cls]? = some kA ∧ kA.kind = .array comp (.object C) ∧ U.vm.findClass C = some comp
def Sz8 (n a : Nat) (H : Heap) : Prop := ∃ cell : Cell, H[a]? = some cell ∧ n < cell.slots.size
theorem Sz8.kept {n a : Nat} {H H1 : Heap} (hq : H1[a]? = H[a]?) (h : Sz8 n a H) : Sz8 n a H1 := by
  obtain ⟨cell, h1, h2⟩ := h
  exact ⟨cell, hq.trans h1, h2⟩
def CellOK (U : State) (D : va_G) (ad : Nat → Nat) (A : AH) (H : Heap) (k : Nat) : Prop :=
  (hk A k ≠ 0 → ∀ q, clX[hk A k]? = some q → t_OB (ad k) (D.1 (hk A k)) q.2.2 (D.2 (hk A k)) H (fvX ad A (hk A k) k)) ∧
  (∀ ty, atX (hk A k) = some ty → ArrC U ty (ad k) (hl A k) (avX ad A ty k) H) ∧
  (hk A k = 14 → ArrR U "java/lang/Object" (ad k) H) ∧ (hk A k = 15 → ArrR U "SlimeNet$Slime" (ad k) H) ∧ (hk A k = 6 → Sz8 (D.2 6 8) (ad k) H)
def adX (pre : Nat → Nat) (z k : Nat) : Nat := if k < 32 then pre k else z + (k - 32)
def HW (U : State) (D : va_G) (pre : Nat → Nat) (z : Nat) (hu : Nat → Option Nat) (A : AH) (H : Heap) : Prop :=
  hU A = hu ∧ H.size + 32 = z + hn A ∧ 32 ≤ hn A ∧ (∀ k, hk A k ≠ 0 → k < hn A) ∧ ∀ k, CellOK U D (adX pre z) A H k
theorem adX_new {pre : Nat → Nat} {z k : Nat} (h : 32 ≤ k) : adX pre z k = z + (k - 32) := if_neg (by omega)
theorem adX_ne {pre : Nat → Nat} {z k k' : Nat} (hp : ∀ i, i < 32 → pre i < z) (h : 32 ≤ k) (hn : k' ≠ k) : adX pre z k' ≠ adX pre z k := by
  rw [adX_new h]
  unfold adX
  split
  · rename_i h1
    have := hp _ h1
    omega
  · omega
theorem adX_le {pre : Nat → Nat} {z k : Nat} (h : 32 ≤ k) : z ≤ adX pre z k := by rw [adX_new h]; omega
/-- the slots of each class are apart -/
def APX (D : va_G) : Prop := ∀ (c : Nat) (q : vw_C), clX[c]? = some q → ∀ a b, a < q.2.2 → b < q.2.2 → a ≠ b → D.2 c a ≠ D.2 c b
def strT : List (String × Nat × Nat) := [("SlimeNet$PlateReader", 52, 0), ("SlimeNet$PlateReader", 56, 1), ("SlimeNet$PlateReader", 60, 2), ("SlimeNet$PlateReader", 77, 3), ("SlimeNet$PlateReader", 81, 4), ("SlimeNet$PlateReader", 97, 5), ("SlimeNet$PlateReader", 101, 6), ("SlimeNetModel", 149, 0), ("SlimeNetModel", 154, 1), ("SlimeNetModel", 159, 2), ("SlimeNetModel", 164, 3), ("SlimeNetModel", 110, 4), ("SlimeNetModel", 116, 5), ("SlimeNetModel", 118, 6)]
/-- what holds all along: classes, nest mates, constants -/
def ENV (D : va_G) (pre : Nat → Nat) (z : Nat) (hu : Nat → Option Nat) (U : State) : Prop :=
  va_K D clX [] U ∧ APX D ∧ (∀ i, i < 32 → pre i < z) ∧ z ≤ U.heap.size ∧
  (∀ a i b n d h, Cond.fieldLinkNest a i b n d h ∈ lw_tbl → va_Nw (.fieldLinkNest a i b n d h) U) ∧
  (∀ a i x h, Cond.methodLinkNest a i x h ∈ lw_tbl → va_Nw (.methodLinkNest a i x h) U) ∧
  (∀ a b, Cond.castable a b ∈ lw_tbl → va_Nw (.castable a b) U) ∧
  (va_AO "SlimeNet$Slime" U ∧ va_AO "java/lang/Object" U) ∧
  (va_Z "java/util/ArrayList" "DEFAULTCAPACITY_EMPTY_ELEMENTDATA" "[Ljava/lang/Object;" (.ref (adX pre z 1)) (fun q => z ≤ q) U U.heap ∧
   va_Z "java/lang/Throwable" "UNASSIGNED_STACK" "[Ljava/lang/StackTraceElement;" (va_rf ((hu 0).map (adX pre z))) (fun q => z ≤ q) U U.heap ∧
   va_Z "java/lang/Throwable" "SUPPRESSED_SENTINEL" "Ljava/util/List;" (va_rf ((hu 1).map (adX pre z))) (fun q => z ≤ q) U U.heap ∧
   va_Z "jdk/internal/util/Preconditions" "SIOOBE_FORMATTER" "Ljava/util/function/BiFunction;" (va_rf ((hu 2).map (adX pre z))) (fun q => z ≤ q) U U.heap ∧
   va_Z "java/lang/String" "COMPACT_STRINGS" "Z" (.int 1) (fun q => z ≤ q) U U.heap) ∧
  (∀ i, i < 7 → va_O "java/lang/String" (adX pre z (2 + i)) (fun q => z ≤ q) U U.heap ∧ va_OF "java/lang/String" "value" "[B" (.ref (adX pre z (9 + i))) (adX pre z (2 + i)) (fun q => z ≤ q) U U.heap ∧ va_OF "java/lang/String" "coder" "B" (.int 0) (adX pre z (2 + i)) (fun q => z ≤ q) U U.heap) ∧
  (∀ own k i, (own, k, i) ∈ strT → ∃ tx, vk_R own k tx (adX pre z (2 + i)) U) ∧
  SlotIs U (TX6 8).1 (TX6 8).2.1 (TX6 8).2.2.1 (D.2 6 8)
theorem ENV.to {D : va_G} {pre : Nat → Nat} {z : Nat} {hu : Nat → Option Nat} {s U : State} {locs : List Loc} (h : ENV D pre z hu s) (hW : s.WarmedH U.vm) (hS : va_S (fun q => z ≤ q) s.heap U.heap locs) : ENV D pre z hu U := by
  obtain ⟨h1, h2, h3, h4, h5, h6, h7, h8, ⟨h9, h10, h11, h12, h13⟩, h14, h15, h16⟩ := h
  have al := hW.alike
  exact ⟨h1.moved al, h2, h3, Nat.le_trans h4 hS.1, fun a i b n d h q => (h5 a i b n d h q).warmF hW, fun a i x h q => (h6 a i x h q).warmM hW, fun a b q => (h7 a b q).warmC hW,
    ⟨h8.1.moved al, h8.2.moved al⟩, ⟨(h9.kept hS.2.1).moved al, (h10.kept hS.2.1).moved al, (h11.kept hS.2.1).moved al, (h12.kept hS.2.1).moved al, (h13.kept hS.2.1).moved al⟩,
    fun i hi => ⟨((h14 i hi).1.kept hS.2.1).moved al, ((h14 i hi).2.1.kept hS.2.1).moved al, ((h14 i hi).2.2.kept hS.2.1).moved al⟩,
    fun own k i q => by obtain ⟨tx, r⟩ := h15 own k i q; exact ⟨tx, r.warm hW⟩, slotIs_moved al h16⟩
theorem ENV.calling {D : va_G} {pre : Nat → Nat} {z : Nat} {hu : Nat → Option Nat} {U : State} {g : JFrame} {mk : MethodId} {a : Array Value} (h : ENV D pre z hu U) : ENV D pre z hu (U.calling g mk a) := by
  obtain ⟨h1, h2, h3, h4, h5, h6, h7, h8, ⟨h9, h10, h11, h12, h13⟩, h14, h15, h16⟩ := h
  have al : U.vm.Alike (U.calling g mk a).vm := Vm.Alike.refl U.vm
  exact ⟨h1.moved al, h2, h3, h4, fun a i b n d h q => (h5 a i b n d h q).same rfl rfl, fun a i x h q => (h6 a i x h q).same rfl rfl, fun a b q => (h7 a b q).same rfl rfl,
    ⟨h8.1.moved al, h8.2.moved al⟩, ⟨h9.moved al, h10.moved al, h11.moved al, h12.moved al, h13.moved al⟩,
    fun i hi => ⟨(h14 i hi).1.moved al, (h14 i hi).2.1.moved al, (h14 i hi).2.2.moved al⟩,
    fun own k i q => by obtain ⟨tx, r⟩ := h15 own k i q; exact ⟨tx, r.same rfl⟩, slotIs_moved al h16⟩
theorem ArrC.moved {u U : State} {ty : FieldType} {a n : Nat} {V : Nat → Value} {H : Heap} (al : u.vm.Alike U.vm) (h : ArrC u ty a n V H) : ArrC U ty a n V H := by
  obtain ⟨cell, h1, h2, h3⟩ := h
  exact ⟨cell, h1, State.isArrayOf_alike al h2, h3⟩
theorem ArrR.moved {u U : State} {C : String} {a : Nat} {H : Heap} (al : u.vm.Alike U.vm) (h : ArrR u C a H) : ArrR U C a H := by
  obtain ⟨cell, kA, comp, h1, h2, h3, h4, h5⟩ := h
  obtain ⟨k', hk', he⟩ := al.2.2 _ _ h3
  exact ⟨cell, k', comp, h1, h2, hk', by rw [he]; exact h4, by rw [al.findClass]; exact h5⟩
theorem HW.moved {u U : State} {D : va_G} {pre : Nat → Nat} {z : Nat} {hu : Nat → Option Nat} {A : AH} {H : Heap} (al : u.vm.Alike U.vm) (h : HW u D pre z hu A H) : HW U D pre z hu A H := by
  obtain ⟨h0, h1, h2, h3, h4⟩ := h
  refine ⟨h0, h1, h2, h3, fun k => ?_⟩
  obtain ⟨c1, c2, c3, c4, c5⟩ := h4 k
  exact ⟨c1, fun ty hy => (c2 ty hy).moved al, fun q => (c3 q).moved al, fun q => (c4 q).moved al, c5⟩
theorem ArrC.kept {U : State} {ty : FieldType} {a n : Nat} {V : Nat → Value} {H H1 : Heap} (hq : H1[a]? = H[a]?) (h : ArrC U ty a n V H) : ArrC U ty a n V H1 := by
  obtain ⟨cell, h1, h2⟩ := h
  exact ⟨cell, hq.trans h1, h2⟩
theorem ArrR.kept {U : State} {C : String} {a : Nat} {H H1 : Heap} (hq : H1[a]? = H[a]?) (h : ArrR U C a H) : ArrR U C a H1 := by
  obtain ⟨cell, kA, comp, h1, h2⟩ := h
  exact ⟨cell, kA, comp, hq.trans h1, h2⟩
theorem ArrC.lt {U : State} {ty : FieldType} {a n : Nat} {V : Nat → Value} {H : Heap} (h : ArrC U ty a n V H) : a < H.size := by
  obtain ⟨cell, h1, -⟩ := h
  exact (Array.getElem?_eq_some_iff.mp h1).1
/-- A1 is A but for the cell k0's contents -/
def OffX (A A1 : AH) (k0 : Nat) : Prop := A1.1 = A.1 ∧ hU A1 = hU A ∧ ∀ k, k ≠ k0 → ∀ j, hI A1 k j = hI A k j ∧ hL A1 k j = hL A k j ∧ hR A1 k j = hR A k j
theorem offI (A : AH) (k j : Nat) (v : Int32) : OffX A (setI A k j v) k := ⟨rfl, rfl, fun k' h j' => ⟨if_neg (fun q => h q.1), rfl, rfl⟩⟩
theorem offL (A : AH) (k j : Nat) (v : Int64) : OffX A (setL A k j v) k := ⟨rfl, rfl, fun k' h j' => ⟨rfl, if_neg (fun q => h q.1), rfl⟩⟩
theorem offR (A : AH) (k j : Nat) (v : Option Nat) : OffX A (setR A k j v) k := ⟨rfl, rfl, fun k' h j' => ⟨rfl, rfl, if_neg (fun q => h q.1)⟩⟩
theorem HW.put {U : State} {D : va_G} {pre : Nat → Nat} {z : Nat} {hu : Nat → Option Nat} {A A1 : AH} {H H1 : Heap} {k0 : Nat} (hp : ∀ i, i < 32 → pre i < z) (h : HW U D pre z hu A H) (h0 : 32 ≤ k0) (ho : OffX A A1 k0) (hz : H1.size = H.size) (hq : ∀ q, q ≠ adX pre z k0 → H1[q]? = H[q]?) (hc : CellOK U D (adX pre z) A1 H1 k0) : HW U D pre z hu A1 H1 := by
  obtain ⟨hh, h1, h2, h3, h4⟩ := h
  obtain ⟨o1, oh, o3⟩ := ho
  have e1 : hn A1 = hn A := by unfold hn; rw [o1]
  have e2 : hk A1 = hk A := by unfold hk; rw [o1]
  have e3 : hl A1 = hl A := by unfold hl; rw [o1]
  refine ⟨oh.trans hh, by rw [hz, e1]; exact h1, by rw [e1]; exact h2, by rw [e1, e2]; exact h3, fun k => ?_⟩
  by_cases hk0 : k = k0
  · subst hk0
    exact hc
  · have hne := hq _ (adX_ne (pre := pre) (z := z) hp h0 hk0)
    obtain ⟨c1, c2, c3, c4, c5⟩ := h4 k
    have f1 : fvX (adX pre z) A1 (hk A k) k = fvX (adX pre z) A (hk A k) k := by
      funext j
      obtain ⟨p1, p2, p3⟩ := o3 k hk0 j
      unfold fvX
      rw [p1, p2, p3]
    have f2 : ∀ ty, avX (adX pre z) A1 ty k = avX (adX pre z) A ty k := by
      intro ty
      funext j
      obtain ⟨p1, p2, p3⟩ := o3 k hk0 j
      unfold avX
      rw [p1, p2, p3]
    unfold CellOK
    rw [e2, e3]
    refine ⟨fun q r hr => ?_, fun ty hy => ?_, fun q => (c3 q).kept hne, fun q => (c4 q).kept hne, fun q => (c5 q).kept hne⟩
    · rw [f1]
      exact (c1 q r hr).kept hne
    · rw [f2]
      exact (c2 ty hy).kept hne
abbrev Ctx : Type := (Program × Launch × Env × Room × State × MethodId × Array Value) × (List Frame × Method × Code) × (va_G × (Nat → Nat) × Nat × (Nat → Option Nat)) × (((Option AV × AH) ⊕ (Nat × AH)) × Nat × Nat)
abbrev c_p (X : Ctx) : Program := X.1.1
abbrev c_l (X : Ctx) : Launch := X.1.2.1
abbrev c_e (X : Ctx) : Env := X.1.2.2.1
abbrev c_R (X : Ctx) : Room := X.1.2.2.2.1
abbrev c_s (X : Ctx) : State := X.1.2.2.2.2.1
abbrev c_m (X : Ctx) : MethodId := X.1.2.2.2.2.2.1
abbrev c_a (X : Ctx) : Array Value := X.1.2.2.2.2.2.2
abbrev c_b (X : Ctx) : List Frame := X.2.1.1
abbrev c_me (X : Ctx) : Method := X.2.1.2.1
abbrev c_c (X : Ctx) : Code := X.2.1.2.2
abbrev c_D (X : Ctx) : va_G := X.2.2.1.1
abbrev c_pre (X : Ctx) : Nat → Nat := X.2.2.1.2.1
abbrev c_z (X : Ctx) : Nat := X.2.2.1.2.2.1
abbrev c_hu (X : Ctx) : Nat → Option Nat := X.2.2.1.2.2.2
abbrev c_ad (X : Ctx) : Nat → Nat := adX (c_pre X) (c_z X)
abbrev c_res (X : Ctx) : (Option AV × AH) ⊕ (Nat × AH) := X.2.2.2.1
abbrev c_mc (X : Ctx) : Nat := X.2.2.2.2.1
abbrev c_ms (X : Ctx) : Nat := X.2.2.2.2.2
def cv (ad : Nat → Nat) : AV → Value
  | .inl x => .int x
  | .inr (.inl x) => .long x
  | .inr (.inr r) => va_rf (r.map ad)
def cvl (ad : Nat → Nat) (q : Nat × AV) : Nat × Value := (q.1, cv ad q.2)
def ct : AV → Nat
  | .inr (.inl _) => 2
  | _ => 1
theorem cv_cat (ad : Nat → Nat) (v : AV) : (cv ad v).category = ct v := by
  rcases v with x | x | r
  · rfl
  · rfl
  · cases r <;> rfl
/-- a method's end -/
def QC (D : va_G) (pre : Nat → Nat) (z : Nat) (hu : Nat → Option Nat) (res : (Option AV × AH) ⊕ (Nat × AH)) : Array Value → State → Outcome → State → Prop := fun _ st oc t =>
  ∃ (v : Option AV) (A : AH), res = .inl (v, A) ∧ oc = .returned (v.map (cv (adX pre z))) ∧ HW t D pre z hu A t.heap ∧ va_F (fun q => z ≤ q) st t
def XC (D : va_G) (pre : Nat → Nat) (z : Nat) (hu : Nat → Option Nat) (res : (Option AV × AH) ⊕ (Nat × AH)) : Addr → String → State → State → Prop := fun q E st t =>
  ∃ (k : Nat) (A : AH), res = .inr (k, A) ∧ q = adX pre z k ∧ E = RX1 ∧ HW t D pre z hu A t.heap ∧ va_F (fun q => z ≤ q) st t
def XQ (X : Ctx) : State → Prop := vy_MQ (c_b X) (QC (c_D X) (c_pre X) (c_z X) (c_hu X) (c_res X)) (XC (c_D X) (c_pre X) (c_z X) (c_hu X) (c_res X)) (c_a X) (c_s X) (c_mc X) (c_ms X) (fun q => c_z X ≤ q)
/-- from pc, with these locals, this stack and this heap, the machine comes to the method's end -/
def G (X : Ctx) (cs ss pc : Nat) (L : List (Nat × AV)) (st : List AV) (A : AH) : Prop :=
  ∀ (H : Heap) (locs : List Loc) (ls : Array Slot), HW (c_s X) (c_D X) (c_pre X) (c_z X) (c_hu X) A H → va_S (fun q => c_z X ≤ q) (c_s X).heap H locs → lv_has ls (c_c X).maxLocals (L.map (cvl (c_ad X))) →
    W (c_p X) (c_l X) (c_e X) (c_R X) (c_s X) (c_m X) (c_a X) (c_b X) (c_me X) (c_c X) H locs cs ss (XQ X) (F0 (c_m X) pc ls (st.map (cv (c_ad X))))
/-- the same with the thing k thrown over the frame -/
def GX (X : Ctx) (cs ss pc : Nat) (L : List (Nat × AV)) (st : List AV) (k : Nat) (A : AH) : Prop :=
  ∀ (H : Heap) (locs : List Loc) (ls : Array Slot) (ce : Cell), HW (c_s X) (c_D X) (c_pre X) (c_z X) (c_hu X) A H → va_S (fun q => c_z X ≤ q) (c_s X).heap H locs → lv_has ls (c_c X).maxLocals (L.map (cvl (c_ad X))) →
    H[c_ad X k]? = some ce → ce.vm = .none → (c_s X).vm.findClass RX1 = some ce.cls →
    vy_W (c_p X) (c_l X) (c_e X) (c_R X) (c_s X) (c_m X) (c_a X) (c_b X) (c_me X) (c_c X) H locs cs ss (XQ X) (F0 (c_m X) pc ls (st.map (cv (c_ad X)))) (c_ad X k)
/-- what is fixed all through a method's walk: its code, its number of locals, its class, what it returns, its table -/
def OKX (X : Ctx) (cc : ByteArray) (nL : Nat) (own : String) (ret : Option FieldType) : Prop :=
  (c_p X).tables.exec = Jvm.exec ∧ (c_c X).code = cc ∧ (c_c X).maxLocals = nL ∧ (c_s X).vm.findClass own = some (c_m X).cls ∧ (∀ w ∈ LW, w.before (c_a X) (c_s X) = true) ∧
  (c_me X).sig.returnType = ret ∧ (c_me X).locks = false ∧ ENV (c_D X) (c_pre X) (c_z X) (c_hu X) (c_s X)
section ROWS
variable {X : Ctx} {cc : ByteArray} {nL : Nat} {own : String} {ret : Option FieldType} {cs ss pc : Nat} {L L' : List (Nat × AV)} {st : List AV} {A : AH}
theorem g_sub (k : G X cs ss pc L' st A) (h : ∀ q ∈ L', q ∈ L) : G X cs ss pc L st A := fun H locs ls hH hS hl =>
  k H locs ls hH hS ⟨hl.1, hl.2.1, fun q hq => by
    obtain ⟨q', h1, rfl⟩ := List.mem_map.mp hq
    exact hl.2.2 _ (List.mem_map.mpr ⟨q', h q' h1, rfl⟩)⟩
theorem g_wide {cs' ss' : Nat} (k : G X cs' ss' pc L st A) (h1 : cs ≤ cs') (h2 : ss ≤ ss') : G X cs ss pc L st A := fun H locs ls hH hS hl => W.widen h1 h2 (k H locs ls hH hS hl)
theorem lg_get {ls : Array Slot} {n i : Nat} {v : AV} {ad : Nat → Nat} (hl : lv_has ls n (L.map (cvl ad))) (h : (i, v) ∈ L) : ls[i]? = some (.val (cv ad v)) := hl.2.2 _ (List.mem_map.mpr ⟨(i, v), h, rfl⟩)
theorem lg_at {l : List (Nat × AV)} (k : Nat) {q : Nat × AV} (h : l[k]? = some q) : q ∈ l := List.mem_of_getElem? h
/-- locals behind a store at i -/
def stL1 (L : List (Nat × AV)) (i : Nat) (v : AV) : List (Nat × AV) := (i, v) :: L.filter (fun q => !(q.1 == i) && !(q.1 + 1 == i && ct q.2 == 2))
def stL2 (L : List (Nat × AV)) (i : Nat) (v : AV) : List (Nat × AV) := (i, v) :: L.filter (fun q => !(q.1 == i) && (!(q.1 == i + 1) && !(q.1 + 1 == i && ct q.2 == 2)))
theorem stL1_map (ad : Nat → Nat) (L : List (Nat × AV)) (i : Nat) (v : AV) : (i, cv ad v) :: (L.map (cvl ad)).filter (fun q => !(q.1 == i) && !(q.1 + 1 == i && q.2.category == 2)) = (stL1 L i v).map (cvl ad) := by
  unfold stL1
  rw [List.map_cons, List.filter_map]
  congr 3
  funext q
  simp only [Function.comp, cvl, cv_cat]
theorem stL2_map (ad : Nat → Nat) (L : List (Nat × AV)) (i : Nat) (v : AV) : (i, cv ad v) :: (L.map (cvl ad)).filter (fun q => !(q.1 == i) && (!(q.1 == i + 1) && !(q.1 + 1 == i && q.2.category == 2))) = (stL2 L i v).map (cvl ad) := by
  unfold stL2
  rw [List.map_cons, List.filter_map]
  congr 3
  funext q
  simp only [Function.comp, cvl, cv_cat]
theorem g_iconst (hX : OKX X cc nL own ret) {n : Int} (d : decode cc pc = .ok (.iconst n, 1)) (v : Int32) (hv : Int32.ofInt n = v) (k : G X cs ss (pc + 1) L (vi v :: st) A) : G X cs ss pc L (st) A := fun H locs ls hH hS hl => lv_iconst hX.1 hX.2.1 d hv (k H locs ls hH hS hl)
theorem g_bipush (hX : OKX X cc nL own ret) {n : Int} (d : decode cc pc = .ok (.bipush n, 2)) (v : Int32) (hv : (Int8.ofInt n).toInt32 = v) (k : G X cs ss (pc + 2) L (vi v :: st) A) : G X cs ss pc L (st) A := fun H locs ls hH hS hl => lv_bipush hX.1 hX.2.1 d hv (k H locs ls hH hS hl)
theorem g_sipush (hX : OKX X cc nL own ret) {n : Int} (d : decode cc pc = .ok (.sipush n, 3)) (v : Int32) (hv : (Int16.ofInt n).toInt32 = v) (k : G X cs ss (pc + 3) L (vi v :: st) A) : G X cs ss pc L (st) A := fun H locs ls hH hS hl => lv_sipush hX.1 hX.2.1 d hv (k H locs ls hH hS hl)
theorem g_lconst (hX : OKX X cc nL own ret) {n : Fin 2} (d : decode cc pc = .ok (.lconst n, 1)) (v : Int64) (hv : Int64.ofNat (n : Nat) = v) (k : G X cs ss (pc + 1) L (vl v :: st) A) : G X cs ss pc L (st) A := fun H locs ls hH hS hl => lv_lconst hX.1 hX.2.1 d hv (k H locs ls hH hS hl)
theorem g_ldc (hX : OKX X cc nL own ret) {index : Nat} {v : Int32} (d : decode cc pc = .ok (.ldc index, 2)) (hc : Cond.constant own index v ∈ LW) (k : G X cs ss (pc + 2) L (vi v :: st) A) : G X cs ss pc L (st) A := fun H locs ls hH hS hl => lv_ldc hX.1 hX.2.1 hX.2.2.2.1 (hX.2.2.2.2.1 _ hc) d (k H locs ls hH hS hl)
theorem g_ldcw (hX : OKX X cc nL own ret) {index : Nat} {v : Int32} (d : decode cc pc = .ok (.ldc_w index, 3)) (hc : Cond.constant own index v ∈ LW) (k : G X cs ss (pc + 3) L (vi v :: st) A) : G X cs ss pc L (st) A := fun H locs ls hH hS hl => lv_ldcw hX.1 hX.2.1 hX.2.2.2.1 (hX.2.2.2.2.1 _ hc) d (k H locs ls hH hS hl)
theorem g_ldc2 (hX : OKX X cc nL own ret) {index : Nat} {v : Int64} (d : decode cc pc = .ok (.ldc2_w index, 3)) (hc : Cond.constantLong own index v ∈ LW) (k : G X cs ss (pc + 3) L (vl v :: st) A) : G X cs ss pc L (st) A := fun H locs ls hH hS hl => lv_ldc2 hX.1 hX.2.1 hX.2.2.2.1 (hX.2.2.2.2.1 _ hc) d (k H locs ls hH hS hl)
theorem g_null (hX : OKX X cc nL own ret) (d : decode cc pc = .ok (.aconst_null, 1)) (k : G X cs ss (pc + 1) L (vr none :: st) A) : G X cs ss pc L (st) A := fun H locs ls hH hS hl => lv_null hX.1 hX.2.1 d (k H locs ls hH hS hl)
theorem g_iload_n (hX : OKX X cc nL own ret) {i : Fin 4} {x : Int32} (d : decode cc pc = .ok (.iload_n i, 1)) (h : ((i : Nat), vi x) ∈ L) (k : G X cs ss (pc + 1) L (vi x :: st) A) : G X cs ss pc L (st) A := fun H locs ls hH hS hl => lv_iload_n hX.1 hX.2.1 d rfl (lg_get hl h) (k H locs ls hH hS hl)
theorem g_iload (hX : OKX X cc nL own ret) {i : Nat} {x : Int32} (d : decode cc pc = .ok (.iload i, 2)) (h : (i, vi x) ∈ L) (k : G X cs ss (pc + 2) L (vi x :: st) A) : G X cs ss pc L (st) A := fun H locs ls hH hS hl => lv_iload hX.1 hX.2.1 d (lg_get hl h) (k H locs ls hH hS hl)
theorem g_lload_n (hX : OKX X cc nL own ret) {i : Fin 4} {x : Int64} (d : decode cc pc = .ok (.lload_n i, 1)) (h : ((i : Nat), vl x) ∈ L) (k : G X cs ss (pc + 1) L (vl x :: st) A) : G X cs ss pc L (st) A := fun H locs ls hH hS hl => lv_lload_n hX.1 hX.2.1 d rfl (lg_get hl h) (k H locs ls hH hS hl)
theorem g_lload (hX : OKX X cc nL own ret) {i : Nat} {x : Int64} (d : decode cc pc = .ok (.lload i, 2)) (h : (i, vl x) ∈ L) (k : G X cs ss (pc + 2) L (vl x :: st) A) : G X cs ss pc L (st) A := fun H locs ls hH hS hl => lv_lload hX.1 hX.2.1 d (lg_get hl h) (k H locs ls hH hS hl)
theorem g_aload_n (hX : OKX X cc nL own ret) {i : Fin 4} {x : Option Nat} (d : decode cc pc = .ok (.aload_n i, 1)) (h : ((i : Nat), vr x) ∈ L) (k : G X cs ss (pc + 1) L (vr x :: st) A) : G X cs ss pc L st A := fun H locs ls hH hS hl => by
  have h1 := lg_get hl h
  have h2 := k H locs ls hH hS hl
  cases x with
  | none => exact lv_aload_nN hX.1 hX.2.1 d rfl h1 h2
  | some q => exact lv_aload_n hX.1 hX.2.1 d rfl h1 h2
theorem g_aload (hX : OKX X cc nL own ret) {i : Nat} {x : Option Nat} (d : decode cc pc = .ok (.aload i, 2)) (h : (i, vr x) ∈ L) (k : G X cs ss (pc + 2) L (vr x :: st) A) : G X cs ss pc L st A := fun H locs ls hH hS hl => by
  have h1 := lg_get hl h
  have h2 := k H locs ls hH hS hl
  cases x with
  | none => exact lv_aloadN hX.1 hX.2.1 d h1 h2
  | some q => exact lv_aload hX.1 hX.2.1 d h1 h2
theorem g_istore_n (hX : OKX X cc nL own ret) {i : Fin 4} {x : Int32} (d : decode cc pc = .ok (.istore_n i, 1)) (L' : List (Nat × AV)) (hn : (i : Nat) < nL) (hL : stL1 L (i : Nat) (vi x) = L') (k : G X cs ss (pc + 1) L' st A) : G X cs ss pc L (vi x :: st) A := fun H locs ls hH hS hl => lv_istore_n hX.1 hX.2.1 d rfl hl (by rw [hX.2.2.1]; exact hn) ((stL1_map _ L (i : Nat) (vi x)).trans (by rw [hL])) (fun ls h => k H locs ls hH hS h)
theorem g_istore (hX : OKX X cc nL own ret) {i : Nat} {x : Int32} (d : decode cc pc = .ok (.istore i, 2)) (L' : List (Nat × AV)) (hn : i < nL) (hL : stL1 L i (vi x) = L') (k : G X cs ss (pc + 2) L' st A) : G X cs ss pc L (vi x :: st) A := fun H locs ls hH hS hl => lv_istore hX.1 hX.2.1 d hl (by rw [hX.2.2.1]; exact hn) ((stL1_map _ L i (vi x)).trans (by rw [hL])) (fun ls h => k H locs ls hH hS h)
theorem g_lstore_n (hX : OKX X cc nL own ret) {i : Fin 4} {x : Int64} (d : decode cc pc = .ok (.lstore_n i, 1)) (L' : List (Nat × AV)) (hn : (i : Nat) + 1 < nL) (hL : stL2 L (i : Nat) (vl x) = L') (k : G X cs ss (pc + 1) L' st A) : G X cs ss pc L (vl x :: st) A := fun H locs ls hH hS hl => lv_lstore_n hX.1 hX.2.1 d rfl hl (by rw [hX.2.2.1]; exact hn) ((stL2_map _ L (i : Nat) (vl x)).trans (by rw [hL])) (fun ls h => k H locs ls hH hS h)
theorem g_lstore (hX : OKX X cc nL own ret) {i : Nat} {x : Int64} (d : decode cc pc = .ok (.lstore i, 2)) (L' : List (Nat × AV)) (hn : i + 1 < nL) (hL : stL2 L i (vl x) = L') (k : G X cs ss (pc + 2) L' st A) : G X cs ss pc L (vl x :: st) A := fun H locs ls hH hS hl => lv_lstore hX.1 hX.2.1 d hl (by rw [hX.2.2.1]; exact hn) ((stL2_map _ L i (vl x)).trans (by rw [hL])) (fun ls h => k H locs ls hH hS h)
theorem g_astore_n (hX : OKX X cc nL own ret) {i : Fin 4} {x : Option Nat} (d : decode cc pc = .ok (.astore_n i, 1)) (L' : List (Nat × AV)) (hn : (i : Nat) < nL) (hL : stL1 L (i : Nat) (vr x) = L') (k : G X cs ss (pc + 1) L' st A) : G X cs ss pc L (vr x :: st) A := fun H locs ls hH hS hl => by
  have h1 := (stL1_map (c_ad X) L (i : Nat) (vr x)).trans (by rw [hL])
  have hn' : (i : Nat) < (c_c X).maxLocals := by rw [hX.2.2.1]; exact hn
  cases x with
  | none => exact lv_astore_nN hX.1 hX.2.1 d rfl hl hn' h1 (fun ls h => k H locs ls hH hS h)
  | some q => exact lv_astore_n hX.1 hX.2.1 d rfl hl hn' h1 (fun ls h => k H locs ls hH hS h)
theorem g_astore (hX : OKX X cc nL own ret) {i : Nat} {x : Option Nat} (d : decode cc pc = .ok (.astore i, 2)) (L' : List (Nat × AV)) (hn : i < nL) (hL : stL1 L i (vr x) = L') (k : G X cs ss (pc + 2) L' st A) : G X cs ss pc L (vr x :: st) A := fun H locs ls hH hS hl => by
  have h1 := (stL1_map (c_ad X) L i (vr x)).trans (by rw [hL])
  have hn' : i < (c_c X).maxLocals := by rw [hX.2.2.1]; exact hn
  cases x with
  | none => exact lv_astoreN hX.1 hX.2.1 d hl hn' h1 (fun ls h => k H locs ls hH hS h)
  | some q => exact lv_astore hX.1 hX.2.1 d hl hn' h1 (fun ls h => k H locs ls hH hS h)
theorem g_iinc (hX : OKX X cc nL own ret) {i : Nat} {n : Int} {x : Int32} (d : decode cc pc = .ok (.iinc i n, 3)) (c v : Int32) (L' : List (Nat × AV)) (hv : Int32.ofInt n = c) (he : x + c = v) (h : (i, vi x) ∈ L) (hn : i < nL) (hL : stL1 L i (vi v) = L') (k : G X cs ss (pc + 3) L' st A) : G X cs ss pc L st A := fun H locs ls hH hS hl => by
  obtain ⟨k0, hk0⟩ := List.getElem?_of_mem (List.mem_map.mpr ⟨(i, vi x), h, (rfl : cvl (c_ad X) (i, vi x) = (i, Value.int x))⟩)
  exact lv_iinc hX.1 hX.2.1 d hl hk0 (by rw [hv]; exact he) (by rw [hX.2.2.1]; exact hn) ((stL1_map _ L i (vi v)).trans (by rw [hL])) (fun ls h => k H locs ls hH hS h)
theorem g_iadd (hX : OKX X cc nL own ret) {x y : Int32} (d : decode cc pc = .ok (.iadd, 1)) (k : G X cs ss (pc + 1) L (vi (x + y) :: st) A) : G X cs ss pc L (vi y :: vi x :: st) A := fun H locs ls hH hS hl => lv_iadd hX.1 hX.2.1 d (k H locs ls hH hS hl)
theorem g_isub (hX : OKX X cc nL own ret) {x y : Int32} (d : decode cc pc = .ok (.isub, 1)) (k : G X cs ss (pc + 1) L (vi (x - y) :: st) A) : G X cs ss pc L (vi y :: vi x :: st) A := fun H locs ls hH hS hl => lv_isub hX.1 hX.2.1 d (k H locs ls hH hS hl)
theorem g_imul (hX : OKX X cc nL own ret) {x y : Int32} (d : decode cc pc = .ok (.imul, 1)) (k : G X cs ss (pc + 1) L (vi (x * y) :: st) A) : G X cs ss pc L (vi y :: vi x :: st) A := fun H locs ls hH hS hl => lv_imul hX.1 hX.2.1 d (k H locs ls hH hS hl)
theorem g_iand (hX : OKX X cc nL own ret) {x y : Int32} (d : decode cc pc = .ok (.iand, 1)) (k : G X cs ss (pc + 1) L (vi (x &&& y) :: st) A) : G X cs ss pc L (vi y :: vi x :: st) A := fun H locs ls hH hS hl => lv_iand hX.1 hX.2.1 d (k H locs ls hH hS hl)
theorem g_ior (hX : OKX X cc nL own ret) {x y : Int32} (d : decode cc pc = .ok (.ior, 1)) (k : G X cs ss (pc + 1) L (vi (x ||| y) :: st) A) : G X cs ss pc L (vi y :: vi x :: st) A := fun H locs ls hH hS hl => lv_ior hX.1 hX.2.1 d (k H locs ls hH hS hl)
theorem g_ixor (hX : OKX X cc nL own ret) {x y : Int32} (d : decode cc pc = .ok (.ixor, 1)) (k : G X cs ss (pc + 1) L (vi (x ^^^ y) :: st) A) : G X cs ss pc L (vi y :: vi x :: st) A := fun H locs ls hH hS hl => lv_ixor hX.1 hX.2.1 d (k H locs ls hH hS hl)
theorem g_ishl (hX : OKX X cc nL own ret) {x y : Int32} (d : decode cc pc = .ok (.ishl, 1)) (k : G X cs ss (pc + 1) L (vi (x <<< (y &&& 31)) :: st) A) : G X cs ss pc L (vi y :: vi x :: st) A := fun H locs ls hH hS hl => lv_ishl hX.1 hX.2.1 d (k H locs ls hH hS hl)
theorem g_ishr (hX : OKX X cc nL own ret) {x y : Int32} (d : decode cc pc = .ok (.ishr, 1)) (k : G X cs ss (pc + 1) L (vi (x >>> (y &&& 31)) :: st) A) : G X cs ss pc L (vi y :: vi x :: st) A := fun H locs ls hH hS hl => lv_ishr hX.1 hX.2.1 d (k H locs ls hH hS hl)
theorem g_iushr (hX : OKX X cc nL own ret) {x y : Int32} (d : decode cc pc = .ok (.iushr, 1)) (k : G X cs ss (pc + 1) L (vi (ushI x y) :: st) A) : G X cs ss pc L (vi y :: vi x :: st) A := fun H locs ls hH hS hl => lv_iushr hX.1 hX.2.1 d rfl (k H locs ls hH hS hl)
theorem g_ineg (hX : OKX X cc nL own ret) {x : Int32} (d : decode cc pc = .ok (.ineg, 1)) (k : G X cs ss (pc + 1) L (vi (-x) :: st) A) : G X cs ss pc L (vi x :: st) A := fun H locs ls hH hS hl => lv_ineg hX.1 hX.2.1 d (k H locs ls hH hS hl)
theorem g_ladd (hX : OKX X cc nL own ret) {x y : Int64} (d : decode cc pc = .ok (.ladd, 1)) (k : G X cs ss (pc + 1) L (vl (x + y) :: st) A) : G X cs ss pc L (vl y :: vl x :: st) A := fun H locs ls hH hS hl => lv_ladd hX.1 hX.2.1 d (k H locs ls hH hS hl)
theorem g_lsub (hX : OKX X cc nL own ret) {x y : Int64} (d : decode cc pc = .ok (.lsub, 1)) (k : G X cs ss (pc + 1) L (vl (x - y) :: st) A) : G X cs ss pc L (vl y :: vl x :: st) A := fun H locs ls hH hS hl => lv_lsub hX.1 hX.2.1 d (k H locs ls hH hS hl)
theorem g_lmul (hX : OKX X cc nL own ret) {x y : Int64} (d : decode cc pc = .ok (.lmul, 1)) (k : G X cs ss (pc + 1) L (vl (x * y) :: st) A) : G X cs ss pc L (vl y :: vl x :: st) A := fun H locs ls hH hS hl => lv_lmul hX.1 hX.2.1 d (k H locs ls hH hS hl)
theorem g_lor (hX : OKX X cc nL own ret) {x y : Int64} (d : decode cc pc = .ok (.lor, 1)) (k : G X cs ss (pc + 1) L (vl (x ||| y) :: st) A) : G X cs ss pc L (vl y :: vl x :: st) A := fun H locs ls hH hS hl => lv_lor hX.1 hX.2.1 d (k H locs ls hH hS hl)
theorem g_land (hX : OKX X cc nL own ret) {x y : Int64} (d : decode cc pc = .ok (.land, 1)) (k : G X cs ss (pc + 1) L (vl (x &&& y) :: st) A) : G X cs ss pc L (vl y :: vl x :: st) A := fun H locs ls hH hS hl => lv_land hX.1 hX.2.1 d (k H locs ls hH hS hl)
theorem g_lneg (hX : OKX X cc nL own ret) {x : Int64} (d : decode cc pc = .ok (.lneg, 1)) (k : G X cs ss (pc + 1) L (vl (-x) :: st) A) : G X cs ss pc L (vl x :: st) A := fun H locs ls hH hS hl => lv_lneg hX.1 hX.2.1 d (k H locs ls hH hS hl)
theorem g_lshl (hX : OKX X cc nL own ret) {x : Int64} {y : Int32} (d : decode cc pc = .ok (.lshl, 1)) (k : G X cs ss (pc + 1) L (vl (x <<< (y.toInt64 &&& 63)) :: st) A) : G X cs ss pc L (vi y :: vl x :: st) A := fun H locs ls hH hS hl => lv_lshl hX.1 hX.2.1 d rfl (k H locs ls hH hS hl)
theorem g_i2l (hX : OKX X cc nL own ret) {x : Int32} (d : decode cc pc = .ok (.i2l, 1)) (k : G X cs ss (pc + 1) L (vl x.toInt64 :: st) A) : G X cs ss pc L (vi x :: st) A := fun H locs ls hH hS hl => lv_i2l hX.1 hX.2.1 d rfl (k H locs ls hH hS hl)
theorem g_l2i (hX : OKX X cc nL own ret) {x : Int64} (d : decode cc pc = .ok (.l2i, 1)) (k : G X cs ss (pc + 1) L (vi x.toInt32 :: st) A) : G X cs ss pc L (vl x :: st) A := fun H locs ls hH hS hl => lv_l2i hX.1 hX.2.1 d rfl (k H locs ls hH hS hl)
theorem g_i2b (hX : OKX X cc nL own ret) {x : Int32} (d : decode cc pc = .ok (.i2b, 1)) (k : G X cs ss (pc + 1) L (vi x.toInt8.toInt32 :: st) A) : G X cs ss pc L (vi x :: st) A := fun H locs ls hH hS hl => lv_i2b hX.1 hX.2.1 d rfl (k H locs ls hH hS hl)
theorem g_i2c (hX : OKX X cc nL own ret) {x : Int32} (d : decode cc pc = .ok (.i2c, 1)) (k : G X cs ss (pc + 1) L (vi (x.toUInt32 % 65536).toInt32 :: st) A) : G X cs ss pc L (vi x :: st) A := fun H locs ls hH hS hl => lv_i2c hX.1 hX.2.1 d rfl (k H locs ls hH hS hl)
theorem g_lcmp (hX : OKX X cc nL own ret) {x y : Int64} (d : decode cc pc = .ok (.lcmp, 1)) (k : G X cs ss (pc + 1) L (vi (lg_cmp x y) :: st) A) : G X cs ss pc L (vl y :: vl x :: st) A := fun H locs ls hH hS hl => W.lcmp hX.1 hX.2.1 d (k H locs ls hH hS hl)
theorem g_idiv (hX : OKX X cc nL own ret) {x y : Int32} {α : Type} {F : Int32 → Option α} {o : α} (d : decode cc pc = .ok (.idiv, 1)) (hf : (dvI x y).bind F = some o) (k : ∀ v, dvI x y = some v → F v = some o → G X cs ss (pc + 1) L (vi v :: st) A) : G X cs ss pc L (vi y :: vi x :: st) A := fun H locs ls hH hS hl => by
  obtain ⟨v, h1, h2⟩ := ob_some hf
  have k1 := k v h1 h2 H locs ls hH hS hl
  unfold dvI at h1
  split at h1
  · cases h1
  · rename_i hne
    cases h1
    exact lv_idiv hX.1 hX.2.1 d hne k1
theorem g_irem (hX : OKX X cc nL own ret) {x y : Int32} {α : Type} {F : Int32 → Option α} {o : α} (d : decode cc pc = .ok (.irem, 1)) (hf : (rmI x y).bind F = some o) (k : ∀ v, rmI x y = some v → F v = some o → G X cs ss (pc + 1) L (vi v :: st) A) : G X cs ss pc L (vi y :: vi x :: st) A := fun H locs ls hH hS hl => by
  obtain ⟨v, h1, h2⟩ := ob_some hf
  have k1 := k v h1 h2 H locs ls hH hS hl
  unfold rmI at h1
  split at h1
  · cases h1
  · rename_i hne
    cases h1
    exact lv_irem hX.1 hX.2.1 d hne k1
theorem g_ldiv (hX : OKX X cc nL own ret) {x y : Int64} {α : Type} {F : Int64 → Option α} {o : α} (d : decode cc pc = .ok (.ldiv, 1)) (hf : (dvL x y).bind F = some o) (k : ∀ v, dvL x y = some v → F v = some o → G X cs ss (pc + 1) L (vl v :: st) A) : G X cs ss pc L (vl y :: vl x :: st) A := fun H locs ls hH hS hl => by
  obtain ⟨v, h1, h2⟩ := ob_some hf
  have k1 := k v h1 h2 H locs ls hH hS hl
  unfold dvL at h1
  split at h1
  · cases h1
  · rename_i hne
    cases h1
    exact lv_ldiv hX.1 hX.2.1 d hne k1
theorem g_lrem (hX : OKX X cc nL own ret) {x y : Int64} {α : Type} {F : Int64 → Option α} {o : α} (d : decode cc pc = .ok (.lrem, 1)) (hf : (rmL x y).bind F = some o) (k : ∀ v, rmL x y = some v → F v = some o → G X cs ss (pc + 1) L (vl v :: st) A) : G X cs ss pc L (vl y :: vl x :: st) A := fun H locs ls hH hS hl => by
  obtain ⟨v, h1, h2⟩ := ob_some hf
  have k1 := k v h1 h2 H locs ls hH hS hl
  unfold rmL at h1
  split at h1
  · cases h1
  · rename_i hne
    cases h1
    exact lv_lrem hX.1 hX.2.1 d hne k1
theorem g_dup (hX : OKX X cc nL own ret) {a : AV} (d : decode cc pc = .ok (.dup, 1)) (ha : ct a = 1) (k : G X cs ss (pc + 1) L (a :: a :: st) A) : G X cs ss pc L (a :: st) A := fun H locs ls hH hS hl => lv_dup hX.1 hX.2.1 d ((cv_cat _ _).trans ha) (k H locs ls hH hS hl)
theorem g_pop (hX : OKX X cc nL own ret) {a : AV} (d : decode cc pc = .ok (.pop, 1)) (ha : ct a = 1) (k : G X cs ss (pc + 1) L (st) A) : G X cs ss pc L (a :: st) A := fun H locs ls hH hS hl => lv_pop hX.1 hX.2.1 d ((cv_cat _ _).trans ha) (k H locs ls hH hS hl)
theorem g_dup_x1 (hX : OKX X cc nL own ret) {a b : AV} (d : decode cc pc = .ok (.dup_x1, 1)) (ha : ct a = 1) (hb : ct b = 1) (k : G X cs ss (pc + 1) L (a :: b :: a :: st) A) : G X cs ss pc L (a :: b :: st) A := fun H locs ls hH hS hl => lv_dup_x1 hX.1 hX.2.1 d ((cv_cat _ _).trans ha) ((cv_cat _ _).trans hb) (k H locs ls hH hS hl)
theorem g_dup2 (hX : OKX X cc nL own ret) {a b : AV} (d : decode cc pc = .ok (.dup2, 1)) (ha : ct a = 1) (hb : ct b = 1) (k : G X cs ss (pc + 1) L (a :: b :: a :: b :: st) A) : G X cs ss pc L (a :: b :: st) A := fun H locs ls hH hS hl => lv_dup2_11 hX.1 hX.2.1 d ((cv_cat _ _).trans ha) ((cv_cat _ _).trans hb) (k H locs ls hH hS hl)
theorem g_if_eq (hX : OKX X cc nL own ret) {x : Int32} {off : Int} {α : Type} {P Q : Option α} {o : α} (d : decode cc pc = .ok (.ifCond .eq off, 3)) (tgt : Nat) (hf : (if x = 0 then P else Q) = some o) (ht : (pc : Int) + off = (tgt : Int)) (kp : x = 0 → P = some o → G X cs ss tgt L st A) (kq : ¬ x = 0 → Q = some o → G X cs ss (pc + 3) L st A) : G X cs ss pc L (vi x :: st) A := fun H locs ls hH hS hl => lv_if_eq hX.1 hX.2.1 d ht (fun h => kp h (by rw [if_pos h] at hf; exact hf) H locs ls hH hS hl) (fun h => kq h (by rw [if_neg h] at hf; exact hf) H locs ls hH hS hl)
theorem g_icmp_eq (hX : OKX X cc nL own ret) {x y : Int32} {off : Int} {α : Type} {P Q : Option α} {o : α} (d : decode cc pc = .ok (.if_icmp .eq off, 3)) (tgt : Nat) (hf : (if x = y then P else Q) = some o) (ht : (pc : Int) + off = (tgt : Int)) (kp : x = y → P = some o → G X cs ss tgt L st A) (kq : ¬ x = y → Q = some o → G X cs ss (pc + 3) L st A) : G X cs ss pc L (vi y :: vi x :: st) A := fun H locs ls hH hS hl => lv_icmp_eq hX.1 hX.2.1 d ht (fun h => kp h (by rw [if_pos h] at hf; exact hf) H locs ls hH hS hl) (fun h => kq h (by rw [if_neg h] at hf; exact hf) H locs ls hH hS hl)
theorem g_if_ne (hX : OKX X cc nL own ret) {x : Int32} {off : Int} {α : Type} {P Q : Option α} {o : α} (d : decode cc pc = .ok (.ifCond .ne off, 3)) (tgt : Nat) (hf : (if x = 0 then P else Q) = some o) (ht : (pc : Int) + off = (tgt : Int)) (kq : ¬ x = 0 → Q = some o → G X cs ss tgt L st A) (kp : x = 0 → P = some o → G X cs ss (pc + 3) L st A) : G X cs ss pc L (vi x :: st) A := fun H locs ls hH hS hl => lv_if_ne hX.1 hX.2.1 d ht (fun h => kq h (by rw [if_neg h] at hf; exact hf) H locs ls hH hS hl) (fun h => kp h (by rw [if_pos h] at hf; exact hf) H locs ls hH hS hl)
theorem g_icmp_ne (hX : OKX X cc nL own ret) {x y : Int32} {off : Int} {α : Type} {P Q : Option α} {o : α} (d : decode cc pc = .ok (.if_icmp .ne off, 3)) (tgt : Nat) (hf : (if x = y then P else Q) = some o) (ht : (pc : Int) + off = (tgt : Int)) (kq : ¬ x = y → Q = some o → G X cs ss tgt L st A) (kp : x = y → P = some o → G X cs ss (pc + 3) L st A) : G X cs ss pc L (vi y :: vi x :: st) A := fun H locs ls hH hS hl => lv_icmp_ne hX.1 hX.2.1 d ht (fun h => kq h (by rw [if_neg h] at hf; exact hf) H locs ls hH hS hl) (fun h => kp h (by rw [if_pos h] at hf; exact hf) H locs ls hH hS hl)
theorem g_if_lt (hX : OKX X cc nL own ret) {x : Int32} {off : Int} {α : Type} {P Q : Option α} {o : α} (d : decode cc pc = .ok (.ifCond .lt off, 3)) (tgt : Nat) (hf : (if x < 0 then P else Q) = some o) (ht : (pc : Int) + off = (tgt : Int)) (kp : x < 0 → P = some o → G X cs ss tgt L st A) (kq : ¬ x < 0 → Q = some o → G X cs ss (pc + 3) L st A) : G X cs ss pc L (vi x :: st) A := fun H locs ls hH hS hl => lv_if_lt hX.1 hX.2.1 d ht (fun h => kp h (by rw [if_pos h] at hf; exact hf) H locs ls hH hS hl) (fun h => kq h (by rw [if_neg h] at hf; exact hf) H locs ls hH hS hl)
theorem g_icmp_lt (hX : OKX X cc nL own ret) {x y : Int32} {off : Int} {α : Type} {P Q : Option α} {o : α} (d : decode cc pc = .ok (.if_icmp .lt off, 3)) (tgt : Nat) (hf : (if x < y then P else Q) = some o) (ht : (pc : Int) + off = (tgt : Int)) (kp : x < y → P = some o → G X cs ss tgt L st A) (kq : ¬ x < y → Q = some o → G X cs ss (pc + 3) L st A) : G X cs ss pc L (vi y :: vi x :: st) A := fun H locs ls hH hS hl => lv_icmp_lt hX.1 hX.2.1 d ht (fun h => kp h (by rw [if_pos h] at hf; exact hf) H locs ls hH hS hl) (fun h => kq h (by rw [if_neg h] at hf; exact hf) H locs ls hH hS hl)
theorem g_if_ge (hX : OKX X cc nL own ret) {x : Int32} {off : Int} {α : Type} {P Q : Option α} {o : α} (d : decode cc pc = .ok (.ifCond .ge off, 3)) (tgt : Nat) (hf : (if 0 ≤ x then P else Q) = some o) (ht : (pc : Int) + off = (tgt : Int)) (kp : 0 ≤ x → P = some o → G X cs ss tgt L st A) (kq : ¬ 0 ≤ x → Q = some o → G X cs ss (pc + 3) L st A) : G X cs ss pc L (vi x :: st) A := fun H locs ls hH hS hl => lv_if_ge hX.1 hX.2.1 d ht (fun h => kp h (by rw [if_pos h] at hf; exact hf) H locs ls hH hS hl) (fun h => kq h (by rw [if_neg h] at hf; exact hf) H locs ls hH hS hl)
theorem g_icmp_ge (hX : OKX X cc nL own ret) {x y : Int32} {off : Int} {α : Type} {P Q : Option α} {o : α} (d : decode cc pc = .ok (.if_icmp .ge off, 3)) (tgt : Nat) (hf : (if y ≤ x then P else Q) = some o) (ht : (pc : Int) + off = (tgt : Int)) (kp : y ≤ x → P = some o → G X cs ss tgt L st A) (kq : ¬ y ≤ x → Q = some o → G X cs ss (pc + 3) L st A) : G X cs ss pc L (vi y :: vi x :: st) A := fun H locs ls hH hS hl => lv_icmp_ge hX.1 hX.2.1 d ht (fun h => kp h (by rw [if_pos h] at hf; exact hf) H locs ls hH hS hl) (fun h => kq h (by rw [if_neg h] at hf; exact hf) H locs ls hH hS hl)
theorem g_if_gt (hX : OKX X cc nL own ret) {x : Int32} {off : Int} {α : Type} {P Q : Option α} {o : α} (d : decode cc pc = .ok (.ifCond .gt off, 3)) (tgt : Nat) (hf : (if 0 < x then P else Q) = some o) (ht : (pc : Int) + off = (tgt : Int)) (kp : 0 < x → P = some o → G X cs ss tgt L st A) (kq : ¬ 0 < x → Q = some o → G X cs ss (pc + 3) L st A) : G X cs ss pc L (vi x :: st) A := fun H locs ls hH hS hl => lv_if_gt hX.1 hX.2.1 d ht (fun h => kp h (by rw [if_pos h] at hf; exact hf) H locs ls hH hS hl) (fun h => kq h (by rw [if_neg h] at hf; exact hf) H locs ls hH hS hl)
theorem g_icmp_gt (hX : OKX X cc nL own ret) {x y : Int32} {off : Int} {α : Type} {P Q : Option α} {o : α} (d : decode cc pc = .ok (.if_icmp .gt off, 3)) (tgt : Nat) (hf : (if y < x then P else Q) = some o) (ht : (pc : Int) + off = (tgt : Int)) (kp : y < x → P = some o → G X cs ss tgt L st A) (kq : ¬ y < x → Q = some o → G X cs ss (pc + 3) L st A) : G X cs ss pc L (vi y :: vi x :: st) A := fun H locs ls hH hS hl => lv_icmp_gt hX.1 hX.2.1 d ht (fun h => kp h (by rw [if_pos h] at hf; exact hf) H locs ls hH hS hl) (fun h => kq h (by rw [if_neg h] at hf; exact hf) H locs ls hH hS hl)
theorem g_if_le (hX : OKX X cc nL own ret) {x : Int32} {off : Int} {α : Type} {P Q : Option α} {o : α} (d : decode cc pc = .ok (.ifCond .le off, 3)) (tgt : Nat) (hf : (if x ≤ 0 then P else Q) = some o) (ht : (pc : Int) + off = (tgt : Int)) (kp : x ≤ 0 → P = some o → G X cs ss tgt L st A) (kq : ¬ x ≤ 0 → Q = some o → G X cs ss (pc + 3) L st A) : G X cs ss pc L (vi x :: st) A := fun H locs ls hH hS hl => lv_if_le hX.1 hX.2.1 d ht (fun h => kp h (by rw [if_pos h] at hf; exact hf) H locs ls hH hS hl) (fun h => kq h (by rw [if_neg h] at hf; exact hf) H locs ls hH hS hl)
theorem g_icmp_le (hX : OKX X cc nL own ret) {x y : Int32} {off : Int} {α : Type} {P Q : Option α} {o : α} (d : decode cc pc = .ok (.if_icmp .le off, 3)) (tgt : Nat) (hf : (if x ≤ y then P else Q) = some o) (ht : (pc : Int) + off = (tgt : Int)) (kp : x ≤ y → P = some o → G X cs ss tgt L st A) (kq : ¬ x ≤ y → Q = some o → G X cs ss (pc + 3) L st A) : G X cs ss pc L (vi y :: vi x :: st) A := fun H locs ls hH hS hl => lv_icmp_le hX.1 hX.2.1 d ht (fun h => kp h (by rw [if_pos h] at hf; exact hf) H locs ls hH hS hl) (fun h => kq h (by rw [if_neg h] at hf; exact hf) H locs ls hH hS hl)
theorem g_ifnull (hX : OKX X cc nL own ret) {x : Option Nat} {off : Int} {α : Type} {P Q : Option α} {o : α} (d : decode cc pc = .ok (.ifnull off, 3)) (tgt : Nat) (hf : (if x = none then P else Q) = some o) (ht : (pc : Int) + off = (tgt : Int)) (kp : x = none → P = some o → G X cs ss (tgt) L st A) (kq : ¬ x = none → Q = some o → G X cs ss (pc + 3) L st A) : G X cs ss pc L (vr x :: st) A := fun H locs ls hH hS hl => by
  cases x with
  | none => exact lv_ifnullN hX.1 hX.2.1 d ht (kp rfl (by rw [if_pos rfl] at hf; exact hf) H locs ls hH hS hl)
  | some q => exact lv_ifnull hX.1 hX.2.1 d (kq (fun h => by cases h) (by rw [if_neg (fun h => by cases h)] at hf; exact hf) H locs ls hH hS hl)
theorem g_ifnonnull (hX : OKX X cc nL own ret) {x : Option Nat} {off : Int} {α : Type} {P Q : Option α} {o : α} (d : decode cc pc = .ok (.ifnonnull off, 3)) (tgt : Nat) (hf : (if x = none then P else Q) = some o) (ht : (pc : Int) + off = (tgt : Int)) (kp : x = none → P = some o → G X cs ss (pc + 3) L st A) (kq : ¬ x = none → Q = some o → G X cs ss (tgt) L st A) : G X cs ss pc L (vr x :: st) A := fun H locs ls hH hS hl => by
  cases x with
  | none => exact lv_ifnonnullN hX.1 hX.2.1 d (kp rfl (by rw [if_pos rfl] at hf; exact hf) H locs ls hH hS hl)
  | some q => exact lv_ifnonnull hX.1 hX.2.1 d ht (kq (fun h => by cases h) (by rw [if_neg (fun h => by cases h)] at hf; exact hf) H locs ls hH hS hl)
theorem g_goto (hX : OKX X cc nL own ret) {off : Int} (d : decode cc pc = .ok (.goto off, 3)) (tgt : Nat) (ht : (pc : Int) + off = (tgt : Int)) (k : G X cs ss tgt L st A) : G X cs ss pc L st A := fun H locs ls hH hS hl => lv_goto hX.1 hX.2.1 d ht (k H locs ls hH hS hl)
theorem g_tblO (hX : OKX X cc nL own ret) {x : Int32} {dflt lo hi : Int} {offs : Array Int} {len : Nat} (d : decode cc pc = .ok (.tableswitch dflt lo hi offs, len)) (tgt : Nat) (h : x.toInt < lo ∨ hi < x.toInt) (ht : (pc : Int) + dflt = (tgt : Int)) (k : G X cs ss tgt L st A) : G X cs ss pc L (vi x :: st) A := fun H locs ls hH hS hl => lv_tableOut hX.1 hX.2.1 d h ht (k H locs ls hH hS hl)
theorem g_tblI (hX : OKX X cc nL own ret) {x : Int32} {dflt lo hi : Int} {offs : Array Int} {len : Nat} (d : decode cc pc = .ok (.tableswitch dflt lo hi offs, len)) (v : Int32) (i : Nat) (off : Int) (tgt : Nat) (hv : v.toInt = lo + i) (hi' : (i : Int) + lo ≤ hi) (ho : offs[i]? = some off) (ht : (pc : Int) + off = (tgt : Int)) (hx : x = v) (k : G X cs ss tgt L st A) : G X cs ss pc L (vi x :: st) A := fun H locs ls hH hS hl => by
  subst hx
  exact lv_tableIn hX.1 hX.2.1 d (by omega) (by omega) (by rw [show (x.toInt - lo).toNat = i by omega]; exact ho) ht (k H locs ls hH hS hl)
/-- a field's place: class own, entry idx, names field j of the things of kind c -/
def FS (own : String) (idx c j : Nat) : Prop := ∃ q : vw_C, c ≠ 0 ∧ clX[c]? = some q ∧ j < q.2.2 ∧
  ((Cond.fieldLink own idx (q.2.1 j).1 (q.2.1 j).2.1 (q.2.1 j).2.2.1 ∈ LW) ∨
   (∃ host, Cond.fieldLinkNest own idx (q.2.1 j).1 (q.2.1 j).2.1 (q.2.1 j).2.2.1 host ∈ lw_tbl) ∨
   (∃ ref, Cond.fieldLink own idx ref (q.2.1 j).2.1 (q.2.1 j).2.2.1 ∈ LW ∧ Cond.sameField ref (q.2.1 j).1 (q.2.1 j).2.1 (q.2.1 j).2.2.1 ∈ LW))
theorem inX_at : ∀ (c : Nat) (q : vw_C), clX[c]? = some q → ∀ w ∈ u_ws q.1 q.2.1 q.2.2, w ∈ LW := by
  intro c q hq w hw
  have key : ∀ (R : String) (T : u_T) (N M : Nat), N ≤ M → (∀ w ∈ u_ws R T M, w ∈ lw_all) → w ∈ u_ws R T N → w ∈ LW := by
    intro R T N M hNM h1 h2
    obtain ⟨j, hj, rfl⟩ := List.mem_map.mp h2
    exact lw_LW (h1 _ (List.mem_map.mpr ⟨j, List.mem_range.mpr (Nat.lt_of_lt_of_le (List.mem_range.mp hj) hNM), rfl⟩))
  match c, hq with
  | 0, hq => cases hq; exact key _ _ _ _ (Nat.le_refl _) in_X0 hw
  | 1, hq => cases hq; exact key _ _ _ _ (Nat.le_refl _) in_X0 hw
  | 2, hq => cases hq; exact key _ _ _ _ (Nat.le_refl _) in_X1 hw
  | 3, hq => cases hq; exact key _ _ _ _ (Nat.le_refl _) in_X2 hw
  | 4, hq => cases hq; exact key _ _ _ _ (Nat.le_refl _) in_X3 hw
  | 5, hq => cases hq; exact key _ _ _ _ (Nat.le_refl _) in_X4 hw
  | 6, hq => cases hq; exact key RX6 TX6 8 9 (by decide) in_X6 hw
  | 7, hq => cases hq; exact key _ _ _ _ (Nat.le_refl _) in_X7 hw
  | 8, hq => cases hq; exact key _ _ _ _ (Nat.le_refl _) in_J4 hw
  | c + 9, hq => simp [clX] at hq
theorem ftX_at : ∀ (c : Nat) (q : vw_C), clX[c]? = some q → ∀ j, j < q.2.2 → parseFieldDescriptor (q.2.1 j).2.2.1 = some (ftX c j) := by
  intro c q hq
  match c, hq with
  | 0, hq => cases hq; exact tyX0_ok
  | 1, hq => cases hq; exact tyX0_ok
  | 2, hq => cases hq; exact tyX1_ok
  | 3, hq => cases hq; exact tyX2_ok
  | 4, hq => cases hq; exact tyX3_ok
  | 5, hq => cases hq; exact tyX4_ok
  | 6, hq => cases hq; exact fun j hj => tyX6_ok j (Nat.lt_of_lt_of_le hj (by decide))
  | 7, hq => cases hq; exact tyX7_ok
  | 8, hq => cases hq; exact tyJ4_ok
  | c + 9, hq => simp [clX] at hq
theorem HW.obj {U : State} {D : va_G} {pre : Nat → Nat} {z : Nat} {hu : Nat → Option Nat} {A : AH} {H : Heap} (h : HW U D pre z hu A H) {k c : Nat} (hc : hk A k = c) (h0 : c ≠ 0) {q : vw_C} (hq : clX[c]? = some q) : t_OB (adX pre z k) (D.1 c) q.2.2 (D.2 c) H (fvX (adX pre z) A c k) := by
  subst hc
  exact (h.2.2.2.2 k).1 h0 q hq
theorem HW.arr {U : State} {D : va_G} {pre : Nat → Nat} {z : Nat} {hu : Nat → Option Nat} {A : AH} {H : Heap} (h : HW U D pre z hu A H) {k t : Nat} (ht : hk A k = t) {ty : FieldType} (hty : atX t = some ty) : ArrC U ty (adX pre z k) (hl A k) (avX (adX pre z) A ty k) H := by
  subst ht
  exact (h.2.2.2.2 k).2.1 ty hty
theorem HW.lt {U : State} {D : va_G} {pre : Nat → Nat} {z : Nat} {hu : Nat → Option Nat} {A : AH} {H : Heap} (h : HW U D pre z hu A H) {k c : Nat} (hc : hk A k = c) (h0 : c ≠ 0) {q : vw_C} (hq : clX[c]? = some q) : adX pre z k < H.size := by
  obtain ⟨cell, h1, -⟩ := h.obj hc h0 hq
  exact (Array.getElem?_eq_some_iff.mp h1).1
/-- a receiver of kind c -/
theorem HW.recv {U : State} {D : va_G} {pre : Nat → Nat} {z : Nat} {hu : Nat → Option Nat} {A : AH} {H : Heap} (h : HW U D pre z hu A H) (hK : va_K D clX [] U) {k c : Nat} (hc : hk A k = c) (h0 : c ≠ 0) {q : vw_C} (hq : clX[c]? = some q) : ∃ cell : Cell, H[adX pre z k]? = some cell ∧ cell.vm.isStatics = false ∧ U.vm.findClass q.1 = some cell.cls := by
  obtain ⟨cell, g1, g2, g3, -⟩ := h.obj hc h0 hq
  exact ⟨cell, g1, by rw [g3]; rfl, by rw [g2]; exact (hK.1 c q hq).2.1⟩
theorem gV (hX : OKX X cc nL own ret) {idx c j k : Nat} (hF : FS own idx c j) (hc : hk A k = c) (d : decode cc pc = .ok (.getfield idx, 3)) {H : Heap} {locs : List Loc} {ls : Array Slot} (hH : HW (c_s X) (c_D X) (c_pre X) (c_z X) (c_hu X) A H)
    (kk : W (c_p X) (c_l X) (c_e X) (c_R X) (c_s X) (c_m X) (c_a X) (c_b X) (c_me X) (c_c X) H locs cs ss (XQ X) (F0 (c_m X) (pc + 3) ls (fvX (c_ad X) A c k j :: st.map (cv (c_ad X))))) :
    W (c_p X) (c_l X) (c_e X) (c_R X) (c_s X) (c_m X) (c_a X) (c_b X) (c_me X) (c_c X) H locs cs ss (XQ X) (F0 (c_m X) pc ls (.ref (c_ad X k) :: st.map (cv (c_ad X)))) := by
  obtain ⟨hx, hb, hml, hown, hts, hr, hlk, hE⟩ := hX
  obtain ⟨q, h0, hq, hj, hL⟩ := hF
  obtain ⟨cell, q1, q2, q3, q4⟩ := hH.obj hc h0 hq
  obtain ⟨hS, hfc, kC, hkC, hkind⟩ := hE.1.1 c q hq
  obtain ⟨cf, kf, fi, f, hi, hsl⟩ := hS j hj
  have hst : f.isStatic = false := (u_facts hfc hkC (u_lays hts (inX_at c q hq) hj) hi).1
  have hv : cell.slots[f.slot]? = some (fvX (c_ad X) A c k j) := by rw [hsl]; exact q4 j hj
  rcases hL with h | ⟨host, h⟩ | ⟨ref, h, h2⟩
  · exact W.getf hx hb hown (hts _ h) hi hst q1 (by rw [q3]; exact fun h => by cases h) hv rfl rfl d kk
  · exact va_Wgetf hx hb hown (va_Nw.use rfl (hE.2.2.2.2.1 _ _ _ _ _ _ h)) hi hst q1 (by rw [q3]; exact fun h => by cases h) hv rfl rfl d kk
  · exact W.getf hx hb hown (hts _ h) (u_same (hts _ h2) _ hi) hst q1 (by rw [q3]; exact fun h => by cases h) hv rfl rfl d kk
theorem fv_0 {ad : Nat → Nat} {A : AH} {c k j : Nat} (h : tk (ftX c j) = 0) : fvX ad A c k j = .int (hI A k j) := by unfold fvX; rw [h]; rfl
theorem fv_1 {ad : Nat → Nat} {A : AH} {c k j : Nat} (h : tk (ftX c j) = 1) : fvX ad A c k j = .long (hL A k j) := by unfold fvX; rw [h]; rfl
theorem fv_2 {ad : Nat → Nat} {A : AH} {c k j : Nat} (h : tk (ftX c j) = 2) : fvX ad A c k j = va_rf ((hR A k j).map ad) := by unfold fvX; rw [h]; rfl
theorem g_getI (hX : OKX X cc nL own ret) {idx c j : Nat} {r : Option Nat} {α : Type} {F : Int32 → Option α} {o : α} (hf : (gI c j A r).bind F = some o) (hF : FS own idx c j) (ht : tk (ftX c j) = 0) (d : decode cc pc = .ok (.getfield idx, 3)) (kk : ∀ v, F v = some o → G X cs ss (pc + 3) L (vi v :: st) A) : G X cs ss pc L (vr r :: st) A := fun H locs ls hH hS hl => by
  obtain ⟨v, h1, h2⟩ := ob_some hf
  obtain ⟨k, rfl, h3⟩ := ob_some h1
  split at h3
  · rename_i hc
    cases h3
    have k1 := kk _ h2 H locs ls hH hS hl
    exact gV hX hF hc d hH (by rw [fv_0 ht]; exact k1)
  · cases h3
theorem g_getL (hX : OKX X cc nL own ret) {idx c j : Nat} {r : Option Nat} {α : Type} {F : Int64 → Option α} {o : α} (hf : (gL c j A r).bind F = some o) (hF : FS own idx c j) (ht : tk (ftX c j) = 1) (d : decode cc pc = .ok (.getfield idx, 3)) (kk : ∀ v, F v = some o → G X cs ss (pc + 3) L (vl v :: st) A) : G X cs ss pc L (vr r :: st) A := fun H locs ls hH hS hl => by
  obtain ⟨v, h1, h2⟩ := ob_some hf
  obtain ⟨k, rfl, h3⟩ := ob_some h1
  split at h3
  · rename_i hc
    cases h3
    have k1 := kk _ h2 H locs ls hH hS hl
    exact gV hX hF hc d hH (by rw [fv_1 ht]; exact k1)
  · cases h3
theorem g_getR (hX : OKX X cc nL own ret) {idx c j : Nat} {r : Option Nat} {α : Type} {F : Option Nat → Option α} {o : α} (hf : (gR c j A r).bind F = some o) (hF : FS own idx c j) (ht : tk (ftX c j) = 2) (d : decode cc pc = .ok (.getfield idx, 3)) (kk : ∀ v, F v = some o → G X cs ss (pc + 3) L (vr v :: st) A) : G X cs ss pc L (vr r :: st) A := fun H locs ls hH hS hl => by
  obtain ⟨v, h1, h2⟩ := ob_some hf
  obtain ⟨k, rfl, h3⟩ := ob_some h1
  split at h3
  · rename_i hc
    cases h3
    have k1 := kk _ h2 H locs ls hH hS hl
    exact gV hX hF hc d hH (by rw [fv_2 ht]; exact k1)
  · cases h3
/-- which writes the field allows: not final, or final in its own class's constructor -/
def FW (meth : Method) (own : String) (c j : Nat) : Prop := ∃ q : vw_C, clX[c]? = some q ∧ ((q.2.1 j).2.2.2 = false ∨ ((q.2.1 j).2.2.2 = true ∧ meth.name = "<init>" ∧ (q.2.1 j).1 = own))
theorem pV (hX : OKX X cc nL own ret) {idx c j k : Nat} (hF : FS own idx c j) (hFW : FW (c_me X) own c j) (hc : hk A k = c) (h32 : 32 ≤ k) {v : Value} (hn : narrow (ftX c j) v = v) (hfit : fits (ftX c j) v = true) {A1 : AH} (ho : OffX A A1 k)
    (hv : ∀ j', fvX (c_ad X) A1 c k j' = if j' = j then v else fvX (c_ad X) A c k j') (d : decode cc pc = .ok (.putfield idx, 3)) {H : Heap} {locs : List Loc} {ls : Array Slot} (hH : HW (c_s X) (c_D X) (c_pre X) (c_z X) (c_hu X) A H) (hS : va_S (fun q => c_z X ≤ q) (c_s X).heap H locs)
    (kk : ∀ H1 locs1, HW (c_s X) (c_D X) (c_pre X) (c_z X) (c_hu X) A1 H1 → va_S (fun q => c_z X ≤ q) (c_s X).heap H1 locs1 → W (c_p X) (c_l X) (c_e X) (c_R X) (c_s X) (c_m X) (c_a X) (c_b X) (c_me X) (c_c X) H1 locs1 cs ss (XQ X) (F0 (c_m X) (pc + 3) ls (st.map (cv (c_ad X))))) :
    W (c_p X) (c_l X) (c_e X) (c_R X) (c_s X) (c_m X) (c_a X) (c_b X) (c_me X) (c_c X) H locs cs ss (XQ X) (F0 (c_m X) pc ls (v :: .ref (c_ad X k) :: st.map (cv (c_ad X)))) := by
  obtain ⟨hx, hb, hml, hown, hts, hr, hlk, hE⟩ := hX
  obtain ⟨q, h0, hq, hj, hL⟩ := hF
  obtain ⟨q', hq', hfin⟩ := hFW
  cases hq.symm.trans hq'
  obtain ⟨cell, q1, q2, q3, q4⟩ := hH.obj hc h0 hq
  obtain ⟨hS1, hfc, kC, hkC, hkind⟩ := hE.1.1 c q hq
  obtain ⟨cf, kf, fi, f, hi, hsl⟩ := hS1 j hj
  have hlay := hts _ (inX_at c q hq _ (u_in_lay hj))
  have hst : f.isStatic = false := (u_facts hfc hkC (u_lays hts (inX_at c q hq) hj) hi).1
  have hap := hE.2.1 c q hq
  have hd := ftX_at c q hq j hj
  have hlt : f.slot < cell.slots.size := by rw [hsl]; exact k2_hasslot (q4 j hj)
  have done : ∀ H1 : Heap, H1[c_ad X k]? = some (cell.setSlot f.slot v) → H1.size = H.size → (∀ q, q ≠ c_ad X k → H1[q]? = H[q]?) →
      W (c_p X) (c_l X) (c_e X) (c_R X) (c_s X) (c_m X) (c_a X) (c_b X) (c_me X) (c_c X) H1 (locs ++ [⟨c_ad X k, f.slot⟩]) cs ss (XQ X) (F0 (c_m X) (pc + 3) ls (st.map (cv (c_ad X)))) := by
    intro H1 e1 e2 e3
    rw [hsl] at e1
    have hk1 : hk A1 = hk A := by unfold hk; rw [ho.1]
    refine kk H1 _ (hH.put hE.2.2.1 h32 ho e2 e3 ⟨fun _ r hr => ?_, fun ty hty => ?_, fun h => ?_, fun h => ?_, fun h => ?_⟩) (hS.put e2 e3 (adX_le h32))
    · rw [hk1, hc] at hr ⊢
      cases hq.symm.trans hr
      refine ⟨_, e1, q2, q3, fun j' hj' => ?_⟩
      rw [hv j', t_set q4 hap hj v j' hj']
      unfold updV
      split <;> rfl
    · rw [hk1, hc] at hty
      have : c < 9 := by
        rcases Nat.lt_or_ge c 9 with h | h
        · exact h
        · rw [List.getElem?_eq_none (by simpa using h)] at hq
          cases hq
      match c, this, hty with
      | 0, _, h => cases h
      | 1, _, h => cases h
      | 2, _, h => cases h
      | 3, _, h => cases h
      | 4, _, h => cases h
      | 5, _, h => cases h
      | 6, _, h => cases h
      | 7, _, h => cases h
      | 8, _, h => cases h
      | c + 9, h, _ => omega
    · rw [hk1, hc] at h
      subst h
      simp [clX] at hq
    · rw [hk1, hc] at h
      subst h
      simp [clX] at hq
    · rw [hk1] at h
      obtain ⟨cell', r1, r2⟩ := (hH.2.2.2.2 k).2.2.2.2 h
      cases q1.symm.trans r1
      exact ⟨_, e1, by rw [k2_slotsz]; exact r2⟩
  rcases hfin with hfin | ⟨hfin, hin2, hdecl⟩
  · unfold u_lay at hlay
    rw [if_neg (by rw [hfin]; decide)] at hlay
    have h6 := u_store hfc hkC hkind hlay hi hd hn hfit
    rcases hL with h | ⟨host, h⟩ | ⟨ref, h, h2⟩
    · exact W.putK hx hb (f := f) ⟨hown, hts _ h, ⟨_, _, _, hi⟩, hst⟩ (by rw [q2]; exact h6) q1 q3 hlt rfl rfl d done
    · exact va_WputK hx hb hown (va_Nw.use rfl (hE.2.2.2.2.1 _ _ _ _ _ _ h)) hi hst (by rw [q2]; exact h6) q1 q3 hlt rfl rfl d done
    · exact W.putK hx hb (f := f) ⟨hown, hts _ h, ⟨_, _, _, u_same (hts _ h2) _ hi⟩, hst⟩ (by rw [q2]; exact h6) q1 q3 hlt rfl rfl d done
  · unfold u_lay at hlay
    rw [if_pos hfin] at hlay
    have hcf : (c_m X).cls = cf := by
      obtain ⟨_, _, c', _, _, _, -, -, hf', -, -, -, hown2, -⟩ := Cond.laysFinal_spec hlay
      have e1 : c' = cf := by have := hi.symm.trans hf'; simp at this; exact this.1.symm
      rw [hdecl] at hown2
      rw [← e1]; exact Option.some.inj (hown.symm.trans hown2)
    have h6 := u_fits hfc hkC hkind (Or.inr hlay) hi hd hn hfit
    rcases hL with h | ⟨host, h⟩ | ⟨ref, h, h2⟩
    · exact W.putFinK hx hb hown (hts _ h) hi hst hcf hin2 (by rw [q2]; exact h6) q1 q3 hlt rfl rfl d done
    · refine va_Wputf hx hb hown (va_Nw.use rfl (hE.2.2.2.2.1 _ _ _ _ _ _ h)) hi hst (Or.inr ⟨hcf, hin2⟩) q1 (by rw [q3]; exact fun h => by cases h) hlt h6.1 (by rw [q2, q3]; exact h6.2) rfl rfl d ?_
      have ha : c_ad X k < H.size := (Array.getElem?_eq_some_iff.mp q1).1
      refine done _ ?_ ?_ ?_
      · simp [Array.getElem?_setIfInBounds, ha]
      · simp
      · intro q hq
        simp [Array.getElem?_setIfInBounds, Ne.symm hq]
    · exact W.putFinK hx hb hown (hts _ h) (u_same (hts _ h2) _ hi) hst hcf hin2 (by rw [q2]; exact h6) q1 q3 hlt rfl rfl d done
theorem g_putI (hX : OKX X cc nL own ret) {idx c j : Nat} {r : Option Nat} {v : Int32} {α : Type} {F : AH → Option α} {o : α} (hf : (pI c j A r v).bind F = some o) (hF : FS own idx c j) (hFW : FW (c_me X) own c j) (ht : ftX c j = .int) (d : decode cc pc = .ok (.putfield idx, 3)) (kk : ∀ A1, F A1 = some o → G X cs ss (pc + 3) L st A1) : G X cs ss pc L (vi v :: vr r :: st) A := fun H locs ls hH hS hl => by
  obtain ⟨A1, h1, h2⟩ := ob_some hf
  obtain ⟨k, rfl, h3⟩ := ob_some h1
  split at h3
  · rename_i hc
    cases h3
    refine pV hX hF hFW hc.1 hc.2 (v := .int v) (by rw [ht]; rfl) (by rw [ht]; rfl) (offI A k j v) (fun j' => ?_) d hH hS (fun H1 locs1 hH1 hS1 => kk _ h2 H1 locs1 ls hH1 hS1 hl)
    by_cases hj : j' = j
    · subst hj
      rw [if_pos rfl, fv_0 (by rw [ht]; rfl)]
      show Value.int (up2 _ _ _ _ _ _) = _
      unfold up2
      rw [if_pos ⟨rfl, rfl⟩]
    · rw [if_neg hj]
      unfold fvX
      rw [show hI (setI A k j v) k j' = hI A k j' from if_neg (fun q => hj q.2)]
      rfl
  · cases h3
theorem g_putZ (hX : OKX X cc nL own ret) {idx c j : Nat} {r : Option Nat} {v : Int32} {α : Type} {F : AH → Option α} {o : α} (hf : (pZ c j A r v).bind F = some o) (hF : FS own idx c j) (hFW : FW (c_me X) own c j) (ht : ftX c j = .boolean) (d : decode cc pc = .ok (.putfield idx, 3)) (kk : ∀ A1, F A1 = some o → G X cs ss (pc + 3) L st A1) : G X cs ss pc L (vi v :: vr r :: st) A := fun H locs ls hH hS hl => by
  obtain ⟨A1, h1, h2⟩ := ob_some hf
  obtain ⟨k, rfl, h3⟩ := ob_some h1
  split at h3
  · rename_i hc
    cases h3
    refine pV hX hF hFW hc.1.1 hc.1.2 (v := .int v) (by rw [ht]; rcases hc.2 with h | h <;> rw [h] <;> rfl) (by rw [ht]; rcases hc.2 with h | h <;> rw [h] <;> rfl) (offI A k j v) (fun j' => ?_) d hH hS (fun H1 locs1 hH1 hS1 => kk _ h2 H1 locs1 ls hH1 hS1 hl)
    by_cases hj : j' = j
    · subst hj
      rw [if_pos rfl, fv_0 (by rw [ht]; rfl)]
      show Value.int (up2 _ _ _ _ _ _) = _
      unfold up2
      rw [if_pos ⟨rfl, rfl⟩]
    · rw [if_neg hj]
      unfold fvX
      rw [show hI (setI A k j v) k j' = hI A k j' from if_neg (fun q => hj q.2)]
      rfl
  · cases h3
theorem g_putL (hX : OKX X cc nL own ret) {idx c j : Nat} {r : Option Nat} {v : Int64} {α : Type} {F : AH → Option α} {o : α} (hf : (pL c j A r v).bind F = some o) (hF : FS own idx c j) (hFW : FW (c_me X) own c j) (ht : ftX c j = .long) (d : decode cc pc = .ok (.putfield idx, 3)) (kk : ∀ A1, F A1 = some o → G X cs ss (pc + 3) L st A1) : G X cs ss pc L (vl v :: vr r :: st) A := fun H locs ls hH hS hl => by
  obtain ⟨A1, h1, h2⟩ := ob_some hf
  obtain ⟨k, rfl, h3⟩ := ob_some h1
  split at h3
  · rename_i hc
    cases h3
    refine pV hX hF hFW hc.1 hc.2 (v := .long v) (by rw [ht]; rfl) (by rw [ht]; rfl) (offL A k j v) (fun j' => ?_) d hH hS (fun H1 locs1 hH1 hS1 => kk _ h2 H1 locs1 ls hH1 hS1 hl)
    by_cases hj : j' = j
    · subst hj
      rw [if_pos rfl, fv_1 (by rw [ht]; rfl)]
      show Value.long (up2 _ _ _ _ _ _) = _
      unfold up2
      rw [if_pos ⟨rfl, rfl⟩]
    · rw [if_neg hj]
      unfold fvX
      rw [show hL (setL A k j v) k j' = hL A k j' from if_neg (fun q => hj q.2)]
      rfl
  · cases h3
theorem fits_rf {t : FieldType} (h : tk t = 2) (r : Option Nat) : narrow t (va_rf r) = va_rf r ∧ fits t (va_rf r) = true := by
  cases t <;> simp_all [tk] <;> cases r <;> exact ⟨rfl, rfl⟩
theorem g_putR (hX : OKX X cc nL own ret) {idx c j : Nat} {r v : Option Nat} {α : Type} {F : AH → Option α} {o : α} (hf : (pR c j A r v).bind F = some o) (hF : FS own idx c j) (hFW : FW (c_me X) own c j) (ht : tk (ftX c j) = 2) (d : decode cc pc = .ok (.putfield idx, 3)) (kk : ∀ A1, F A1 = some o → G X cs ss (pc + 3) L st A1) : G X cs ss pc L (vr v :: vr r :: st) A := fun H locs ls hH hS hl => by
  obtain ⟨A1, h1, h2⟩ := ob_some hf
  obtain ⟨k, rfl, h3⟩ := ob_some h1
  split at h3
  · rename_i hc
    cases h3
    refine pV hX hF hFW hc.1 hc.2 (v := va_rf (v.map (c_ad X))) (fits_rf ht _).1 (fits_rf ht _).2 (offR A k j v) (fun j' => ?_) d hH hS (fun H1 locs1 hH1 hS1 => kk _ h2 H1 locs1 ls hH1 hS1 hl)
    by_cases hj : j' = j
    · subst hj
      rw [if_pos rfl, fv_2 ht]
      show va_rf (Option.map _ (up2 _ _ _ _ _ _)) = _
      unfold up2
      rw [if_pos ⟨rfl, rfl⟩]
    · rw [if_neg hj]
      unfold fvX
      rw [show hR (setR A k j v) k j' = hR A k j' from if_neg (fun q => hj q.2)]
      rfl
  · cases h3
theorem setSlot_at (cell : Cell) (i : Nat) (v : Value) (j : Nat) (h : i < cell.slots.size) : (cell.setSlot i v).slots[j]? = if j = i then some v else cell.slots[j]? := by
  by_cases hj : j = i
  · subst hj
    simp [Cell.setSlot, h]
  · rw [if_neg hj]
    simp [Cell.setSlot, Array.getElem?_setIfInBounds, Ne.symm hj]
theorem av_0 {ad : Nat → Nat} {A : AH} {ty : FieldType} {k j : Nat} (h : tk ty = 0) : avX ad A ty k j = .int (hI A k j) := by unfold avX; rw [h]; rfl
theorem av_1 {ad : Nat → Nat} {A : AH} {ty : FieldType} {k j : Nat} (h : tk ty = 1) : avX ad A ty k j = .long (hL A k j) := by unfold avX; rw [h]; rfl
theorem av_2 {ad : Nat → Nat} {A : AH} {ty : FieldType} {k j : Nat} (h : tk ty = 2) : avX ad A ty k j = va_rf ((hR A k j).map ad) := by unfold avX; rw [h]; rfl
theorem g_iald (hX : OKX X cc nL own ret) {r : Option Nat} {i : Int32} {α : Type} {F : Int32 → Option α} {o : α} (hf : (aI 10 A r i).bind F = some o) (d : decode cc pc = .ok (.iaload, 1)) (kk : ∀ v, F v = some o → G X cs ss (pc + 1) L (vi v :: st) A) : G X cs ss pc L (vi i :: vr r :: st) A := fun H locs ls hH hS hll => by
  obtain ⟨v, h1, h2⟩ := ob_some hf
  obtain ⟨k, rfl, h3⟩ := ob_some h1
  split at h3
  · rename_i hc
    cases h3
    obtain ⟨cell, q1, q2, q3, q4, q5⟩ := hH.arr hc.1 (ty := .int) rfl
    have hlt : i.toNatClampNeg < hl A k := Nat.not_le.mp fun q => hc.2 (Or.inr q)
    have e := q5 _ hlt
    rw [av_0 rfl] at e
    exact W.iald hX.1 hX.2.1 q1 q2 q3 (fun h => hc.2 (h.imp id (Nat.le_trans q4.1))) e rfl rfl d (kk _ h2 H locs ls hH hS hll)
  · cases h3
theorem g_bald (hX : OKX X cc nL own ret) {r : Option Nat} {i : Int32} {α : Type} {F : Int32 → Option α} {o : α} (hf : (aI 11 A r i).bind F = some o) (d : decode cc pc = .ok (.baload, 1)) (kk : ∀ v, F v = some o → G X cs ss (pc + 1) L (vi v :: st) A) : G X cs ss pc L (vi i :: vr r :: st) A := fun H locs ls hH hS hll => by
  obtain ⟨v, h1, h2⟩ := ob_some hf
  obtain ⟨k, rfl, h3⟩ := ob_some h1
  split at h3
  · rename_i hc
    cases h3
    obtain ⟨cell, q1, q2, q3, q4, q5⟩ := hH.arr hc.1 (ty := .byte) rfl
    have hlt : i.toNatClampNeg < hl A k := Nat.not_le.mp fun q => hc.2 (Or.inr q)
    have e := q5 _ hlt
    rw [av_0 rfl] at e
    exact W.bald hX.1 hX.2.1 q1 q2 q3 (fun h => hc.2 (h.imp id (Nat.le_trans q4.1))) e rfl rfl d (kk _ h2 H locs ls hH hS hll)
  · cases h3
theorem g_zald (hX : OKX X cc nL own ret) {r : Option Nat} {i : Int32} {α : Type} {F : Int32 → Option α} {o : α} (hf : (aI 12 A r i).bind F = some o) (d : decode cc pc = .ok (.baload, 1)) (kk : ∀ v, F v = some o → G X cs ss (pc + 1) L (vi v :: st) A) : G X cs ss pc L (vi i :: vr r :: st) A := fun H locs ls hH hS hll => by
  obtain ⟨v, h1, h2⟩ := ob_some hf
  obtain ⟨k, rfl, h3⟩ := ob_some h1
  split at h3
  · rename_i hc
    cases h3
    obtain ⟨cell, q1, q2, q3, q4, q5⟩ := hH.arr hc.1 (ty := .boolean) rfl
    have hlt : i.toNatClampNeg < hl A k := Nat.not_le.mp fun q => hc.2 (Or.inr q)
    have e := q5 _ hlt
    rw [av_0 rfl] at e
    exact W.zald hX.1 hX.2.1 q1 q2 q3 (fun h => hc.2 (h.imp id (Nat.le_trans q4.1))) e rfl rfl d (kk _ h2 H locs ls hH hS hll)
  · cases h3
theorem g_lald (hX : OKX X cc nL own ret) {r : Option Nat} {i : Int32} {α : Type} {F : Int64 → Option α} {o : α} (hf : (aL A r i).bind F = some o) (d : decode cc pc = .ok (.laload, 1)) (kk : ∀ v, F v = some o → G X cs ss (pc + 1) L (vl v :: st) A) : G X cs ss pc L (vi i :: vr r :: st) A := fun H locs ls hH hS hll => by
  obtain ⟨v, h1, h2⟩ := ob_some hf
  obtain ⟨k, rfl, h3⟩ := ob_some h1
  split at h3
  · rename_i hc
    cases h3
    obtain ⟨cell, q1, q2, q3, q4, q5⟩ := hH.arr hc.1 (ty := .long) rfl
    have hlt : i.toNatClampNeg < hl A k := Nat.not_le.mp fun q => hc.2 (Or.inr q)
    have e := q5 _ hlt
    rw [av_1 rfl] at e
    exact W.lald hX.1 hX.2.1 q1 q2 q3 (fun h => hc.2 (h.imp id (Nat.le_trans q4.1))) e rfl rfl d (kk _ h2 H locs ls hH hS hll)
  · cases h3
theorem g_aald (hX : OKX X cc nL own ret) {t : Nat} {C : String} (hty : atX t = some (.object C)) {r : Option Nat} {i : Int32} {α : Type} {F : Option Nat → Option α} {o : α} (hf : (aR t A r i).bind F = some o) (d : decode cc pc = .ok (.aaload, 1)) (kk : ∀ v, F v = some o → G X cs ss (pc + 1) L (vr v :: st) A) : G X cs ss pc L (vi i :: vr r :: st) A := fun H locs ls hH hS hll => by
  obtain ⟨v, h1, h2⟩ := ob_some hf
  obtain ⟨k, rfl, h3⟩ := ob_some h1
  split at h3
  · rename_i hc
    cases h3
    obtain ⟨cell, q1, q2, q3, q4, q5⟩ := hH.arr hc.1 hty
    have hlt : i.toNatClampNeg < hl A k := Nat.not_le.mp fun q => hc.2 (Or.inr q)
    have e := q5 _ hlt
    rw [av_2 rfl] at e
    exact W.aald hX.1 hX.2.1 q1 q2 rfl q3 (fun h => hc.2 (h.imp id (Nat.le_trans q4.1))) e rfl rfl d (kk _ h2 H locs ls hH hS hll)
  · cases h3
theorem g_alen (hX : OKX X cc nL own ret) (t : Nat) {ty : FieldType} (hty : atX t = some ty) {r : Option Nat} {α : Type} {F : Int32 → Option α} {o : α} (hf : (al t A r).bind F = some o) (d : decode cc pc = .ok (.arraylength, 1)) (kk : ∀ v, F v = some o → G X cs ss (pc + 1) L (vi v :: st) A) : G X cs ss pc L (vr r :: st) A := fun H locs ls hH hS hll => by
  obtain ⟨v, h1, h2⟩ := ob_some hf
  obtain ⟨k, rfl, h3⟩ := ob_some h1
  split at h3
  · rename_i hc
    cases h3
    obtain ⟨cell, q1, q2, q3, q4, q5⟩ := hH.arr hc hty
    exact W.alen (n := Int32.ofNat (hl A k)) hX.1 hX.2.1 q1 q2 q4.2 rfl rfl d (kk _ h2 H locs ls hH hS hll)
  · cases h3
/-- an array's world behind a store -/
theorem HW.arrPut {U : State} {D : va_G} {pre : Nat → Nat} {z : Nat} {hu : Nat → Option Nat} {A A1 : AH} {H H1 : Heap} {k t i : Nat} {ty : FieldType} {v : Value} {cell : Cell} (hp : ∀ i, i < 32 → pre i < z) (h : HW U D pre z hu A H) (h32 : 32 ≤ k) (hc : hk A k = t) (hty : atX t = some ty) (hcell : H[adX pre z k]? = some cell) (hlt : i < hl A k) (ho : OffX A A1 k)
    (hv : ∀ j, avX (adX pre z) A1 ty k j = if j = i then v else avX (adX pre z) A ty k j) (e1 : H1[adX pre z k]? = some (cell.setSlot i v)) (e2 : H1.size = H.size) (e3 : ∀ q, q ≠ adX pre z k → H1[q]? = H[q]?) : HW U D pre z hu A1 H1 := by
  have hk1 : hk A1 = hk A := by unfold hk; rw [ho.1]
  have hl1 : hl A1 = hl A := by unfold hl; rw [ho.1]
  refine h.put hp h32 ho e2 e3 ⟨fun h0 r hr => ?_, fun ty2 hty2 => ?_, fun q => ?_, fun q => ?_, fun q => ?_⟩
  · rw [hk1, hc] at hr
    have : t < 9 := by
      rcases Nat.lt_or_ge t 9 with h | h
      · exact h
      · rw [List.getElem?_eq_none (by simpa using h)] at hr
        cases hr
    match t, this, hty with
    | 0, _, h => cases h
    | 1, _, h => cases h
    | 2, _, h => cases h
    | 3, _, h => cases h
    | 4, _, h => cases h
    | 5, _, h => cases h
    | 6, _, h => cases h
    | 7, _, h => cases h
    | 8, _, h => cases h
    | t + 9, h, _ => omega
  · rw [hk1, hc, hty] at hty2
    cases hty2
    rw [hl1]
    obtain ⟨cell', q1, q2, q3, q4, q5⟩ := h.arr hc hty
    cases hcell.symm.trans q1
    refine ⟨_, e1, q2, q3, (by rw [k2_slotsz]; exact q4), fun j hj => ?_⟩
    rw [setSlot_at _ _ _ _ (Nat.lt_of_lt_of_le hlt q4.1), hv j]
    split
    · rfl
    · exact q5 j hj
  · rw [hk1] at q
    obtain ⟨c', kA, comp, r1, r2, r3⟩ := (h.2.2.2.2 k).2.2.1 q
    cases hcell.symm.trans r1
    exact ⟨_, kA, comp, e1, r2, r3⟩
  · rw [hk1] at q
    obtain ⟨c', kA, comp, r1, r2, r3⟩ := (h.2.2.2.2 k).2.2.2.1 q
    cases hcell.symm.trans r1
    exact ⟨_, kA, comp, e1, r2, r3⟩
  · rw [hk1] at q
    obtain ⟨c', r1, r2⟩ := (h.2.2.2.2 k).2.2.2.2 q
    cases hcell.symm.trans r1
    exact ⟨_, e1, by rw [k2_slotsz]; exact r2⟩
theorem av_setI {ad : Nat → Nat} {A : AH} {ty : FieldType} (h : tk ty = 0) (k i : Nat) (x : Int32) (j : Nat) : avX ad (setI A k i x) ty k j = if j = i then .int x else avX ad A ty k j := by
  rw [av_0 h, av_0 h]
  show Value.int (up2 _ _ _ _ _ _) = _
  unfold up2
  by_cases hj : j = i
  · rw [if_pos ⟨rfl, hj⟩, if_pos hj]
  · rw [if_neg (fun q => hj q.2), if_neg hj]
    rfl
theorem av_setL {ad : Nat → Nat} {A : AH} {ty : FieldType} (h : tk ty = 1) (k i : Nat) (x : Int64) (j : Nat) : avX ad (setL A k i x) ty k j = if j = i then .long x else avX ad A ty k j := by
  rw [av_1 h, av_1 h]
  show Value.long (up2 _ _ _ _ _ _) = _
  unfold up2
  by_cases hj : j = i
  · rw [if_pos ⟨rfl, hj⟩, if_pos hj]
  · rw [if_neg (fun q => hj q.2), if_neg hj]
    rfl
theorem av_setR {ad : Nat → Nat} {A : AH} {ty : FieldType} (h : tk ty = 2) (k i : Nat) (x : Option Nat) (j : Nat) : avX ad (setR A k i x) ty k j = if j = i then va_rf (x.map ad) else avX ad A ty k j := by
  rw [av_2 h, av_2 h]
  show va_rf (Option.map _ (up2 _ _ _ _ _ _)) = _
  unfold up2
  by_cases hj : j = i
  · rw [if_pos ⟨rfl, hj⟩, if_pos hj]
  · rw [if_neg (fun q => hj q.2), if_neg hj]
    rfl
theorem g_iast (hX : OKX X cc nL own ret) {r : Option Nat} {i x : Int32} {α : Type} {F : AH → Option α} {o : α} (hf : (sI A r i x).bind F = some o) (d : decode cc pc = .ok (.iastore, 1)) (kk : ∀ A1, F A1 = some o → G X cs ss (pc + 1) L st A1) : G X cs ss pc L (vi x :: vi i :: vr r :: st) A := fun H locs ls hH hS hll => by
  obtain ⟨A1, h1, h2⟩ := ob_some hf
  obtain ⟨k, rfl, h3⟩ := ob_some h1
  split at h3
  · rename_i hc
    cases h3
    obtain ⟨cell, q1, q2, q3, q4, q5⟩ := hH.arr hc.1.1 (ty := .int) rfl
    have hlt : i.toNatClampNeg < hl A k := Nat.not_le.mp fun q => hc.2 (Or.inr q)
    exact W.iast hX.1 hX.2.1 q1 q2 q3 (fun h => hc.2 (h.imp id (Nat.le_trans q4.1))) rfl rfl d fun H1 e z oq => kk _ h2 H1 _ ls (hH.arrPut hX.2.2.2.2.2.2.2.2.2.1 hc.1.2 hc.1.1 rfl q1 hlt (offI _ _ _ _) (av_setI rfl _ _ _) e z oq) (hS.put z oq (adX_le hc.1.2)) hll
  · cases h3
theorem g_bast (hX : OKX X cc nL own ret) {r : Option Nat} {i x : Int32} {α : Type} {F : AH → Option α} {o : α} (hf : (sB A r i x).bind F = some o) (d : decode cc pc = .ok (.bastore, 1)) (kk : ∀ A1, F A1 = some o → G X cs ss (pc + 1) L st A1) : G X cs ss pc L (vi x :: vi i :: vr r :: st) A := fun H locs ls hH hS hll => by
  obtain ⟨A1, h1, h2⟩ := ob_some hf
  obtain ⟨k, rfl, h3⟩ := ob_some h1
  split at h3
  · rename_i hc
    cases h3
    obtain ⟨cell, q1, q2, q3, q4, q5⟩ := hH.arr hc.1.1 (ty := .byte) rfl
    have hlt : i.toNatClampNeg < hl A k := Nat.not_le.mp fun q => hc.2 (Or.inr q)
    exact W.bast hX.1 hX.2.1 q1 q2 q3 (fun h => hc.2 (h.imp id (Nat.le_trans q4.1))) rfl rfl d fun H1 e z oq => kk _ h2 H1 _ ls (hH.arrPut hX.2.2.2.2.2.2.2.2.2.1 hc.1.2 hc.1.1 rfl q1 hlt (offI _ _ _ _) (av_setI rfl _ _ _) e z oq) (hS.put z oq (adX_le hc.1.2)) hll
  · cases h3
theorem g_zast (hX : OKX X cc nL own ret) {r : Option Nat} {i x : Int32} {α : Type} {F : AH → Option α} {o : α} (hf : (sZ A r i x).bind F = some o) (d : decode cc pc = .ok (.bastore, 1)) (kk : ∀ A1, F A1 = some o → G X cs ss (pc + 1) L st A1) : G X cs ss pc L (vi x :: vi i :: vr r :: st) A := fun H locs ls hH hS hll => by
  obtain ⟨A1, h1, h2⟩ := ob_some hf
  obtain ⟨k, rfl, h3⟩ := ob_some h1
  split at h3
  · rename_i hc
    cases h3
    obtain ⟨cell, q1, q2, q3, q4, q5⟩ := hH.arr hc.1.1.1 (ty := .boolean) rfl
    have hlt : i.toNatClampNeg < hl A k := Nat.not_le.mp fun q => hc.2 (Or.inr q)
    have hx : narrow .boolean (.int x) = .int x := by rcases hc.1.2 with h | h <;> rw [h] <;> rfl
    exact W.zast hX.1 hX.2.1 q1 q2 q3 (fun h => hc.2 (h.imp id (Nat.le_trans q4.1))) rfl rfl d fun H1 e z oq => kk _ h2 H1 _ ls (hH.arrPut hX.2.2.2.2.2.2.2.2.2.1 hc.1.1.2 hc.1.1.1 rfl q1 hlt (offI _ _ _ _) (av_setI rfl _ _ _) (by rw [← hx]; exact e) z oq) (hS.put z oq (adX_le hc.1.1.2)) hll
  · cases h3
theorem g_last (hX : OKX X cc nL own ret) {r : Option Nat} {i : Int32} {x : Int64} {α : Type} {F : AH → Option α} {o : α} (hf : (sL A r i x).bind F = some o) (d : decode cc pc = .ok (.lastore, 1)) (kk : ∀ A1, F A1 = some o → G X cs ss (pc + 1) L st A1) : G X cs ss pc L (vl x :: vi i :: vr r :: st) A := fun H locs ls hH hS hll => by
  obtain ⟨A1, h1, h2⟩ := ob_some hf
  obtain ⟨k, rfl, h3⟩ := ob_some h1
  split at h3
  · rename_i hc
    cases h3
    obtain ⟨cell, q1, q2, q3, q4, q5⟩ := hH.arr hc.1.1 (ty := .long) rfl
    have hlt : i.toNatClampNeg < hl A k := Nat.not_le.mp fun q => hc.2 (Or.inr q)
    exact W.last hX.1 hX.2.1 q1 q2 q3 (fun h => hc.2 (h.imp id (Nat.le_trans q4.1))) rfl rfl d fun H1 e z oq => kk _ h2 H1 _ ls (hH.arrPut hX.2.2.2.2.2.2.2.2.2.1 hc.1.2 hc.1.1 rfl q1 hlt (offL _ _ _ _) (av_setL rfl _ _ _) e z oq) (hS.put z oq (adX_le hc.1.2)) hll
  · cases h3
theorem g_aast (hX : OKX X cc nL own ret) {t c : Nat} {C : String} {q : vw_C} (ht : t = 14 ∧ C = "java/lang/Object" ∨ t = 15 ∧ C = "SlimeNet$Slime") (hq : clX[c]? = some q) (h0 : c ≠ 0) (hcast : Cond.castable q.1 C ∈ lw_tbl ∨ q.1 = C) {r v : Option Nat} {i : Int32} {α : Type} {F : AH → Option α} {o : α} (hf : (sR t c A r i v).bind F = some o) (d : decode cc pc = .ok (.aastore, 1)) (kk : ∀ A1, F A1 = some o → G X cs ss (pc + 1) L st A1) : G X cs ss pc L (vr v :: vi i :: vr r :: st) A := fun H locs ls hH hS hll => by
  obtain ⟨A1, h1, h2⟩ := ob_some hf
  obtain ⟨k, rfl, h3⟩ := ob_some h1
  obtain ⟨w, rfl, h3⟩ := ob_some h3
  split at h3
  · rename_i hc
    cases h3
    have hty : atX t = some (.object C) := by rcases ht with ⟨rfl, rfl⟩ | ⟨rfl, rfl⟩ <;> rfl
    obtain ⟨cell, q1, q2, q3, q4, q5⟩ := hH.arr hc.1.1 hty
    have hlt : i.toNatClampNeg < hl A k := Nat.not_le.mp fun q => hc.2.2 (Or.inr q)
    obtain ⟨cell', kA, comp, r1, r2, r3, r4, r5⟩ : ArrR (c_s X) C (c_ad X k) H := by
      rcases ht with ⟨rfl, rfl⟩ | ⟨rfl, rfl⟩
      · exact (hH.2.2.2.2 k).2.2.1 hc.1.1
      · exact (hH.2.2.2.2 k).2.2.2.1 hc.1.1
    cases q1.symm.trans r1
    obtain ⟨cv', g1, g2, g3⟩ := hH.recv hX.2.2.2.2.2.2.2.1 hc.2.1 h0 hq
    obtain ⟨kC, hkC, -⟩ := Vm.findClass_spec r5
    obtain ⟨kV, hkV, -⟩ := Vm.findClass_spec g3
    have has : (c_s X).vm.assignable cv'.cls comp = true := by
      rcases hcast with hcast | hcast
      · obtain ⟨c0, t0, f1, f2, f3⟩ := Cond.castable_spec (va_Nw.use (A := c_a X) rfl (hX.2.2.2.2.2.2.2.2.2.2.2.2.2.1 _ _ hcast))
        cases g3.symm.trans f1
        cases r5.symm.trans f2
        exact f3
      · rw [hcast] at g3
        cases g3.symm.trans r5
        exact va_asg _ _
    exact W.aast hX.1 hX.2.1 q1 r2 q3 r3 r4 rfl hkC ⟨fun h => hc.2.2 (Or.inl h), Nat.lt_of_lt_of_le hlt q4.1⟩ g1 (fun z h => by rw [h] at g2; cases g2) hkV has rfl rfl d fun H1 e z oq => kk _ h2 H1 _ ls (hH.arrPut hX.2.2.2.2.2.2.2.2.2.1 hc.1.2 hc.1.1 hty q1 hlt (offR _ _ _ _) (av_setR rfl _ _ _) e z oq) (hS.put z oq (adX_le hc.1.2)) hll
  · cases h3
/-! making -/
theorem HW.mk {U : State} {D : va_G} {pre : Nat → Nat} {z : Nat} {hu : Nat → Option Nat} {A : AH} {H H1 : Heap} {c n : Nat} (h : HW U D pre z hu A H) (hz : H1.size = H.size + 1) (ho : ∀ q, q < H.size → H1[q]? = H[q]?) (hp : ∀ i, i < 32 → pre i < z)
    (hc : CellOK U D (adX pre z) (mkC c n A) H1 (hn A)) : HW U D pre z hu (mkC c n A) H1 := by
  obtain ⟨h0, h1, h2, h3, h4⟩ := h
  have e1 : hn (mkC c n A) = hn A + 1 := rfl
  refine ⟨h0, by rw [hz, e1]; omega, by rw [e1]; omega, fun k hk0 => ?_, fun k => ?_⟩
  · rw [e1]
    by_cases hk1 : k = hn A
    · omega
    · have : hk (mkC c n A) k = hk A k := if_neg hk1
      rw [this] at hk0
      have := h3 k hk0
      omega
  · by_cases hk1 : k = hn A
    · subst hk1; exact hc
    · have e2 : hk (mkC c n A) k = hk A k := if_neg hk1
      have e3 : hl (mkC c n A) k = hl A k := if_neg hk1
      have e4 : ∀ j, hI (mkC c n A) k j = hI A k j := fun j => if_neg hk1
      have e5 : ∀ j, hL (mkC c n A) k j = hL A k j := fun j => if_neg hk1
      have e6 : ∀ j, hR (mkC c n A) k j = hR A k j := fun j => if_neg hk1
      obtain ⟨c1, c2, c3, c4, c5⟩ := h4 k
      have f1 : fvX (adX pre z) (mkC c n A) (hk A k) k = fvX (adX pre z) A (hk A k) k := by
        funext j; unfold fvX; rw [e4, e5, e6]
      have f2 : ∀ ty, avX (adX pre z) (mkC c n A) ty k = avX (adX pre z) A ty k := by
        intro ty; funext j; unfold avX; rw [e4, e5, e6]
      unfold CellOK
      rw [e2, e3]
      refine ⟨fun q r hr => ?_, fun ty hy => ?_, fun q => ?_, fun q => ?_, fun q => ?_⟩
      · rw [f1]
        have g := c1 q r hr
        obtain ⟨cell, g1, -⟩ := id g
        exact g.kept (ho _ (Array.getElem?_eq_some_iff.mp g1).1)
      · rw [f2]
        have g := c2 ty hy
        exact g.kept (ho _ g.lt)
      · have g := c3 q
        obtain ⟨cell, _, _, g1, -⟩ := id g
        exact g.kept (ho _ (Array.getElem?_eq_some_iff.mp g1).1)
      · have g := c4 q
        obtain ⟨cell, _, _, g1, -⟩ := id g
        exact g.kept (ho _ (Array.getElem?_eq_some_iff.mp g1).1)
      · have g := c5 q
        obtain ⟨cell, g1, -⟩ := id g
        exact g.kept (ho _ (Array.getElem?_eq_some_iff.mp g1).1)
theorem HW.top {U : State} {D : va_G} {pre : Nat → Nat} {z : Nat} {hu : Nat → Option Nat} {A : AH} {H : Heap} (h : HW U D pre z hu A H) : H.size = adX pre z (hn A) := by
  obtain ⟨h0, h1, h2, h3, h4⟩ := h
  rw [adX_new h2]; omega
theorem va_S.mk {A : Nat → Prop} {H0 H H1 : Heap} {locs : List Loc} (h : va_S A H0 H locs) (hz : H1.size = H.size + 1) (ho : ∀ q, q < H.size → H1[q]? = H[q]?) : va_S A H0 H1 locs :=
  ⟨Nat.le_trans h.1 (by omega), fun x h1 h2 => (ho x (Nat.lt_of_lt_of_le h1 h.1)).trans (h.2.1 x h1 h2), h.2.2⟩
theorem df_0 {t : FieldType} (h : tk t = 0) (h1 : t ≠ .float) (h2 : t ≠ .double) : defaultValue t = .int 0 := by
  cases t <;> simp_all [tk] <;> rfl
theorem df_2 {t : FieldType} (h : tk t = 2) : defaultValue t = .null := by
  cases t <;> simp_all [tk] <;> rfl
/-- the types of our fields: neither float nor double -/
theorem ft_nofd : ∀ (c : Nat) (q : vw_C), clX[c]? = some q → ∀ j, j < q.2.2 → ftX c j ≠ .float ∧ ftX c j ≠ .double := by
  have key : ∀ (N : Nat) (f : Nat → FieldType), ((List.range N).all fun j => decide (f j ≠ .float ∧ f j ≠ .double)) = true → ∀ j, j < N → f j ≠ .float ∧ f j ≠ .double :=
    fun N f h j hj => of_decide_eq_true (List.all_eq_true.mp h j (List.mem_range.mpr hj))
  intro c q hq
  match c, hq with
  | 0, hq => cases hq; exact key 31 _ (by decide +kernel)
  | 1, hq => cases hq; exact key 31 _ (by decide +kernel)
  | 2, hq => cases hq; exact key 8 _ (by decide +kernel)
  | 3, hq => cases hq; exact key 11 _ (by decide +kernel)
  | 4, hq => cases hq; exact key 13 _ (by decide +kernel)
  | 5, hq => cases hq; exact key 73 _ (by decide +kernel)
  | 6, hq => cases hq; exact key 8 _ (by decide +kernel)
  | 7, hq => cases hq; exact key 5 _ (by decide +kernel)
  | 8, hq => cases hq; exact key 3 _ (by decide +kernel)
  | c + 9, hq => simp [clX] at hq
theorem fv_new {ad : Nat → Nat} {A : AH} {c n j : Nat} (h1 : ftX c j ≠ .float) (h2 : ftX c j ≠ .double) : fvX ad (mkC c n A) c (hn A) j = defaultValue (ftX c j) := by
  have e4 : hI (mkC c n A) (hn A) j = 0 := if_pos rfl
  have e5 : hL (mkC c n A) (hn A) j = 0 := if_pos rfl
  have e6 : hR (mkC c n A) (hn A) j = none := if_pos rfl
  unfold fvX
  rw [e4, e5, e6]
  cases h : ftX c j <;> simp_all [tk, cvN] <;> rfl
theorem g_new (hX : OKX X cc nL own ret) {idx c n : Nat} {q : vw_C} (h0 : c ≠ 0) (hq : clX[c]? = some q) (hw1 : Cond.classLink own idx q.1 ∈ LW) (hw2 : Cond.instantiable q.1 n ∈ LW) (hw3 : Cond.initialized q.1 ∈ LW) (hc : cs + 1 ≤ (c_R X).cells) (hs : ss + n ≤ (c_R X).slots) (d : decode cc pc = .ok (.new idx, 3))
    (kk : G X (cs + 1) (ss + n) (pc + 3) L (vr (some (hn A)) :: st) (mkC c 0 A)) : G X cs ss pc L st A := fun H locs ls hH hS hll => by
  obtain ⟨hx, hb, hml, hown, hts, hr, hlk, hE⟩ := hX
  have hKn := hE.1.1 c q hq
  refine W.newcK hx hb hown (hts _ hw1) (hts _ hw2) (hts _ hw3) rfl d hc hs hKn.2.1 hH.top fun H1 kC hkC e1 z1 o1 => ?_
  have hk1 : hk (mkC c 0 A) (hn A) = c := if_pos rfl
  have hz : H1.size = H.size + 1 := by rw [hH.top]; exact z1
  have ho : ∀ q, q < H.size → H1[q]? = H[q]? := by rw [hH.top]; exact o1
  refine kk H1 locs ls (hH.mk hz ho hE.2.2.1 ⟨fun _ r hr => ?_, fun ty hty => ?_, fun h => ?_, fun h => ?_, fun h => ?_⟩) (hS.mk hz ho) hll
  · rw [hk1] at hr ⊢
    cases hq.symm.trans hr
    have nf := ft_nofd c q hq
    exact (u_born (ftX c) hts (inX_at c q hq) hKn hkC e1 (ftX_at c q hq)).to fun j hj => (fv_new (nf j hj).1 (nf j hj).2).symm
  · rw [hk1] at hty
    have : c < 9 := by
      rcases Nat.lt_or_ge c 9 with h | h
      · exact h
      · rw [List.getElem?_eq_none (by simpa using h)] at hq
        cases hq
    match c, this, hty with
    | 0, _, h => cases h
    | 1, _, h => cases h
    | 2, _, h => cases h
    | 3, _, h => cases h
    | 4, _, h => cases h
    | 5, _, h => cases h
    | 6, _, h => cases h
    | 7, _, h => cases h
    | 8, _, h => cases h
    | c + 9, h, _ => omega
  · rw [hk1] at h; subst h; simp [clX] at hq
  · rw [hk1] at h; subst h; simp [clX] at hq
  · rw [hk1] at h
    subst h
    cases hq
    obtain ⟨cf, kf, fi, fd, hi, he⟩ := hE.2.2.2.2.2.2.2.2.2.2.2
    have h3 := (u_facts hKn.2.1 hkC (u_lays (N := 9) hts (fun w hw => lw_LW (in_X6 w hw)) (by decide)) hi).2.2
    rw [he] at h3
    exact ⟨_, e1, (Array.getElem?_eq_some_iff.mp (k2_blank h3)).1⟩
theorem av_new {ad : Nat → Nat} {A : AH} {ty : FieldType} {t n j : Nat} (h1 : ty ≠ .float) (h2 : ty ≠ .double) : avX ad (mkC t n A) ty (hn A) j = defaultValue ty := by
  have e4 : hI (mkC t n A) (hn A) j = 0 := if_pos rfl
  have e5 : hL (mkC t n A) (hn A) j = 0 := if_pos rfl
  have e6 : hR (mkC t n A) (hn A) j = none := if_pos rfl
  unfold avX
  rw [e4, e5, e6]
  cases ty <;> simp_all [tk, cvN] <;> rfl
theorem CellOK.newArr {U : State} {D : va_G} {ad : Nat → Nat} {A : AH} {H : Heap} {t n : Nat} {ty : FieldType} (h9 : 9 ≤ t) (hty : atX t = some ty) (h1 : ty ≠ .float) (h2 : ty ≠ .double) {cell : Cell} (e : H[ad (hn A)]? = some cell) (harr : U.isArrayOf cell ty) (hv : cell.vm ≠ .unknown) (hz : cell.slots.size = n) (hs : ∀ j, j < n → cell.slots[j]? = some (defaultValue ty))
    (hr : ∀ C, ty = .object C → ∃ (kA : Class) (comp : ClassId), U.vm.classes[cell.cls]? = some kA ∧ kA.kind = .array comp (.object C) ∧ U.vm.findClass C = some comp) : CellOK U D ad (mkC t n A) H (hn A) := by
  have hk1 : hk (mkC t n A) (hn A) = t := if_pos rfl
  have hl1 : hl (mkC t n A) (hn A) = n := if_pos rfl
  unfold CellOK
  rw [hk1, hl1]
  refine ⟨fun _ q hq => ?_, fun ty2 hty2 => ?_, fun h => ?_, fun h => ?_, fun h => by omega⟩
  · rw [List.getElem?_eq_none (by simpa using h9)] at hq
    cases hq
  · rw [hty] at hty2
    cases hty2
    exact ⟨cell, e, harr, hv, ⟨Nat.le_of_eq hz.symm, by rw [hz]⟩, fun j hj => by rw [av_new h1 h2]; exact hs j hj⟩
  · subst h
    cases hty
    obtain ⟨kA, comp, r1, r2, r3⟩ := hr _ rfl
    exact ⟨cell, kA, comp, e, harr.1, r1, r2, r3⟩
  · subst h
    cases hty
    obtain ⟨kA, comp, r1, r2, r3⟩ := hr _ rfl
    exact ⟨cell, kA, comp, e, harr.1, r1, r2, r3⟩
theorem g_newa (hX : OKX X cc nL own ret) {t B : Nat} {atype : ArrayType} {ty : FieldType} (h9 : 9 ≤ t) (hat : newarray.typeOf atype = ty) (hty : atX t = some ty) (hnr : tk ty ≠ 2) (h1 : ty ≠ .float) (h2 : ty ≠ .double) (hB : B * 8 ≤ 536870912) (hw : Cond.arrayClass ty ∈ LW) (hcb : componentBytes ty ≤ 8) {n : Int32} {α : Type} {F : AH → Option α} {o : α} (hf : (mkB B t A n).bind F = some o) (hc : cs + 1 ≤ (c_R X).cells) (hs : ss + B ≤ (c_R X).slots) (d : decode cc pc = .ok (.newarray atype, 2))
    (kk : ∀ A1, F A1 = some o → G X (cs + 1) (ss + B) (pc + 2) L (vr (some (hn A)) :: st) A1) : G X cs ss pc L (vi n :: st) A := fun H locs ls hH hS hll => by
  obtain ⟨A1, g1, g2⟩ := ob_some hf
  unfold mkB at g1
  split at g1
  · cases g1
  · rename_i hno
    cases g1
    obtain ⟨hx, hb, hml, hown, hts, hr, hlk, hE⟩ := hX
    have hn0 : ¬ n < 0 := fun h => hno (Or.inl h)
    have hnB : n.toNatClampNeg ≤ B := Nat.not_lt.mp fun h => hno (Or.inr h)
    subst hat
    refine va_newaK hx hb (hts _ hw) rfl d rfl hn0 rfl (Nat.le_trans (Nat.mul_le_mul hnB hcb) hB) hc (Nat.le_trans (Nat.add_le_add_left hnB _) hs) hH.top fun H1 cA e1 z1 o1 hAr hNm => ?_
    have hz : H1.size = H.size + 1 := by rw [hH.top]; exact z1
    have ho : ∀ q, q < H.size → H1[q]? = H[q]? := by rw [hH.top]; exact o1
    refine W.widen (Nat.le_refl _) (Nat.add_le_add_left hnB _) ?_
    refine kk _ g2 H1 locs ls (hH.mk hz ho hE.2.2.1 (CellOK.newArr h9 hty h1 h2 e1 (hAr _ _) (fun h => by cases h) (arrV_size _ _ _) (fun j hj => arrV_read _ _ hj) (fun C hC => absurd (by rw [hC]; rfl) hnr))) (hS.mk hz ho) hll
theorem g_anew (hX : OKX X cc nL own ret) {idx t B : Nat} {C : String} (ht : t = 14 ∧ C = "java/lang/Object" ∨ t = 15 ∧ C = "SlimeNet$Slime") (hB : B * 4 ≤ 536870912) (hw : Cond.classLink own idx C ∈ LW) {n : Int32} {α : Type} {F : AH → Option α} {o : α} (hf : (mkB B t A n).bind F = some o) (hc : cs + 1 ≤ (c_R X).cells) (hs : ss + B ≤ (c_R X).slots) (d : decode cc pc = .ok (.anewarray idx, 3))
    (kk : ∀ A1, F A1 = some o → G X (cs + 1) (ss + B) (pc + 3) L (vr (some (hn A)) :: st) A1) : G X cs ss pc L (vi n :: st) A := fun H locs ls hH hS hll => by
  obtain ⟨A1, g1, g2⟩ := ob_some hf
  unfold mkB at g1
  split at g1
  · cases g1
  · rename_i hno
    cases g1
    obtain ⟨hx, hb, hml, hown, hts, hr, hlk, hE⟩ := hX
    have hn0 : ¬ n < 0 := fun h => hno (Or.inl h)
    have hnB : n.toNatClampNeg ≤ B := Nat.not_lt.mp fun h => hno (Or.inr h)
    have hty : atX t = some (.object C) := by rcases ht with ⟨rfl, rfl⟩ | ⟨rfl, rfl⟩ <;> rfl
    have h9 : 9 ≤ t := by rcases ht with ⟨rfl, -⟩ | ⟨rfl, -⟩ <;> decide
    have hAO : va_AO C (c_s X) := by rcases ht with ⟨-, rfl⟩ | ⟨-, rfl⟩; exact hE.2.2.2.2.2.2.2.1.2; exact hE.2.2.2.2.2.2.2.1.1
    refine W.anew hx hb hown (hts _ hw) (va_AO.use hAO) rfl d rfl hn0 (Nat.le_trans (Nat.mul_le_mul_right 4 hnB) hB) hc (Nat.le_trans (Nat.add_le_add_left hnB _) hs) fun cA kA comp w1 w2 w3 w4 => ?_
    have hz : (H.push { cls := cA, slots := Array.replicate n.toNatClampNeg .null, vm := .none }).size = H.size + 1 := by simp
    have ho : ∀ q, q < H.size → (H.push { cls := cA, slots := Array.replicate n.toNatClampNeg .null, vm := .none })[q]? = H[q]? := fun q hq => by rw [Array.getElem?_push, if_neg (Nat.ne_of_lt hq)]
    refine W.widen (Nat.le_refl _) (Nat.add_le_add_left hnB _) ?_
    rw [hH.top]
    refine kk _ g2 _ locs ls (hH.mk hz ho hE.2.2.1 (CellOK.newArr h9 hty (fun h => by cases h) (fun h => by cases h) (cell := { cls := cA, slots := Array.replicate n.toNatClampNeg .null, vm := .none }) (by rw [← hH.top]; simp) ⟨(fun k h => by cases h), kA, w2, comp, w3⟩ (fun h => by cases h) (by simp) (fun j hj => by simp [hj]; rfl) (fun C' hC => by cases hC; exact ⟨kA, comp, w2, w3, w4⟩))) (hS.mk hz ho) hll
/-! statics, constants, casts -/
theorem g_ldcS (hX : OKX X cc nL own ret) {idx i : Nat} (h : (own, idx, i) ∈ strT) (d : decode cc pc = .ok (.ldc idx, 2)) (kk : G X cs ss (pc + 2) L (vr (some (2 + i)) :: st) A) : G X cs ss pc L st A := fun H locs ls hH hS hll => by
  obtain ⟨tx, hR⟩ := hX.2.2.2.2.2.2.2.2.2.2.2.2.2.2.2.2.2.1 _ _ _ h
  exact va_ldcS hX.1 hX.2.1 hX.2.2.2.1 hR d (kk H locs ls hH hS hll)
theorem g_gets (hX : OKX X cc nL own ret) {idx : Nat} {C n dd ref : String} {v : AV} (hZ : va_Z C n dd (cv (c_ad X) v) (fun q => c_z X ≤ q) (c_s X) (c_s X).heap) (hw : Cond.fieldLink own idx C n dd ∈ LW) (d : decode cc pc = .ok (.getstatic idx, 3)) (kk : G X cs ss (pc + 3) L (v :: st) A) : G X cs ss pc L st A := fun H locs ls hH hS hll =>
  va_gets hX.1 hX.2.1 hZ hS hX.2.2.2.1 (hX.2.2.2.2.1 _ hw) (fun _ h => h) d (kk H locs ls hH hS hll)
theorem g_castC (hX : OKX X cc nL own ret) {idx c : Nat} {q : vw_C} (h0 : c ≠ 0) (hq : clX[c]? = some q) (hw : Cond.classLink own idx q.1 ∈ LW) {r : Option Nat} {α : Type} {F : Option Nat → Option α} {o : α} (hf : (cst c A r).bind F = some o) (d : decode cc pc = .ok (.checkcast idx, 3)) (kk : F r = some o → G X cs ss (pc + 3) L (vr r :: st) A) : G X cs ss pc L (vr r :: st) A := fun H locs ls hH hS hll => by
  obtain ⟨v, g1, g2⟩ := ob_some hf
  cases r with
  | none =>
    cases g1
    exact lv_castN hX.1 hX.2.1 d (kk g2 H locs ls hH hS hll)
  | some k =>
    unfold cst at g1
    dsimp only at g1
    split at g1
    · rename_i hc
      cases g1
      exact va_castE hX.1 hX.2.1 hX.2.2.2.1 (hX.2.2.2.2.1 _ hw) (hH.recv hX.2.2.2.2.2.2.2.1 hc h0 hq) d (kk g2 H locs ls hH hS hll)
    · cases g1
/-- String's own fields -/
theorem g_strV (hX : OKX X cc nL own ret) {idx : Nat} (hw : Cond.fieldLink own idx "java/lang/String" "value" "[B" ∈ LW) {r : Option Nat} {α : Type} {F : Option Nat → Option α} {o : α} (hf : (strV r).bind F = some o) (d : decode cc pc = .ok (.getfield idx, 3)) (kk : ∀ v, F v = some o → G X cs ss (pc + 3) L (vr v :: st) A) : G X cs ss pc L (vr r :: st) A := fun H locs ls hH hS hll => by
  obtain ⟨v, g1, g2⟩ := ob_some hf
  obtain ⟨k, rfl, g3⟩ := ob_some g1
  split at g3
  · rename_i hc
    cases g3
    obtain ⟨i, rfl⟩ : ∃ i, k = 2 + i := ⟨k - 2, by omega⟩
    have hE := (hX.2.2.2.2.2.2.2.2.2.2.2.2.2.2.2.2.1 i (by omega)).2.1
    have k1 := kk _ g2 H locs ls hH hS hll
    rw [show 2 + i + 7 = 9 + i by omega] at k1
    exact vk_getf hX.1 hX.2.1 hE hS hX.2.2.2.1 (hX.2.2.2.2.1 _ hw) (fun _ h => h) d k1
  · cases g3
theorem g_strC (hX : OKX X cc nL own ret) {idx : Nat} (hw : Cond.fieldLink own idx "java/lang/String" "coder" "B" ∈ LW) {r : Option Nat} {α : Type} {F : Int32 → Option α} {o : α} (hf : (strC r).bind F = some o) (d : decode cc pc = .ok (.getfield idx, 3)) (kk : ∀ v, F v = some o → G X cs ss (pc + 3) L (vi v :: st) A) : G X cs ss pc L (vr r :: st) A := fun H locs ls hH hS hll => by
  obtain ⟨v, g1, g2⟩ := ob_some hf
  obtain ⟨k, rfl, g3⟩ := ob_some g1
  split at g3
  · rename_i hc
    cases g3
    obtain ⟨i, rfl⟩ : ∃ i, k = 2 + i := ⟨k - 2, by omega⟩
    have hE := (hX.2.2.2.2.2.2.2.2.2.2.2.2.2.2.2.2.1 i (by omega)).2.2
    exact vk_getf hX.1 hX.2.1 hE hS hX.2.2.2.1 (hX.2.2.2.2.1 _ hw) (fun _ h => h) d (kk _ g2 H locs ls hH hS hll)
  · cases g3
theorem g_objInit (hX : OKX X cc nL own ret) {idx : Nat} (hw1 : Cond.methodLink own idx Lib.objectInit ∈ LW) (hw2 : Cond.instanceMethod Lib.objectInit ∈ LW) (hw3 : Cond.code Lib.objectInit ⟨#[0xb1]⟩ 1 none ∈ LW) {k : Nat} (hfr : 1 ≤ (c_R X).frames) (hlo : 24 ≤ (c_R X).locals) (hst : (st.map ct).sum ≤ 8) (d : decode cc pc = .ok (.invokespecial idx, 3)) (kk : G X cs ss (pc + 3) L st A) : G X cs ss pc L (vr (some k) :: st) A := fun H locs ls hH hS hll => by
  have e : ((st.map (cv (c_ad X))).map fun v => v.category) = st.map ct := by
    rw [List.map_map]; congr 1; funext v; exact cv_cat _ v
  exact W.objInit hX.1 hX.2.1 hX.2.2.2.1 (hX.2.2.2.2.1 _ hw1) (hX.2.2.2.2.1 _ hw2) (hX.2.2.2.2.1 _ hw3) (g := F0 _ _ ls _) rfl hll.1 rfl d hfr (by rw [e]; show 2 * 0 + _ + 12 ≤ _; omega) (kk H locs ls hH hS hll)
/-! returns -/
theorem g_wret {v : Option AV} (hr : c_res X = .inl (v, A)) (h1 : cs ≤ c_mc X) (h2 : ss ≤ c_ms X) {pc : Nat}
    (hk : ∀ (H : Heap) (locs : List Loc) (ls : Array Slot), HW (c_s X) (c_D X) (c_pre X) (c_z X) (c_hu X) A H → (∀ q ∈ locs, c_z X ≤ q.base) → (∀ t : State, t.heap = H → (c_s X).WarmedH t.vm → QC (c_D X) (c_pre X) (c_z X) (c_hu X) (c_res X) (c_a X) (c_s X) (.returned (v.map (cv (c_ad X)))) t) →
      W (c_p X) (c_l X) (c_e X) (c_R X) (c_s X) (c_m X) (c_a X) (c_b X) (c_me X) (c_c X) H locs (c_mc X) (c_ms X) (MQ (c_b X) (QC (c_D X) (c_pre X) (c_z X) (c_hu X) (c_res X)) (c_a X) (c_s X) (c_mc X) (c_ms X) (fun q => c_z X ≤ q)) (F0 (c_m X) pc ls (st.map (cv (c_ad X))))) : G X cs ss pc L st A := fun H locs ls hH hS hll => by
  refine W.widen h1 h2 (vy_ret ?_)
  exact hk H locs ls hH hS.2.2 (fun t ht hW => ⟨v, A, hr, rfl, by rw [ht]; exact hH.moved hW.alike, hS.F ht⟩)
theorem g_iret (hX : OKX X cc nL own ret) {v : Int32} (hr : c_res X = .inl (some (vi v), A)) (hret : ret = some .int) (h1 : cs ≤ c_mc X) (h2 : ss ≤ c_ms X) (d : decode cc pc = .ok (.ireturn, 1)) : G X cs ss pc L (vi v :: []) A :=
  g_wret hr h1 h2 fun H locs ls hH hf hq => W.iret hX.1 hX.2.1 (by rw [hX.2.2.2.2.2.1, hret]) hq hf d hX.2.2.2.2.2.2.1
theorem g_zret (hX : OKX X cc nL own ret) {v : Int32} {ty : FieldType} (hr : c_res X = .inl (some (vi v), A)) (hret : ret = some ty) (hn : narrow ty (.int v) = .int v) (h1 : cs ≤ c_mc X) (h2 : ss ≤ c_ms X) (d : decode cc pc = .ok (.ireturn, 1)) : G X cs ss pc L (vi v :: []) A :=
  g_wret hr h1 h2 fun H locs ls hH hf hq => W.zret hX.1 hX.2.1 (by rw [hX.2.2.2.2.2.1, hret]) hn hq hf d hX.2.2.2.2.2.2.1
theorem g_lret (hX : OKX X cc nL own ret) {v : Int64} (hr : c_res X = .inl (some (vl v), A)) (hret : ret = some .long) (h1 : cs ≤ c_mc X) (h2 : ss ≤ c_ms X) (d : decode cc pc = .ok (.lreturn, 1)) : G X cs ss pc L (vl v :: []) A :=
  g_wret hr h1 h2 fun H locs ls hH hf hq => W.lret hX.1 hX.2.1 (by rw [hX.2.2.2.2.2.1, hret]) hq hf d hX.2.2.2.2.2.2.1
theorem g_vret (hX : OKX X cc nL own ret) (hr : c_res X = .inl (none, A)) (hret : ret = none) (h1 : cs ≤ c_mc X) (h2 : ss ≤ c_ms X) (d : decode cc pc = .ok (.return_, 1)) : G X cs ss pc L [] A :=
  g_wret hr h1 h2 fun H locs ls hH hf hq => W.vret hX.1 hX.2.1 (by rw [hX.2.2.2.2.2.1, hret]) hq hf d hX.2.2.2.2.2.2.1
theorem g_aret (hX : OKX X cc nL own ret) {v : Option Nat} {rt : FieldType} (hr : c_res X = .inl (some (vr v), A)) (hret : ret = some rt) (hrt : (∃ n, rt = .object n) ∨ ∃ t, rt = .array t) (h1 : cs ≤ c_mc X) (h2 : ss ≤ c_ms X) (d : decode cc pc = .ok (.areturn, 1)) : G X cs ss pc L (vr v :: []) A :=
  g_wret hr h1 h2 fun H locs ls hH hf hq => W.aret hX.1 hX.2.1 (by rw [hX.2.2.2.2.2.1, hret]) hrt (by cases v; exact Or.inl rfl; exact Or.inr ⟨_, rfl⟩) hq hf d hX.2.2.2.2.2.2.1
/-! calls -/
theorem LW_app {a c : List Cond} (ha : ∀ w ∈ a, w ∈ LW) (hc : GoodIn LW c) : GoodIn LW (a ++ c) := fun w hw => by
  rcases List.mem_append.mp hw with h | h
  · exact LW_self w (ha w h)
  · exact hc w h
abbrev wL (w : Cond) : List Cond := w :: LW
theorem LW_wL {w : Cond} (h : w ∈ LW) : GoodIn LW (wL w) := LW_cons h LW_self
def PC (D : va_G) (pre : Nat → Nat) (z : Nat) (hu : Nat → Option Nat) (avs : List AV) (A : AH) : Array Value → State → Prop := fun v U => v = (avs.map (cv (adX pre z))).toArray ∧ HW U D pre z hu A U.heap ∧ ENV D pre z hu U
/-- A METHOD'S CONTRACT: from the heap A with these arguments it comes to res -/
def MetF (l : Launch) (y : MethodName) (w : Cond) (rm : Room) (avs : List AV) (A : AH) (res : (Option AV × AH) ⊕ (Nat × AH)) : Prop := ∀ (D : va_G) (pre : Nat → Nat) (z : Nat) (hu : Nat → Option Nat),
  vy_Met l y (wL w) rm (PC D pre z hu avs A) (QC D pre z hu res) (XC D pre z hu res) rm.cells rm.slots (fun q => z ≤ q)
theorem PC_blind (D : va_G) (pre : Nat → Nat) (z : Nat) (hu : Nat → Option Nat) (avs : List AV) (A : AH) : FrameBlind (PC D pre z hu avs A) := fun a U g mk q => ⟨q.1, q.2.1.moved (U := U.calling g mk a) (Vm.Alike.refl U.vm), q.2.2.calling⟩
theorem PC_at {D : va_G} {pre : Nat → Nat} {z : Nat} {hu : Nat → Option Nat} {avs : List AV} {A : AH} {s : State} {H : Heap} {locs : List Loc} (hH : HW s D pre z hu A H) (hE : ENV D pre z hu s) (hS : va_S (fun q => z ≤ q) s.heap H locs) : ∀ U : State, U.heap = H → s.WarmedH U.vm → PC D pre z hu avs A (avs.map (cv (adX pre z))).toArray U := fun U hU hW =>
  ⟨rfl, by rw [hU]; exact hH.moved hW.alike, hE.to hW (by rw [hU]; exact hS)⟩
/-- what is owed behind a call that came to res -/
def KR (X : Ctx) (cs ss pc : Nat) (L : List (Nat × AV)) (st : List AV) : ((Option AV × AH) ⊕ (Nat × AH)) → Prop
  | .inl (v, A1) => G X cs ss (pc + 3) L (v.toList ++ st) A1
  | .inr (k, A1) => GX X cs ss pc L st k A1
theorem g_run {stk : List AV} {res : (Option AV × AH) ⊕ (Nat × AH)} {mc ms : Nat} {av : Array Value}
    (hr : ∀ (H : Heap) (locs : List Loc) (ls : Array Slot), HW (c_s X) (c_D X) (c_pre X) (c_z X) (c_hu X) A H → va_S (fun q => c_z X ≤ q) (c_s X).heap H locs → lv_has ls (c_c X).maxLocals (L.map (cvl (c_ad X))) →
      vy_Run (c_p X) (c_l X) (c_e X) (c_R X) (c_s X) (c_m X) (c_a X) (c_b X) (c_me X) (c_c X) H locs cs ss mc ms (F0 (c_m X) pc ls (stk.map (cv (c_ad X)))) (st.map (cv (c_ad X))) (QC (c_D X) (c_pre X) (c_z X) (c_hu X) res av) (XC (c_D X) (c_pre X) (c_z X) (c_hu X) res) (fun q => c_z X ≤ q))
    (K : KR X (cs + mc) (ss + ms) pc L st res) : G X cs ss pc L stk A := fun H locs ls hH hS hll => by
  intro T hT X0
  rcases hr H locs ls hH hS hll T hT X0 with ⟨v, st₀, t, T', L1, h0, X', hL, e1, e2, ⟨v1, A1, hres, hv, hHW, hF⟩, go⟩ | ⟨q, st₀, t, T', L1, E, ce, h0, X', hL, e1, e2, ⟨k, A1, hres, hq, hE, hHW, hF⟩, hce, hcv, hcl, go⟩
  · subst hres
    cases hv
    obtain ⟨k1, k2, k3⟩ := vy_keep h0 e1 hS (fun _ _ h => h) (fun _ h => h) hL hF
    have hH1 : HW (c_s X) (c_D X) (c_pre X) (c_z X) (c_hu X) A1 T'.heap := by rw [e1]; exact hHW.moved (by rw [← e2]; exact X'.warmed.alike.symm)
    obtain ⟨t2, a1, b1⟩ := K T'.heap (locs ++ L1) ls hH1 k3 hll T' rfl X'
    refine ⟨t2, go t2 ?_, b1⟩
    rw [show (v1.map (cv (adX (c_pre X) (c_z X)))).toList ++ st.map (cv (c_ad X)) = (v1.toList ++ st).map (cv (c_ad X)) by cases v1 <;> rfl]
    exact a1
  · subst hres
    subst hq
    subst hE
    obtain ⟨k1, k2, k3⟩ := vy_keep h0 e1 hS (fun _ _ h => h) (fun _ h => h) hL hF
    have hH1 : HW (c_s X) (c_D X) (c_pre X) (c_z X) (c_hu X) A1 T'.heap := by rw [e1]; exact hHW.moved (by rw [← e2]; exact X'.warmed.alike.symm)
    obtain ⟨t2, a1, b1⟩ := K T'.heap (locs ++ L1) ls ce hH1 k3 hll (by rw [e1]; exact hce) hcv hcl T' rfl X'
    exact ⟨t2, go.trans a1, b1⟩
theorem ct_sum (X : Ctx) (st : List AV) : ((st.map (cv (c_ad X))).map fun v => v.category).sum = (st.map ct).sum := by
  rw [List.map_map]; congr 2; funext v; exact cv_cat _ v
theorem OKX.fix (hX : OKX X cc nL own ret) : CallFix (c_p X) (c_m X) (c_c X) cc nL (c_s X) (c_a X) LW own := ⟨hX.1, hX.2.1, hX.2.2.1, hX.2.2.2.1, hX.2.2.2.2.1⟩
theorem OKX.env (hX : OKX X cc nL own ret) : ENV (c_D X) (c_pre X) (c_z X) (c_hu X) (c_s X) := hX.2.2.2.2.2.2.2
def SV (own : String) (idx c : Nat) (y : MethodName) (bytes : ByteArray) (maxL : Nat) (r : Option FieldType) (n : Nat) : Prop := ∃ q : vw_C, c ≠ 0 ∧ clX[c]? = some q ∧ GoodIn LW (wsV own idx q.1 y (wL (Cond.code y bytes maxL r))) ∧
  (y.cls = q.1 ∧ y.cls ≠ "java/lang/invoke/MethodHandle" ∧ y.cls ≠ "java/lang/invoke/VarHandle" ∧ (parseMethodDescriptor y.desc).map (fun d => d.parameters.length) = some n)
theorem g_callV {idx c maxL n k : Nat} {y : MethodName} {bytes : ByteArray} {r : Option FieldType} {rm : Room} {args stk : List AV} {res : (Option AV × AH) ⊕ (Nat × AH)} (hX : OKX X cc nL own ret) (hs : SV own idx c y bytes maxL r n) (hc : hk A k = c) (hM : MetF (c_l X) y (Cond.code y bytes maxL r) rm (vr (some k) :: args) A res)
    (hR : rm.frames + 1 ≤ (c_R X).frames ∧ 8 + (maxL + 11) + rm.locals ≤ (c_R X).locals) (hn : args.length = n) (hst : (st.map ct).sum ≤ 8) (hcs : cs + rm.cells ≤ (c_R X).cells ∧ ss + rm.slots ≤ (c_R X).slots) (d : decode cc pc = .ok (.invokevirtual idx, 3)) (hstk : stk = args.reverse ++ vr (some k) :: st)
    (K : KR X (cs + rm.cells) (ss + rm.slots) pc L st res) : G X cs ss pc L stk A := by
  obtain ⟨q, h0, hq, hG, hd⟩ := hs
  subst hstk
  refine g_run (av := (Value.ref (c_ad X k) :: args.map (cv (c_ad X))).toArray) (fun H locs ls hH hS hll => ?_) K
  exact vy_runV (As := args.map (cv (c_ad X))) (rest := st.map (cv (c_ad X))) hX.fix (hM _ _ _ _) (cwV n hX.2.2.2.2.1 hG rfl rfl rfl hd hR) ⟨PC_blind _ _ _ _ _ _, hH.recv hX.env.1 hc h0 hq, PC_at hH hX.env hS⟩ rfl (by rw [List.length_map]; exact hn) (hll.1.trans hX.2.2.1) (by simp [List.map_append, List.map_reverse]; rfl) (by rw [ct_sum]; show 2 * 0 + _ ≤ 8; omega) d hcs
def SU (own : String) (idx c : Nat) (x y : MethodName) (bytes : ByteArray) (maxL : Nat) (r : Option FieldType) (n : Nat) : Prop := ∃ (q : vw_C) (owner : String), c ≠ 0 ∧ clX[c]? = some q ∧ GoodIn LW (va_wsU own idx q.1 owner x y (wL (Cond.code y bytes maxL r))) ∧ y = ⟨owner, x.name, x.desc⟩ ∧
  (owner ≠ "java/lang/invoke/MethodHandle" ∧ owner ≠ "java/lang/invoke/VarHandle" ∧ (parseMethodDescriptor x.desc).map (fun d => d.parameters.length) = some n)
theorem g_callU {idx c maxL n k : Nat} {x y : MethodName} {bytes : ByteArray} {r : Option FieldType} {rm : Room} {args stk : List AV} {res : (Option AV × AH) ⊕ (Nat × AH)} (hX : OKX X cc nL own ret) (hs : SU own idx c x y bytes maxL r n) (hc : hk A k = c) (hM : MetF (c_l X) y (Cond.code y bytes maxL r) rm (vr (some k) :: args) A res)
    (hR : rm.frames + 1 ≤ (c_R X).frames ∧ 8 + (maxL + 11) + rm.locals ≤ (c_R X).locals) (hn : args.length = n) (hst : (st.map ct).sum ≤ 8) (hcs : cs + rm.cells ≤ (c_R X).cells ∧ ss + rm.slots ≤ (c_R X).slots) (d : decode cc pc = .ok (.invokevirtual idx, 3)) (hstk : stk = args.reverse ++ vr (some k) :: st)
    (K : KR X (cs + rm.cells) (ss + rm.slots) pc L st res) : G X cs ss pc L stk A := by
  obtain ⟨q, owner, h0, hq, hG, hyx, hd⟩ := hs
  subst hstk
  refine g_run (av := (Value.ref (c_ad X k) :: args.map (cv (c_ad X))).toArray) (fun H locs ls hH hS hll => ?_) K
  exact vy_runU (As := args.map (cv (c_ad X))) (rest := st.map (cv (c_ad X))) hX.fix (hM _ _ _ _) (va_cwU n hX.2.2.2.2.1 hG rfl rfl rfl hyx hd hR) ⟨PC_blind _ _ _ _ _ _, hH.recv hX.env.1 hc h0 hq, PC_at hH hX.env hS⟩ rfl (by rw [List.length_map]; exact hn) (hll.1.trans hX.2.2.1) (by simp [List.map_append, List.map_reverse]; rfl) (by rw [ct_sum]; show 2 * 0 + _ ≤ 8; omega) d hcs
def SS (own : String) (idx : Nat) (y : MethodName) (bytes : ByteArray) (maxL : Nat) (r : Option FieldType) (n : Nat) : Prop := GoodIn LW (va_wsS own idx y (wL (Cond.code y bytes maxL r))) ∧
  (y.cls ≠ "java/lang/invoke/MethodHandle" ∧ y.cls ≠ "java/lang/invoke/VarHandle" ∧ (parseMethodDescriptor y.desc).map (fun d => d.parameters.length) = some n)
theorem g_callS {idx maxL n : Nat} {y : MethodName} {bytes : ByteArray} {r : Option FieldType} {rm : Room} {args stk : List AV} {res : (Option AV × AH) ⊕ (Nat × AH)} (hX : OKX X cc nL own ret) (hs : SS own idx y bytes maxL r n) (hM : MetF (c_l X) y (Cond.code y bytes maxL r) rm args A res)
    (hR : rm.frames + 1 ≤ (c_R X).frames ∧ 8 + (maxL + 11) + rm.locals ≤ (c_R X).locals) (hn : args.length = n) (hst : (st.map ct).sum ≤ 8) (hcs : cs + rm.cells ≤ (c_R X).cells ∧ ss + rm.slots ≤ (c_R X).slots) (d : decode cc pc = .ok (.invokestatic idx, 3)) (hstk : stk = args.reverse ++ st)
    (K : KR X (cs + rm.cells) (ss + rm.slots) pc L st res) : G X cs ss pc L stk A := by
  obtain ⟨hG, hd⟩ := hs
  subst hstk
  refine g_run (av := (args.map (cv (c_ad X))).toArray) (fun H locs ls hH hS hll => ?_) K
  exact vy_runS (As := args.map (cv (c_ad X))) (rest := st.map (cv (c_ad X))) hX.fix (hM _ _ _ _) (va_cwS n hX.2.2.2.2.1 hG rfl rfl rfl hd hR) ⟨PC_blind _ _ _ _ _ _, PC_at hH hX.env hS⟩ rfl (by rw [List.length_map]; exact hn) (hll.1.trans hX.2.2.1) (by simp [List.map_append, List.map_reverse]) (by rw [ct_sum]; show 2 * 0 + _ ≤ 8; omega) d hcs
def SI (own : String) (idx : Nat) (y : MethodName) (bytes : ByteArray) (maxL : Nat) (n : Nat) : Prop := Cond.code y bytes maxL none ∈ LW ∧ Cond.initialized y.cls ∈ LW ∧ Cond.methodLink own idx y ∈ LW ∧ Cond.instanceMethod y ∈ LW ∧ y.name = "<init>" ∧
  (y.cls ≠ "java/lang/invoke/MethodHandle" ∧ y.cls ≠ "java/lang/invoke/VarHandle" ∧ (parseMethodDescriptor y.desc).map (fun d => d.parameters.length) = some n)
theorem g_callI {idx maxL n k : Nat} {y : MethodName} {bytes : ByteArray} {rm : Room} {args stk : List AV} {res : (Option AV × AH) ⊕ (Nat × AH)} (hX : OKX X cc nL own ret) (hs : SI own idx y bytes maxL n) (hM : MetF (c_l X) y (Cond.code y bytes maxL none) rm (vr (some k) :: args) A res)
    (hR : rm.frames + 1 ≤ (c_R X).frames ∧ 8 + (maxL + 11) + rm.locals ≤ (c_R X).locals) (hn : args.length = n) (hst : (st.map ct).sum ≤ 8) (hcs : cs + rm.cells ≤ (c_R X).cells ∧ ss + rm.slots ≤ (c_R X).slots) (d : decode cc pc = .ok (.invokespecial idx, 3)) (hstk : stk = args.reverse ++ vr (some k) :: st)
    (K : KR X (cs + rm.cells) (ss + rm.slots) pc L st res) : G X cs ss pc L stk A := by
  obtain ⟨w1, w2, w3, w4, hy, hd⟩ := hs
  subst hstk
  refine g_run (av := (Value.ref (c_ad X k) :: args.map (cv (c_ad X))).toArray) (fun H locs ls hH hS hll => ?_) K
  exact vy_runI (As := args.map (cv (c_ad X))) (rest := st.map (cv (c_ad X))) hX.fix (hM _ _ _ _) (cwI n hX.2.2.2.2.1 (LW_wL w1) rfl rfl rfl (hX.2.2.2.2.1 _ w2) (hX.2.2.2.2.1 _ w3) (hX.2.2.2.2.1 _ w4) hy hd hR) ⟨PC_blind _ _ _ _ _ _, PC_at (avs := vr (some k) :: args) hH hX.env hS⟩ rfl (by rw [List.length_map]; exact hn) (hll.1.trans hX.2.2.1) (by simp [List.map_append, List.map_reverse]; rfl) (by rw [ct_sum]; show 2 * 0 + _ ≤ 8; omega) d hcs
def SIN (own : String) (idx : Nat) (y : MethodName) (bytes : ByteArray) (maxL : Nat) (n : Nat) : Prop := ∃ host : String, Cond.code y bytes maxL none ∈ LW ∧ Cond.initialized y.cls ∈ LW ∧ Cond.methodLinkNest own idx y host ∈ lw_tbl ∧ Cond.instanceMethod y ∈ LW ∧ y.name = "<init>" ∧
  (y.cls ≠ "java/lang/invoke/MethodHandle" ∧ y.cls ≠ "java/lang/invoke/VarHandle" ∧ (parseMethodDescriptor y.desc).map (fun d => d.parameters.length) = some n)
theorem g_callIN {idx maxL n k : Nat} {y : MethodName} {bytes : ByteArray} {rm : Room} {args stk : List AV} {res : (Option AV × AH) ⊕ (Nat × AH)} (hX : OKX X cc nL own ret) (hs : SIN own idx y bytes maxL n) (hM : MetF (c_l X) y (Cond.code y bytes maxL none) rm (vr (some k) :: args) A res)
    (hR : rm.frames + 1 ≤ (c_R X).frames ∧ 8 + (maxL + 11) + rm.locals ≤ (c_R X).locals) (hn : args.length = n) (hst : (st.map ct).sum ≤ 8) (hcs : cs + rm.cells ≤ (c_R X).cells ∧ ss + rm.slots ≤ (c_R X).slots) (d : decode cc pc = .ok (.invokespecial idx, 3)) (hstk : stk = args.reverse ++ vr (some k) :: st)
    (K : KR X (cs + rm.cells) (ss + rm.slots) pc L st res) : G X cs ss pc L stk A := by
  obtain ⟨host, w1, w2, w3, w4, hy, hd⟩ := hs
  subst hstk
  refine g_run (av := (Value.ref (c_ad X k) :: args.map (cv (c_ad X))).toArray) (fun H locs ls hH hS hll => ?_) K
  exact vy_runIN (As := args.map (cv (c_ad X))) (rest := st.map (cv (c_ad X))) hX.fix (hM _ _ _ _) ⟨va_cnB n hX.2.2.2.2.1 (LW_wL w1) rfl rfl rfl (hX.env.2.2.2.2.2.1 _ _ _ _ w3) (hX.2.2.2.2.1 _ w2) hd hR, hy, hX.2.2.2.2.1 _ w4⟩ ⟨PC_blind _ _ _ _ _ _, PC_at (avs := vr (some k) :: args) hH hX.env hS⟩ rfl (by rw [List.length_map]; exact hn) (hll.1.trans hX.2.2.1) (by simp [List.map_append, List.map_reverse]; rfl) (by rw [ct_sum]; show 2 * 0 + _ ≤ 8; omega) d hcs
def SSN (own : String) (idx : Nat) (y : MethodName) (bytes : ByteArray) (maxL : Nat) (r : Option FieldType) (n : Nat) : Prop := ∃ host : String, Cond.code y bytes maxL r ∈ LW ∧ Cond.initialized y.cls ∈ LW ∧ Cond.methodLinkNest own idx y host ∈ lw_tbl ∧ Cond.static y ∈ LW ∧
  (y.cls ≠ "java/lang/invoke/MethodHandle" ∧ y.cls ≠ "java/lang/invoke/VarHandle" ∧ (parseMethodDescriptor y.desc).map (fun d => d.parameters.length) = some n)
theorem g_callSN {idx maxL n : Nat} {y : MethodName} {bytes : ByteArray} {r : Option FieldType} {rm : Room} {args stk : List AV} {res : (Option AV × AH) ⊕ (Nat × AH)} (hX : OKX X cc nL own ret) (hs : SSN own idx y bytes maxL r n) (hM : MetF (c_l X) y (Cond.code y bytes maxL r) rm args A res)
    (hR : rm.frames + 1 ≤ (c_R X).frames ∧ 8 + (maxL + 11) + rm.locals ≤ (c_R X).locals) (hn : args.length = n) (hst : (st.map ct).sum ≤ 8) (hcs : cs + rm.cells ≤ (c_R X).cells ∧ ss + rm.slots ≤ (c_R X).slots) (d : decode cc pc = .ok (.invokestatic idx, 3)) (hstk : stk = args.reverse ++ st)
    (K : KR X (cs + rm.cells) (ss + rm.slots) pc L st res) : G X cs ss pc L stk A := by
  obtain ⟨host, w1, w2, w3, w4, hd⟩ := hs
  subst hstk
  refine g_run (av := (args.map (cv (c_ad X))).toArray) (fun H locs ls hH hS hll => ?_) K
  exact vy_runSN (As := args.map (cv (c_ad X))) (rest := st.map (cv (c_ad X))) hX.fix (hM _ _ _ _) ⟨va_cnB n hX.2.2.2.2.1 (LW_wL w1) rfl rfl rfl (hX.env.2.2.2.2.2.1 _ _ _ _ w3) (hX.2.2.2.2.1 _ w2) hd hR, hX.2.2.2.2.1 _ w4, trivial⟩ ⟨PC_blind _ _ _ _ _ _, PC_at hH hX.env hS⟩ rfl (by rw [List.length_map]; exact hn) (hll.1.trans hX.2.2.1) (by simp [List.map_append, List.map_reverse]) (by rw [ct_sum]; show 2 * 0 + _ ≤ 8; omega) d hcs
/-- a method with a table of its own -/
def SVW (own : String) (idx c : Nat) (y : MethodName) (bytes : ByteArray) (maxL : Nat) (r : Option FieldType) (hh : List (Nat × Nat × Nat × Nat)) (n : Nat) : Prop := ∃ q : vw_C, c ≠ 0 ∧ clX[c]? = some q ∧ GoodIn LW (wsV own idx q.1 y (wL (Cond.codeWith y bytes maxL r hh))) ∧
  (y.cls = q.1 ∧ y.cls ≠ "java/lang/invoke/MethodHandle" ∧ y.cls ≠ "java/lang/invoke/VarHandle" ∧ (parseMethodDescriptor y.desc).map (fun d => d.parameters.length) = some n)
theorem g_callVW {idx c maxL n k : Nat} {y : MethodName} {bytes : ByteArray} {r : Option FieldType} {hh : List (Nat × Nat × Nat × Nat)} {rm : Room} {args stk : List AV} {res : (Option AV × AH) ⊕ (Nat × AH)} (hX : OKX X cc nL own ret) (hs : SVW own idx c y bytes maxL r hh n) (hc : hk A k = c) (hM : MetF (c_l X) y (Cond.codeWith y bytes maxL r hh) rm (vr (some k) :: args) A res)
    (hR : rm.frames + 1 ≤ (c_R X).frames ∧ 8 + (maxL + 11) + rm.locals ≤ (c_R X).locals) (hn : args.length = n) (hst : (st.map ct).sum ≤ 8) (hcs : cs + rm.cells ≤ (c_R X).cells ∧ ss + rm.slots ≤ (c_R X).slots) (d : decode cc pc = .ok (.invokevirtual idx, 3)) (hstk : stk = args.reverse ++ vr (some k) :: st)
    (K : KR X (cs + rm.cells) (ss + rm.slots) pc L st res) : G X cs ss pc L stk A := by
  obtain ⟨q, h0, hq, hG, hd⟩ := hs
  subst hstk
  refine g_run (av := (Value.ref (c_ad X k) :: args.map (cv (c_ad X))).toArray) (fun H locs ls hH hS hll => ?_) K
  exact vy_runVX (As := args.map (cv (c_ad X))) (rest := st.map (cv (c_ad X))) hX.fix (hM _ _ _ _) (vy_cwVW n hX.2.2.2.2.1 hG rfl rfl rfl hd hR) ⟨PC_blind _ _ _ _ _ _, hH.recv hX.env.1 hc h0 hq, PC_at hH hX.env hS⟩ rfl (by rw [List.length_map]; exact hn) (hll.1.trans hX.2.2.1) (by simp [List.map_append, List.map_reverse]; rfl) (by rw [ct_sum]; show 2 * 0 + _ ≤ 8; omega) d hcs
/-! throwing -/
theorem g_athrow (hX : OKX X cc nL own ret) {k : Nat} (hc : hk A k = 2) (d : decode cc pc = .ok (.athrow, 1)) (K : GX X cs ss pc L st k A) : G X cs ss pc L (vr (some k) :: st) A := fun H locs ls hH hS hll => by
  obtain ⟨cell, g1, g2, g3, -⟩ := hH.obj hc (by decide) rfl
  exact vy_athrow hX.1 hX.2.1 d (K H locs ls cell hH hS hll g1 g3 (by rw [g2]; exact (hX.env.1.1 2 _ rfl).2.1))
theorem g_out (hX : OKX X cc nL own ret) {k : Nat} (hno : ∀ x ∈ (c_c X).exceptionTable.toList, False) (hr : c_res X = .inr (k, A)) (h1 : cs ≤ c_mc X) (h2 : ss ≤ c_ms X) : GX X cs ss pc L st k A := fun H locs ls ce hH hS hll e1 e2 e3 =>
  vy_out (fun x hx => (hno x hx).elim) hX.2.2.2.2.2.2.1 e1 e2 e3 (fun t ht al => ⟨k, A, hr, rfl, rfl, by rw [ht]; exact hH.moved al, hS.F ht⟩) hS.2.2 h1 h2
end ROWS
def avArgs : Nat → List AV → List (Nat × AV)
  | _, [] => []
  | i, v :: l => (i, v) :: avArgs (i + ct v) l
theorem ct_12 (v : AV) : ct v = 1 ∨ ct v = 2 := by
  rcases v with x | x | r
  · exact Or.inl rfl
  · exact Or.inr rfl
  · exact Or.inl rfl
theorem avArgs_map (ad : Nat → Nat) : ∀ (l : List AV) (i : Nat), (avArgs i l).map (cvl ad) = lv_args i (l.map (cv ad))
  | [], _ => rfl
  | v :: l, i => by
    show (i, cv ad v) :: (avArgs (i + ct v) l).map (cvl ad) = (i, cv ad v) :: lv_args (if (cv ad v).category = 2 then i + 2 else i + 1) (l.map (cv ad))
    rw [avArgs_map ad l, cv_cat]
    rcases ct_12 v with h | h <;> rw [h] <;> rfl
theorem lg_sl_len (ad : Nat → Nat) : ∀ (l : List AV), (lg_sl (l.map (cv ad))).length = (l.map ct).sum
  | [] => rfl
  | v :: l => by
    have h := lg_sl_len ad l
    unfold lg_sl at h ⊢
    rw [List.map_cons, List.flatMap_cons, List.length_append, h, List.map_cons, List.sum_cons, cv_cat]
    rcases ct_12 v with h | h <;> rw [h] <;> rfl
theorem metF_of {l : Launch} {y : MethodName} {cc : ByteArray} {nL : Nat} {ret : Option FieldType} {own : String} {rm : Room} {avs : List AV} {A : AH} {res : (Option AV × AH) ⊕ (Nat × AH)} (hy : plainName y.cls = true) (hown : y.cls = own) (hlen : (avs.map ct).sum ≤ nL)
    (body : ∀ X : Ctx, OKX X cc nL own ret → c_l X = l → c_R X = rm → (c_me X).name = y.name → c_res X = res → c_mc X = rm.cells → c_ms X = rm.slots → (c_c X).exceptionTable.toList = [] → G X 0 0 0 (avArgs 0 avs) [] A) : MetF l y (Cond.code y cc nL ret) rm avs A res := by
  intro D pre z hu
  refine vy_ofW (cc := cc) (maxL := nL) (ret := ret) hy rfl ?_
  intro p e s m args below meth c s₁ B hml hno hv
  obtain ⟨rfl, hHW, hE⟩ := hv
  have hts := atoms_spec (ws := wL (Cond.code y cc nL ret)) B.pre
  have k := body ((p, l, e, rm, s, m, (avs.map (cv (adX pre z))).toArray), (below, meth, c), (D, pre, z, hu), (res, rm.cells, rm.slots))
    ⟨B.exec, B.bytes, hml, hown ▸ findClass_of_methodNamed B.named, fun w h => hts w (List.mem_cons_of_mem _ h), B.returns, B.notSynchronized, hE⟩ rfl rfl (name_of_methodNamed B.named B.method).1 rfl rfl rfl (List.eq_nil_iff_forall_not_mem.mpr fun x hx => (hno x hx).elim)
  rw [lg_entry_eq]
  refine k s.heap [] _ hHW va_S.rf ?_
  have h1 := lv_entry (avs.map (cv (adX pre z))) (n := nL) (by rw [lg_sl_len]; exact hlen)
  rw [avArgs_map]
  show lv_has _ c.maxLocals _
  rw [hml]
  exact h1
theorem metF_ofH {l : Launch} {y : MethodName} {cc : ByteArray} {nL : Nat} {ret : Option FieldType} {hh : List (Nat × Nat × Nat × Nat)} {own : String} {rm : Room} {avs : List AV} {A : AH} {res : (Option AV × AH) ⊕ (Nat × AH)} (hy : plainName y.cls = true) (hown : y.cls = own) (hlen : (avs.map ct).sum ≤ nL)
    (body : ∀ X : Ctx, OKX X cc nL own ret → c_l X = l → c_R X = rm → (c_me X).name = y.name → c_res X = res → c_mc X = rm.cells → c_ms X = rm.slots → (c_c X).exceptionTable.toList = tableOf hh → G X 0 0 0 (avArgs 0 avs) [] A) : MetF l y (Cond.codeWith y cc nL ret hh) rm avs A res := by
  intro D pre z hu
  refine vy_ofWH (cc := cc) (maxL := nL) (ret := ret) (hh := hh) hy rfl ?_
  intro p e s m args below meth c s₁ B hml hv
  obtain ⟨rfl, hHW, hE⟩ := hv
  have hts := atoms_spec (ws := wL (Cond.codeWith y cc nL ret hh)) B.pre
  have k := body ((p, l, e, rm, s, m, (avs.map (cv (adX pre z))).toArray), (below, meth, c), (D, pre, z, hu), (res, rm.cells, rm.slots))
    ⟨B.exec, B.bytes, hml, hown ▸ findClass_of_methodNamed B.named, fun w h => hts w (List.mem_cons_of_mem _ h), B.returns, B.notSynchronized, hE⟩ rfl rfl (name_of_methodNamed B.named B.method).1 rfl rfl rfl (vy_table (x := y) (y := y) B (hts _ List.mem_cons_self))
  rw [lg_entry_eq]
  refine k s.heap [] _ hHW va_S.rf ?_
  have h1 := lv_entry (avs.map (cv (adX pre z))) (n := nL) (by rw [lg_sl_len]; exact hlen)
  rw [avArgs_map]
  show lv_has _ c.maxLocals _
  rw [hml]
  exact h1
section ROWS6
variable {X : Ctx} {cc : ByteArray} {nL : Nat} {own : String} {ret : Option FieldType} {cs ss pc : Nat} {L L' : List (Nat × AV)} {st : List AV} {A : AH}
theorem g_pick (k : G X cs ss pc L' st A) (ks : List Nat) (h : ks.filterMap (fun i => L[i]?) = L') : G X cs ss pc L st A := g_sub k (fun q hq => by
  subst h
  obtain ⟨i, -, hi⟩ := List.mem_filterMap.mp hq
  exact List.mem_of_getElem? hi)
/-- all that is fixed in the walk of the method y -/
def MX (X : Ctx) (y : MethodName) (cc : ByteArray) (nL : Nat) (own : String) (ret : Option FieldType) (rm : Room) (tb : List ExceptionTableEntry) : Prop :=
  OKX X cc nL own ret ∧ c_R X = rm ∧ c_mc X = rm.cells ∧ c_ms X = rm.slots ∧ (y.desc ≠ "([I)Z" → (c_me X).name = y.name ∧ (c_c X).exceptionTable.toList = tb)
def roomOK (rm rm' : Room) (maxL cs ss : Nat) : Bool := Nat.ble (rm'.frames + 1) rm.frames && (Nat.ble (8 + (maxL + 11) + rm'.locals) rm.locals && (Nat.ble (cs + rm'.cells) rm.cells && Nat.ble (ss + rm'.slots) rm.slots))
theorem roomOK_spec {rm rm' : Room} {maxL cs ss : Nat} (h : roomOK rm rm' maxL cs ss = true) : (rm'.frames + 1 ≤ rm.frames ∧ 8 + (maxL + 11) + rm'.locals ≤ rm.locals) ∧ (cs + rm'.cells ≤ rm.cells ∧ ss + rm'.slots ≤ rm.slots) := by
  unfold roomOK at h
  simp only [Bool.and_eq_true] at h
  exact ⟨⟨Nat.le_of_ble_eq_true h.1, Nat.le_of_ble_eq_true h.2.1⟩, Nat.le_of_ble_eq_true h.2.2.1, Nat.le_of_ble_eq_true h.2.2.2⟩
variable {y0 : MethodName} {rm0 : Room} {tb : List ExceptionTableEntry} {maxL n : Nat} {y : MethodName} {bytes : ByteArray} {r : Option FieldType} {rm : Room} {stk : List AV} {res : (Option AV × AH) ⊕ (Nat × AH)}
theorem h_callV {idx c k : Nat} {r0 : Option Nat} (hM0 : MX X y0 cc nL own ret rm0 tb) (args : List AV) (d : decode cc pc = .ok (.invokevirtual idx, 3)) (hs : SV own idx c y bytes maxL r n) (hc : rcv c A r0 = some k) (hM : MetF (c_l X) y (Cond.code y bytes maxL r) rm (vr (some k) :: args) A res) (hR : roomOK rm0 rm maxL cs ss = true) (hn : args.length = n) (hst : Nat.ble (st.map ct).sum 8 = true) (hstk : stk = args.reverse ++ vr r0 :: st)
    (K : KR X (cs + rm.cells) (ss + rm.slots) pc L st res) : G X cs ss pc L stk A := by
  obtain ⟨rfl, hc2⟩ := rcv_spec hc
  exact g_callV hM0.1 hs hc2 hM (by rw [hM0.2.1]; exact (roomOK_spec hR).1) hn (Nat.le_of_ble_eq_true hst) (by rw [hM0.2.1]; exact (roomOK_spec hR).2) d hstk K
theorem h_callU {idx c k : Nat} {r0 : Option Nat} {x : MethodName} (hM0 : MX X y0 cc nL own ret rm0 tb) (args : List AV) (d : decode cc pc = .ok (.invokevirtual idx, 3)) (hs : SU own idx c x y bytes maxL r n) (hc : rcv c A r0 = some k) (hM : MetF (c_l X) y (Cond.code y bytes maxL r) rm (vr (some k) :: args) A res) (hR : roomOK rm0 rm maxL cs ss = true) (hn : args.length = n) (hst : Nat.ble (st.map ct).sum 8 = true) (hstk : stk = args.reverse ++ vr r0 :: st)
    (K : KR X (cs + rm.cells) (ss + rm.slots) pc L st res) : G X cs ss pc L stk A := by
  obtain ⟨rfl, hc2⟩ := rcv_spec hc
  exact g_callU hM0.1 hs hc2 hM (by rw [hM0.2.1]; exact (roomOK_spec hR).1) hn (Nat.le_of_ble_eq_true hst) (by rw [hM0.2.1]; exact (roomOK_spec hR).2) d hstk K
theorem h_callS {idx : Nat} (hM0 : MX X y0 cc nL own ret rm0 tb) (args : List AV) (d : decode cc pc = .ok (.invokestatic idx, 3)) (hs : SS own idx y bytes maxL r n) (hM : MetF (c_l X) y (Cond.code y bytes maxL r) rm args A res) (hR : roomOK rm0 rm maxL cs ss = true) (hn : args.length = n) (hst : Nat.ble (st.map ct).sum 8 = true) (hstk : stk = args.reverse ++ st)
    (K : KR X (cs + rm.cells) (ss + rm.slots) pc L st res) : G X cs ss pc L stk A :=
  g_callS hM0.1 hs hM (by rw [hM0.2.1]; exact (roomOK_spec hR).1) hn (Nat.le_of_ble_eq_true hst) (by rw [hM0.2.1]; exact (roomOK_spec hR).2) d hstk K
theorem h_callI {idx k : Nat} (hM0 : MX X y0 cc nL own ret rm0 tb) (args : List AV) (d : decode cc pc = .ok (.invokespecial idx, 3)) (hs : SI own idx y bytes maxL n) (hM : MetF (c_l X) y (Cond.code y bytes maxL none) rm (vr (some k) :: args) A res) (hR : roomOK rm0 rm maxL cs ss = true) (hn : args.length = n) (hst : Nat.ble (st.map ct).sum 8 = true) (hstk : stk = args.reverse ++ vr (some k) :: st)
    (K : KR X (cs + rm.cells) (ss + rm.slots) pc L st res) : G X cs ss pc L stk A :=
  g_callI hM0.1 hs hM (by rw [hM0.2.1]; exact (roomOK_spec hR).1) hn (Nat.le_of_ble_eq_true hst) (by rw [hM0.2.1]; exact (roomOK_spec hR).2) d hstk K
theorem h_callIN {idx k : Nat} (hM0 : MX X y0 cc nL own ret rm0 tb) (args : List AV) (d : decode cc pc = .ok (.invokespecial idx, 3)) (hs : SIN own idx y bytes maxL n) (hM : MetF (c_l X) y (Cond.code y bytes maxL none) rm (vr (some k) :: args) A res) (hR : roomOK rm0 rm maxL cs ss = true) (hn : args.length = n) (hst : Nat.ble (st.map ct).sum 8 = true) (hstk : stk = args.reverse ++ vr (some k) :: st)
    (K : KR X (cs + rm.cells) (ss + rm.slots) pc L st res) : G X cs ss pc L stk A :=
  g_callIN hM0.1 hs hM (by rw [hM0.2.1]; exact (roomOK_spec hR).1) hn (Nat.le_of_ble_eq_true hst) (by rw [hM0.2.1]; exact (roomOK_spec hR).2) d hstk K
theorem h_callSN {idx : Nat} (hM0 : MX X y0 cc nL own ret rm0 tb) (args : List AV) (d : decode cc pc = .ok (.invokestatic idx, 3)) (hs : SSN own idx y bytes maxL r n) (hM : MetF (c_l X) y (Cond.code y bytes maxL r) rm args A res) (hR : roomOK rm0 rm maxL cs ss = true) (hn : args.length = n) (hst : Nat.ble (st.map ct).sum 8 = true) (hstk : stk = args.reverse ++ st)
    (K : KR X (cs + rm.cells) (ss + rm.slots) pc L st res) : G X cs ss pc L stk A :=
  g_callSN hM0.1 hs hM (by rw [hM0.2.1]; exact (roomOK_spec hR).1) hn (Nat.le_of_ble_eq_true hst) (by rw [hM0.2.1]; exact (roomOK_spec hR).2) d hstk K
theorem h_callVW {idx c k : Nat} {r0 : Option Nat} {hh : List (Nat × Nat × Nat × Nat)} (hM0 : MX X y0 cc nL own ret rm0 tb) (args : List AV) (d : decode cc pc = .ok (.invokevirtual idx, 3)) (hs : SVW own idx c y bytes maxL r hh n) (hc : rcv c A r0 = some k) (hM : MetF (c_l X) y (Cond.codeWith y bytes maxL r hh) rm (vr (some k) :: args) A res) (hR : roomOK rm0 rm maxL cs ss = true) (hn : args.length = n) (hst : Nat.ble (st.map ct).sum 8 = true) (hstk : stk = args.reverse ++ vr r0 :: st)
    (K : KR X (cs + rm.cells) (ss + rm.slots) pc L st res) : G X cs ss pc L stk A := by
  obtain ⟨rfl, hc2⟩ := rcv_spec hc
  exact g_callVW hM0.1 hs hc2 hM (by rw [hM0.2.1]; exact (roomOK_spec hR).1) hn (Nat.le_of_ble_eq_true hst) (by rw [hM0.2.1]; exact (roomOK_spec hR).2) d hstk K
/-- a method of String -/
def SVS (own : String) (idx : Nat) (y : MethodName) (bytes : ByteArray) (maxL : Nat) (r : Option FieldType) (n : Nat) : Prop := GoodIn LW (wsV own idx "java/lang/String" y (wL (Cond.code y bytes maxL r))) ∧
  (y.cls = "java/lang/String" ∧ y.cls ≠ "java/lang/invoke/MethodHandle" ∧ y.cls ≠ "java/lang/invoke/VarHandle" ∧ (parseMethodDescriptor y.desc).map (fun d => d.parameters.length) = some n)
theorem h_callStr {idx k : Nat} {r0 : Option Nat} (hM0 : MX X y0 cc nL own ret rm0 tb) (args : List AV) (d : decode cc pc = .ok (.invokevirtual idx, 3)) (hs : SVS own idx y bytes maxL r n) (hc : rcvS r0 = some k) (hM : MetF (c_l X) y (Cond.code y bytes maxL r) rm (vr (some k) :: args) A res) (hR : roomOK rm0 rm maxL cs ss = true) (hn : args.length = n) (hst : Nat.ble (st.map ct).sum 8 = true) (hstk : stk = args.reverse ++ vr r0 :: st)
    (K : KR X (cs + rm.cells) (ss + rm.slots) pc L st res) : G X cs ss pc L stk A := by
  obtain ⟨rfl, hc2⟩ := rcvS_spec hc
  have hc := hc2
  obtain ⟨hG, hd⟩ := hs
  have hX := hM0.1
  have hst := Nat.le_of_ble_eq_true hst
  subst hstk
  refine g_run (av := (Value.ref (c_ad X k) :: args.map (cv (c_ad X))).toArray) (fun H locs ls hH hS hll => ?_) K
  have hrec : ∃ cell : Cell, H[c_ad X k]? = some cell ∧ cell.vm.isStatics = false ∧ (c_s X).vm.findClass "java/lang/String" = some cell.cls := by
    obtain ⟨i, rfl⟩ : ∃ i, k = 2 + i := ⟨k - 2, by omega⟩
    obtain ⟨cell, h1, h2, h3, -⟩ := (hX.2.2.2.2.2.2.2.2.2.2.2.2.2.2.2.2.1 i (by omega)).1.kept hS.2.1
    exact ⟨cell, h1, h2, h3⟩
  exact vy_runV (As := args.map (cv (c_ad X))) (rest := st.map (cv (c_ad X))) hX.fix (hM _ _ _ _) (cwV n hX.2.2.2.2.1 hG rfl rfl rfl hd (by rw [hM0.2.1]; exact (roomOK_spec hR).1)) ⟨PC_blind _ _ _ _ _ _, hrec, PC_at hH hX.env hS⟩ rfl (by rw [List.length_map]; exact hn) (hll.1.trans hX.2.2.1) (by simp [List.map_append, List.map_reverse]; rfl) (by rw [ct_sum]; show 2 * 0 + _ ≤ 8; omega) d (by rw [hM0.2.1]; exact (roomOK_spec hR).2)
theorem h_objInit {idx : Nat} (hM0 : MX X y0 cc nL own ret rm0 tb) (d : decode cc pc = .ok (.invokespecial idx, 3)) (hw1 : Cond.methodLink own idx Lib.objectInit ∈ LW) (hw2 : Cond.instanceMethod Lib.objectInit ∈ LW) (hw3 : Cond.code Lib.objectInit ⟨#[0xb1]⟩ 1 none ∈ LW) {k : Nat} (hR : (Nat.ble 1 rm0.frames && Nat.ble 24 rm0.locals) = true) (hst : Nat.ble (st.map ct).sum 8 = true) (kk : G X cs ss (pc + 3) L st A) : G X cs ss pc L (vr (some k) :: st) A := by
  simp only [Bool.and_eq_true] at hR
  exact g_objInit hM0.1 hw1 hw2 hw3 (by rw [hM0.2.1]; exact Nat.le_of_ble_eq_true hR.1) (by rw [hM0.2.1]; exact Nat.le_of_ble_eq_true hR.2) (Nat.le_of_ble_eq_true hst) d kk
theorem h_iret (hM0 : MX X y0 cc nL own ret rm0 tb) (d : decode cc pc = .ok (.ireturn, 1)) {v : Int32} (hr : c_res X = .inl (some (vi v), A)) (hret : ret = some .int) (hR : (Nat.ble cs rm0.cells && Nat.ble ss rm0.slots) = true) : G X cs ss pc L (vi v :: []) A := by
  simp only [Bool.and_eq_true] at hR
  exact g_iret hM0.1 hr hret (by rw [hM0.2.2.1]; exact Nat.le_of_ble_eq_true hR.1) (by rw [hM0.2.2.2.1]; exact Nat.le_of_ble_eq_true hR.2) d
theorem h_zret (hM0 : MX X y0 cc nL own ret rm0 tb) (d : decode cc pc = .ok (.ireturn, 1)) {v : Int32} {ty : FieldType} (hr : c_res X = .inl (some (vi v), A)) (hret : ret = some ty) (hn : narrow ty (.int v) = .int v) (hR : (Nat.ble cs rm0.cells && Nat.ble ss rm0.slots) = true) : G X cs ss pc L (vi v :: []) A := by
  simp only [Bool.and_eq_true] at hR
  exact g_zret hM0.1 hr hret hn (by rw [hM0.2.2.1]; exact Nat.le_of_ble_eq_true hR.1) (by rw [hM0.2.2.2.1]; exact Nat.le_of_ble_eq_true hR.2) d
theorem h_lret (hM0 : MX X y0 cc nL own ret rm0 tb) (d : decode cc pc = .ok (.lreturn, 1)) {v : Int64} (hr : c_res X = .inl (some (vl v), A)) (hret : ret = some .long) (hR : (Nat.ble cs rm0.cells && Nat.ble ss rm0.slots) = true) : G X cs ss pc L (vl v :: []) A := by
  simp only [Bool.and_eq_true] at hR
  exact g_lret hM0.1 hr hret (by rw [hM0.2.2.1]; exact Nat.le_of_ble_eq_true hR.1) (by rw [hM0.2.2.2.1]; exact Nat.le_of_ble_eq_true hR.2) d
theorem h_vret (hM0 : MX X y0 cc nL own ret rm0 tb) (d : decode cc pc = .ok (.return_, 1)) (hr : c_res X = .inl (none, A)) (hret : ret = none) (hR : (Nat.ble cs rm0.cells && Nat.ble ss rm0.slots) = true) : G X cs ss pc L [] A := by
  simp only [Bool.and_eq_true] at hR
  exact g_vret hM0.1 hr hret (by rw [hM0.2.2.1]; exact Nat.le_of_ble_eq_true hR.1) (by rw [hM0.2.2.2.1]; exact Nat.le_of_ble_eq_true hR.2) d
theorem h_aret (hM0 : MX X y0 cc nL own ret rm0 tb) (d : decode cc pc = .ok (.areturn, 1)) {v : Option Nat} {rt : FieldType} (hr : c_res X = .inl (some (vr v), A)) (hret : ret = some rt) (hrt : tk rt = 2) (hR : (Nat.ble cs rm0.cells && Nat.ble ss rm0.slots) = true) : G X cs ss pc L (vr v :: []) A := by
  simp only [Bool.and_eq_true] at hR
  exact g_aret hM0.1 hr hret (by cases rt <;> simp_all [tk]) (by rw [hM0.2.2.1]; exact Nat.le_of_ble_eq_true hR.1) (by rw [hM0.2.2.2.1]; exact Nat.le_of_ble_eq_true hR.2) d
theorem h_out (hM0 : MX X y0 cc nL own ret rm0 []) (hd : y0.desc ≠ "([I)Z") {k : Nat} (hr : c_res X = .inr (k, A)) (hR : (Nat.ble cs rm0.cells && Nat.ble ss rm0.slots) = true) : GX X cs ss pc L st k A := by
  simp only [Bool.and_eq_true] at hR
  exact g_out hM0.1 (by rw [(hM0.2.2.2.2 hd).2]; exact fun x hx => nomatch hx) hr (by rw [hM0.2.2.1]; exact Nat.le_of_ble_eq_true hR.1) (by rw [hM0.2.2.2.1]; exact Nat.le_of_ble_eq_true hR.2)
theorem h_new {idx c nn : Nat} {q : vw_C} (hM0 : MX X y0 cc nL own ret rm0 tb) (d : decode cc pc = .ok (.new idx, 3)) (h0 : c ≠ 0) (hq : clX[c]? = some q) (hw1 : Cond.classLink own idx q.1 ∈ LW) (hw2 : Cond.instantiable q.1 nn ∈ LW) (hw3 : Cond.initialized q.1 ∈ LW) (hR : (Nat.ble (cs + 1) rm0.cells && Nat.ble (ss + nn) rm0.slots) = true) (kk : G X (cs + 1) (ss + nn) (pc + 3) L (vr (some (hn A)) :: st) (mkC c 0 A)) : G X cs ss pc L st A := by
  simp only [Bool.and_eq_true] at hR
  exact g_new hM0.1 h0 hq hw1 hw2 hw3 (by rw [hM0.2.1]; exact Nat.le_of_ble_eq_true hR.1) (by rw [hM0.2.1]; exact Nat.le_of_ble_eq_true hR.2) d kk
theorem h_newF {idx c nn : Nat} {q : vw_C} (hM0 : MX X y0 cc nL own ret rm0 tb) (d : decode cc pc = .ok (.new idx, 3)) (h0 : c ≠ 0) (hq : clX[c]? = some q) (hw1 : Cond.classLink own idx q.1 ∈ LW) (hw2 : Cond.instantiable q.1 nn ∈ LW) (hw3 : Cond.initialized q.1 ∈ LW) (hR : (Nat.ble (cs + 1) rm0.cells && Nat.ble (ss + nn) rm0.slots) = true) {α : Type} {F : AH → Option α} {o : α} (hf : (nwC c A).bind F = some o)
    (kk : ∀ A1, F A1 = some o → G X (cs + 1) (ss + nn) (pc + 3) L (vr (some (hn A)) :: st) A1) : G X cs ss pc L st A :=
  h_new hM0 d h0 hq hw1 hw2 hw3 hR (kk _ hf)
theorem h_athrow (hM0 : MX X y0 cc nL own ret rm0 tb) {k : Nat} {r0 : Option Nat} (hc : rcv 2 A r0 = some k) (d : decode cc pc = .ok (.athrow, 1)) (K : GX X cs ss pc L st k A) : G X cs ss pc L (vr r0 :: st) A := by
  obtain ⟨rfl, hc2⟩ := rcv_spec hc
  exact g_athrow hM0.1 hc2 d K
theorem g_catch (hX : OKX X cc nL own ret) {hh : List (Nat × Nat × Nat × Nat)} (htb : (c_c X).exceptionTable.toList = tableOf hh) {x : ExceptionTableEntry} (hx : tableOf hh = [x]) (hcov : covers x pc = true) (h0 : x.catchType ≠ 0) {name : String} (hlink : Cond.classLink own x.catchType name ∈ LW) (hcast : Cond.castable RX1 name ∈ lw_tbl) {k : Nat} (K : G X cs ss x.handlerPc L [vr (some k)] A) : GX X cs ss pc L st k A := fun H locs ls ce hH hS hll e1 e2 e3 =>
  vy_catch hX.2.2.2.1 [] x [] (by rw [htb, hx]; rfl) (fun z hz => nomatch hz) hcov h0 (hX.2.2.2.2.1 _ hlink) (va_Nw.use rfl (hX.env.2.2.2.2.2.2.1 _ _ hcast)) e1 e2 e3 (K H locs ls hH hS hll)
theorem h_newa {t B : Nat} {atype : ArrayType} (ty : FieldType) (hM0 : MX X y0 cc nL own ret rm0 tb) (d : decode cc pc = .ok (.newarray atype, 2)) (hat : newarray.typeOf atype = ty) (hk : (ty = .int ∧ t = 10) ∨ (ty = .byte ∧ t = 11) ∨ (ty = .boolean ∧ t = 12) ∨ (ty = .long ∧ t = 13)) (hw : Cond.arrayClass ty ∈ LW) {n : Int32} {α : Type} {F : AH → Option α} {o : α} (hf : (mkB B t A n).bind F = some o) (hR : (Nat.ble (B * 8) 536870912 && (Nat.ble (cs + 1) rm0.cells && Nat.ble (ss + B) rm0.slots)) = true)
    (kk : ∀ A1, F A1 = some o → G X (cs + 1) (ss + B) (pc + 2) L (vr (some (hn A)) :: st) A1) : G X cs ss pc L (vi n :: st) A := by
  simp only [Bool.and_eq_true] at hR
  have h1 : 9 ≤ t ∧ atX t = some ty ∧ tk ty ≠ 2 ∧ ty ≠ .float ∧ ty ≠ .double ∧ componentBytes ty ≤ 8 := by
    rcases hk with ⟨rfl, rfl⟩ | ⟨rfl, rfl⟩ | ⟨rfl, rfl⟩ | ⟨rfl, rfl⟩ <;> exact ⟨by decide, rfl, by decide, by decide, by decide, by decide⟩
  exact g_newa hM0.1 h1.1 hat h1.2.1 h1.2.2.1 h1.2.2.2.1 h1.2.2.2.2.1 (Nat.le_of_ble_eq_true hR.1) hw h1.2.2.2.2.2 hf (by rw [hM0.2.1]; exact Nat.le_of_ble_eq_true hR.2.1) (by rw [hM0.2.1]; exact Nat.le_of_ble_eq_true hR.2.2) d kk
theorem h_anew {idx t B : Nat} {C : String} (hM0 : MX X y0 cc nL own ret rm0 tb) (d : decode cc pc = .ok (.anewarray idx, 3)) (ht : t = 14 ∧ C = "java/lang/Object" ∨ t = 15 ∧ C = "SlimeNet$Slime") (hw : Cond.classLink own idx C ∈ LW) {n : Int32} {α : Type} {F : AH → Option α} {o : α} (hf : (mkB B t A n).bind F = some o) (hR : (Nat.ble (B * 4) 536870912 && (Nat.ble (cs + 1) rm0.cells && Nat.ble (ss + B) rm0.slots)) = true)
    (kk : ∀ A1, F A1 = some o → G X (cs + 1) (ss + B) (pc + 3) L (vr (some (hn A)) :: st) A1) : G X cs ss pc L (vi n :: st) A := by
  simp only [Bool.and_eq_true] at hR
  exact g_anew hM0.1 ht (Nat.le_of_ble_eq_true hR.1) hw hf (by rw [hM0.2.1]; exact Nat.le_of_ble_eq_true hR.2.1) (by rw [hM0.2.1]; exact Nat.le_of_ble_eq_true hR.2.2) d kk
theorem ckZ_nar {v w : Int32} (h : ckZ v = some w) : w = v ∧ narrow .boolean (.int v) = .int v := by
  obtain ⟨h1, h2⟩ := ckZ_spec h
  exact ⟨h1, by rcases h2 with h | h <;> rw [h] <;> rfl⟩
theorem ckB_nar {v w : Int32} (h : ckB v = some w) : w = v ∧ narrow .byte (.int v) = .int v := by
  obtain ⟨h1, h2⟩ := ckB_spec h
  exact ⟨h1, by show Value.int _ = _; rw [h2]⟩
theorem ckC_nar {v w : Int32} (h : ckC v = some w) : w = v ∧ narrow .char (.int v) = .int v := by
  obtain ⟨h1, h2⟩ := ckC_spec h
  exact ⟨h1, by show Value.int _ = _; rw [h2]⟩
theorem g_alenq (hX : OKX X cc nL own ret) {r : Option Nat} {α : Type} {F : Int32 → Option α} {o : α} (hf : (alq A r).bind F = some o) (d : decode cc pc = .ok (.arraylength, 1)) (kk : ∀ v, F v = some o → G X cs ss (pc + 1) L (vi v :: st) A) : G X cs ss pc L (vr r :: st) A := fun H locs ls hH hS hll => by
  obtain ⟨v, h1, h2⟩ := ob_some hf
  obtain ⟨k, rfl, h3⟩ := ob_some h1
  split at h3
  · rename_i hc
    cases h3
    have hA : ArrC (c_s X) (.object "java/lang/Object") (c_ad X k) (hl A k) (avX (c_ad X) A (.object "java/lang/Object") k) H := by
      rcases hc with hc | hc
      · exact hH.arr hc rfl
      · exact hH.arr hc rfl
    obtain ⟨cell, q1, q2, q3, q4, q5⟩ := hA
    exact W.alen (n := Int32.ofNat (hl A k)) hX.1 hX.2.1 q1 q2 q4.2 rfl rfl d (kk _ h2 H locs ls hH hS hll)
  · cases h3
theorem g_get0 (hX : OKX X cc nL own ret) {idx : Nat} (d : decode cc pc = .ok (.getstatic idx, 3)) (hw : Cond.fieldLink own idx "java/util/ArrayList" "DEFAULTCAPACITY_EMPTY_ELEMENTDATA" "[Ljava/lang/Object;" ∈ LW) (kk : G X cs ss (pc + 3) L (vr (some 1) :: st) A) : G X cs ss pc L st A := fun H locs ls hH hS hll =>
  va_gets (v := cv (c_ad X) (vr (some 1))) hX.1 hX.2.1 hX.env.2.2.2.2.2.2.2.2.1.1 hS hX.2.2.2.1 (hX.2.2.2.2.1 _ hw) (fun _ h => h) d (kk H locs ls hH hS hll)
theorem g_getC (hX : OKX X cc nL own ret) {idx : Nat} (d : decode cc pc = .ok (.getstatic idx, 3)) (hw : Cond.fieldLink own idx "java/lang/String" "COMPACT_STRINGS" "Z" ∈ LW) (kk : G X cs ss (pc + 3) L (vi 1 :: st) A) : G X cs ss pc L st A := fun H locs ls hH hS hll =>
  va_gets (v := cv (c_ad X) (vi 1)) hX.1 hX.2.1 hX.env.2.2.2.2.2.2.2.2.1.2.2.2.2 hS hX.2.2.2.1 (hX.2.2.2.2.1 _ hw) (fun _ h => h) d (kk H locs ls hH hS hll)
theorem g_getU0 (hX : OKX X cc nL own ret) {idx : Nat} (d : decode cc pc = .ok (.getstatic idx, 3)) (hw : Cond.fieldLink own idx "java/lang/Throwable" "UNASSIGNED_STACK" "[Ljava/lang/StackTraceElement;" ∈ LW) (kk : G X cs ss (pc + 3) L (vr (hU A 0) :: st) A) : G X cs ss pc L st A := fun H locs ls hH hS hll =>
  va_gets (v := cv (c_ad X) (vr (hU A 0))) hX.1 hX.2.1 (by rw [hH.1]; exact hX.env.2.2.2.2.2.2.2.2.1.2.1) hS hX.2.2.2.1 (hX.2.2.2.2.1 _ hw) (fun _ h => h) d (kk H locs ls hH hS hll)
theorem g_getU1 (hX : OKX X cc nL own ret) {idx : Nat} (d : decode cc pc = .ok (.getstatic idx, 3)) (hw : Cond.fieldLink own idx "java/lang/Throwable" "SUPPRESSED_SENTINEL" "Ljava/util/List;" ∈ LW) (kk : G X cs ss (pc + 3) L (vr (hU A 1) :: st) A) : G X cs ss pc L st A := fun H locs ls hH hS hll =>
  va_gets (v := cv (c_ad X) (vr (hU A 1))) hX.1 hX.2.1 (by rw [hH.1]; exact hX.env.2.2.2.2.2.2.2.2.1.2.2.1) hS hX.2.2.2.1 (hX.2.2.2.2.1 _ hw) (fun _ h => h) d (kk H locs ls hH hS hll)
theorem g_getU2 (hX : OKX X cc nL own ret) {idx : Nat} (d : decode cc pc = .ok (.getstatic idx, 3)) (hw : Cond.fieldLink own idx "jdk/internal/util/Preconditions" "SIOOBE_FORMATTER" "Ljava/util/function/BiFunction;" ∈ LW) (kk : G X cs ss (pc + 3) L (vr (hU A 2) :: st) A) : G X cs ss pc L st A := fun H locs ls hH hS hll =>
  va_gets (v := cv (c_ad X) (vr (hU A 2))) hX.1 hX.2.1 (by rw [hH.1]; exact hX.env.2.2.2.2.2.2.2.2.1.2.2.2.1) hS hX.2.2.2.1 (hX.2.2.2.2.1 _ hw) (fun _ h => h) d (kk H locs ls hH hS hll)
theorem g_acmp_eq (hX : OKX X cc nL own ret) {x y : Option Nat} {off : Int} {α : Type} {P : Option α} {o : α} (d : decode cc pc = .ok (.if_acmp .eq off, 3)) (tgt : Nat) (hf : (if x = y then P else none) = some o) (ht : (pc : Int) + off = (tgt : Int)) (kp : P = some o → G X cs ss tgt L st A) : G X cs ss pc L (vr y :: vr x :: st) A := fun H locs ls hH hS hll => by
  split at hf
  · rename_i h
    subst h
    exact lv_acmp_eq hX.1 hX.2.1 d ht (fun _ => kp hf H locs ls hH hS hll) (fun h => absurd rfl h)
  · cases hf
theorem g_mmax {idx : Nat} {x y : Int32} (hM0 : MX X y0 cc nL own ret rm0 tb) (d : decode cc pc = .ok (.invokestatic idx, 3)) (hw1 : Cond.methodLink own idx Lib.Math.max.name ∈ LW) (hw2 : Cond.static Lib.Math.max.name ∈ LW) (hw3 : Cond.initialized "java/lang/Math" ∈ LW) (hw4 : Cond.code Lib.Math.max.name Lib.Math.max.code 2 (some .int) ∈ LW) (hst : Nat.ble (st.map ct).sum 8 = true) (hR : (Nat.ble 1 rm0.frames && (Nat.ble 24 rm0.locals && (Nat.ble cs rm0.cells && Nat.ble ss rm0.slots))) = true) (kk : G X cs ss (pc + 3) L (vi (mxI x y) :: st) A) : G X cs ss pc L (vi y :: vi x :: st) A := fun H locs ls hH hS hll => by
  simp only [Bool.and_eq_true] at hR
  have hX := hM0.1
  have h8 := Nat.le_of_ble_eq_true hst
  have e1 : 1 ≤ (c_R X).frames := by rw [hM0.2.1]; exact Nat.le_of_ble_eq_true hR.1
  have e2 : 24 ≤ (c_R X).locals := by rw [hM0.2.1]; exact Nat.le_of_ble_eq_true hR.2.1
  have e3 : cs ≤ (c_R X).cells := by rw [hM0.2.1]; exact Nat.le_of_ble_eq_true hR.2.2.1
  have e4 : ss ≤ (c_R X).slots := by rw [hM0.2.1]; exact Nat.le_of_ble_eq_true hR.2.2.2
  exact va_mmax hX.1 hX.2.1 hll.1.symm hX.2.2.2.1 (hX.2.2.2.2.1 _ hw1) (hX.2.2.2.2.1 _ hw2) (hX.2.2.2.2.1 _ hw3) (hX.2.2.2.2.1 _ hw4) e1 (by rw [ct_sum]; omega) e3 e4 d (kk H locs ls hH hS hll)
theorem g_mmin {idx : Nat} {x y : Int32} (hM0 : MX X y0 cc nL own ret rm0 tb) (d : decode cc pc = .ok (.invokestatic idx, 3)) (hw1 : Cond.methodLink own idx Lib.Math.min.name ∈ LW) (hw2 : Cond.static Lib.Math.min.name ∈ LW) (hw3 : Cond.initialized "java/lang/Math" ∈ LW) (hw4 : Cond.code Lib.Math.min.name Lib.Math.min.code 2 (some .int) ∈ LW) (hst : Nat.ble (st.map ct).sum 8 = true) (hR : (Nat.ble 1 rm0.frames && (Nat.ble 24 rm0.locals && (Nat.ble cs rm0.cells && Nat.ble ss rm0.slots))) = true) (kk : G X cs ss (pc + 3) L (vi (mnI x y) :: st) A) : G X cs ss pc L (vi y :: vi x :: st) A := fun H locs ls hH hS hll => by
  simp only [Bool.and_eq_true] at hR
  have hX := hM0.1
  have h8 := Nat.le_of_ble_eq_true hst
  have e1 : 1 ≤ (c_R X).frames := by rw [hM0.2.1]; exact Nat.le_of_ble_eq_true hR.1
  have e2 : 24 ≤ (c_R X).locals := by rw [hM0.2.1]; exact Nat.le_of_ble_eq_true hR.2.1
  have e3 : cs ≤ (c_R X).cells := by rw [hM0.2.1]; exact Nat.le_of_ble_eq_true hR.2.2.1
  have e4 : ss ≤ (c_R X).slots := by rw [hM0.2.1]; exact Nat.le_of_ble_eq_true hR.2.2.2
  exact va_mmin hX.1 hX.2.1 hll.1.symm hX.2.2.2.1 (hX.2.2.2.2.1 _ hw1) (hX.2.2.2.2.1 _ hw2) (hX.2.2.2.2.1 _ hw3) (hX.2.2.2.2.1 _ hw4) e1 (by rw [ct_sum]; omega) e3 e4 d (kk H locs ls hH hS hll)
theorem g_mabs {idx : Nat} {x : Int64} (hM0 : MX X y0 cc nL own ret rm0 tb) (d : decode cc pc = .ok (.invokestatic idx, 3)) (hw1 : Cond.methodLink own idx Lib.MathLoose.abs_long.x ∈ LW) (hw2 : Cond.static Lib.MathLoose.abs_long.x ∈ LW) (hw3 : Cond.initialized "java/lang/Math" ∈ LW) (hw4 : Cond.code Lib.MathLoose.abs_long.x Lib.MathLoose.abs_long.code 2 (some .long) ∈ LW) (hst : Nat.ble (st.map ct).sum 8 = true) (hR : (Nat.ble 1 rm0.frames && (Nat.ble 24 rm0.locals && (Nat.ble cs rm0.cells && Nat.ble ss rm0.slots))) = true) (kk : G X cs ss (pc + 3) L (vl (abL x) :: st) A) : G X cs ss pc L (vl x :: st) A := fun H locs ls hH hS hll => by
  simp only [Bool.and_eq_true] at hR
  have hX := hM0.1
  have h8 := Nat.le_of_ble_eq_true hst
  have e1 : 1 ≤ (c_R X).frames := by rw [hM0.2.1]; exact Nat.le_of_ble_eq_true hR.1
  have e2 : 24 ≤ (c_R X).locals := by rw [hM0.2.1]; exact Nat.le_of_ble_eq_true hR.2.1
  have e3 : cs ≤ (c_R X).cells := by rw [hM0.2.1]; exact Nat.le_of_ble_eq_true hR.2.2.1
  have e4 : ss ≤ (c_R X).slots := by rw [hM0.2.1]; exact Nat.le_of_ble_eq_true hR.2.2.2
  exact va_mabs_long hX.1 hX.2.1 hll.1.symm hX.2.2.2.1 (hX.2.2.2.2.1 _ hw1) (hX.2.2.2.2.1 _ hw2) (hX.2.2.2.2.1 _ hw3) (hX.2.2.2.2.1 _ hw4) e1 (by rw [ct_sum]; omega) e3 e4 d (kk H locs ls hH hS hll)
theorem LW_V {own : String} {idx : Nat} {C : String} {y : MethodName} {b : ByteArray} {L : Nat} {r : Option FieldType} (h1 : Cond.methodLink own idx y ∈ LW) (h2 : Cond.instanceMethod y ∈ LW) (h3 : Cond.selects C y y ∈ LW) (h4 : Cond.initialized C ∈ LW) (h5 : Cond.code y b L r ∈ LW) : GoodIn LW (wsV own idx C y (wL (Cond.code y b L r))) :=
  LW_app (List.forall_mem_cons.mpr ⟨h1, List.forall_mem_cons.mpr ⟨h2, List.forall_mem_cons.mpr ⟨h3, List.forall_mem_cons.mpr ⟨h4, fun _ h => nomatch h⟩⟩⟩⟩) (LW_wL h5)
theorem LW_VW {own : String} {idx : Nat} {C : String} {y : MethodName} {b : ByteArray} {L : Nat} {r : Option FieldType} {hh : List (Nat × Nat × Nat × Nat)} (h1 : Cond.methodLink own idx y ∈ LW) (h2 : Cond.instanceMethod y ∈ LW) (h3 : Cond.selects C y y ∈ LW) (h4 : Cond.initialized C ∈ LW) (h5 : Cond.codeWith y b L r hh ∈ LW) : GoodIn LW (wsV own idx C y (wL (Cond.codeWith y b L r hh))) :=
  LW_app (List.forall_mem_cons.mpr ⟨h1, List.forall_mem_cons.mpr ⟨h2, List.forall_mem_cons.mpr ⟨h3, List.forall_mem_cons.mpr ⟨h4, fun _ h => nomatch h⟩⟩⟩⟩) (LW_wL h5)
theorem LW_U {own owner : String} {idx : Nat} {C : String} {x y : MethodName} {b : ByteArray} {L : Nat} {r : Option FieldType} (h1 : Cond.methodLink own idx x ∈ LW) (h2 : Cond.sameMethod x.cls owner x.name x.desc ∈ LW) (h3 : Cond.selects C x y ∈ LW) (h4 : Cond.instanceMethod y ∈ LW) (h5 : Cond.initialized y.cls ∈ LW) (h6 : Cond.code y b L r ∈ LW) : GoodIn LW (va_wsU own idx C owner x y (wL (Cond.code y b L r))) :=
  LW_app (List.forall_mem_cons.mpr ⟨h1, List.forall_mem_cons.mpr ⟨h2, List.forall_mem_cons.mpr ⟨h3, List.forall_mem_cons.mpr ⟨h4, List.forall_mem_cons.mpr ⟨h5, fun _ h => nomatch h⟩⟩⟩⟩⟩) (LW_wL h6)
theorem LW_S {own : String} {idx : Nat} {y : MethodName} {b : ByteArray} {L : Nat} {r : Option FieldType} (h1 : Cond.methodLink own idx y ∈ LW) (h2 : Cond.static y ∈ LW) (h3 : Cond.initialized y.cls ∈ LW) (h4 : Cond.code y b L r ∈ LW) : GoodIn LW (va_wsS own idx y (wL (Cond.code y b L r))) :=
  LW_app (List.forall_mem_cons.mpr ⟨h1, List.forall_mem_cons.mpr ⟨h2, List.forall_mem_cons.mpr ⟨h3, fun _ h => nomatch h⟩⟩⟩) (LW_wL h4)
end ROWS6
/-! the write of a PlateReader's own this$0, a field that nothing reads: its slot may be that of Reader's this$0, as far as the words tell -/
section ROWS7
variable {X : Ctx} {cc : ByteArray} {nL : Nat} {ret : Option FieldType} {cs ss pc : Nat} {L : List (Nat × AV)} {st : List AV} {A : AH}
theorem g_put8 (hX : OKX X cc nL "SlimeNet$PlateReader" ret) {idx k : Nat} {v : Option Nat} {α : Type} {F : AH → Option α} {o : α} (hin : (c_me X).name = "<init>") (hf : (pB A (some k)).bind F = some o) (hw : Cond.fieldLink "SlimeNet$PlateReader" idx "SlimeNet$PlateReader" "this$0" "LSlimeNet;" ∈ LW) (d : decode cc pc = .ok (.putfield idx, 3))
    (kk : ∀ A1, (A1 = A ∨ A1 = setR A k 5 v) → F A = some o → G X cs ss (pc + 3) L st A1) : G X cs ss pc L (vr v :: vr (some k) :: st) A := fun H locs ls hH hS hl => by
  obtain ⟨A0, h1, h2⟩ := ob_some hf
  obtain ⟨k', hk', h3⟩ := ob_some h1
  cases hk'
  split at h3
  · rename_i hc
    cases h3
    obtain ⟨hx, hb, hml, hown, hts, hr, hlk, hE⟩ := hX
    obtain ⟨cell, q1, q2, q3, q4⟩ := hH.obj (c := 6) hc.1 (by decide) rfl
    obtain ⟨hS1, hfc, kC, hkC, hkind⟩ := hE.1.1 6 _ rfl
    obtain ⟨cf, kf, fi, f, hi, hsl⟩ := hE.2.2.2.2.2.2.2.2.2.2.2
    obtain ⟨cell', r1, hlt⟩ := (hH.2.2.2.2 k).2.2.2.2 hc.1
    cases q1.symm.trans r1
    have hlays : ∀ j, j < 9 → (Cond.lays RX6 (TX6 j).1 (TX6 j).2.1 (TX6 j).2.2.1).before (c_a X) (c_s X) = true ∨ (Cond.laysFinal RX6 (TX6 j).1 (TX6 j).2.1 (TX6 j).2.2.1).before (c_a X) (c_s X) = true :=
      fun j hj => u_lays (N := 9) hts (fun w hw => lw_LW (in_X6 w hw)) hj
    have hlay : (Cond.laysFinal RX6 (TX6 8).1 (TX6 8).2.1 (TX6 8).2.2.1).before (c_a X) (c_s X) = true := by
      have h := hts _ (lw_LW (in_X6 _ (u_in_lay (k := 8) (by decide))))
      unfold u_lay at h
      rw [if_pos (by decide)] at h
      exact h
    have hst : f.isStatic = false := (u_facts hfc hkC (hlays 8 (by decide)) hi).1
    have hcf : (c_m X).cls = cf := by
      obtain ⟨_, _, c', _, _, _, -, -, hf', -, -, -, hown2, -⟩ := Cond.laysFinal_spec hlay
      have e1 : c' = cf := by have := hi.symm.trans hf'; simp at this; exact this.1.symm
      rw [← e1]; exact Option.some.inj (hown.symm.trans hown2)
    have h6 := u_fits hfc hkC hkind (Or.inr hlay) hi (tyX6_ok 8 (by decide)) (v := va_rf (v.map (c_ad X))) (fits_rf rfl _).1 (fits_rf rfl _).2
    refine W.putFinK hx hb hown (hts _ hw) hi hst hcf hin (by rw [q2]; exact h6) q1 q3 (by rw [hsl]; exact hlt) rfl rfl d ?_
    intro H1 e1 e2 e3
    rw [hsl] at e1
    have hS2 := hS.put (k := f.slot) e2 e3 (adX_le hc.2)
    have hnm : ∀ j, j < 8 → j ≠ 5 → (TX6 8).2.1 ≠ (TX6 j).2.1 := by decide
    have hsl5 : ∀ j, j < 8 → j ≠ 5 → (c_D X).2 6 8 ≠ (c_D X).2 6 j := by
      intro j hj hj5
      obtain ⟨cf', kf', fi', f', hi', hsl'⟩ := hS1 j hj
      rw [← hsl, ← hsl']
      refine u_apart (hlays 8 (by decide)) (hlays j (by omega)) hi hi' ?_
      have a1 := (State.fieldFound?_type hi (tyX6_ok 8 (by decide))).1
      have a2 := (State.fieldFound?_type hi' (tyX6_ok j (by omega))).1
      rw [a1, a2]
      exact hnm j hj hj5
    by_cases h58 : (c_D X).2 6 8 = (c_D X).2 6 5
    · refine kk (setR A k 5 v) (Or.inr rfl) h2 H1 _ ls (hH.put hE.2.2.1 hc.2 (offR A k 5 v) e2 e3 ⟨fun _ r hr => ?_, fun ty hty => ?_, fun h => ?_, fun h => ?_, fun h => ⟨_, e1, by rw [k2_slotsz]; exact hlt⟩⟩) hS2 hl
      · have hk1 : hk (setR A k 5 v) k = 6 := hc.1
        rw [hk1] at hr ⊢
        cases hr
        refine ⟨_, e1, q2, q3, fun j hj => ?_⟩
        rw [h58]
        have hap := hE.2.1 6 _ rfl
        rw [t_set q4 hap (k := 5) (by decide) _ j hj]
        unfold updV
        by_cases hj5 : j = 5
        · subst hj5
          rw [if_pos rfl, fv_2 rfl]
          show _ = some (va_rf (Option.map _ (up2 _ _ _ _ _ _)))
          unfold up2
          rw [if_pos ⟨rfl, rfl⟩]
          rfl
        · rw [if_neg hj5]
          unfold fvX
          rw [show hR (setR A k 5 v) k j = hR A k j from if_neg (fun q => hj5 q.2)]
          rfl
      · rw [show hk (setR A k 5 v) k = 6 from hc.1] at hty; cases hty
      · rw [show hk (setR A k 5 v) k = 6 from hc.1] at h; cases h
      · rw [show hk (setR A k 5 v) k = 6 from hc.1] at h; cases h
    · refine kk A (Or.inl rfl) h2 H1 _ ls (hH.put hE.2.2.1 hc.2 ⟨rfl, rfl, fun _ _ _ => ⟨rfl, rfl, rfl⟩⟩ e2 e3 ⟨fun _ r hr => ?_, fun ty hty => ?_, fun h => ?_, fun h => ?_, fun h => ⟨_, e1, by rw [k2_slotsz]; exact hlt⟩⟩) hS2 hl
      · rw [hc.1] at hr ⊢
        cases hr
        refine ⟨_, e1, q2, q3, fun j hj => ?_⟩
        have hne : (c_D X).2 6 j ≠ (c_D X).2 6 8 := by
          by_cases hj5 : j = 5
          · subst hj5; exact fun h => h58 h.symm
          · exact fun h => hsl5 j hj hj5 h.symm
        rw [setSlot_at _ _ _ _ hlt, if_neg hne]
        exact q4 j hj
      · rw [hc.1] at hty; cases hty
      · rw [hc.1] at h; cases h
      · rw [hc.1] at h; cases h
  · cases h3
end ROWS7
