/-! java/lang/String.isLatin1()Z -/
def rm_J6_isLatin1 : Room := { frames := 1, cells := 0, slots := 0, locals := 24 }
def r_J6_isLatin1 (A : AH) (o : Int32) : (Option AV × AH) ⊕ (Nat × AH) := .inl (some (vi o), A)
set_option maxRecDepth 100000 in
theorem w_f_J6_isLatin1_18 {X : Ctx} (hM : MX X yJ6_isLatin1 cJ6_isLatin1 1 "java/lang/String" (some Jvm.ClassFile.FieldType.boolean) rm_J6_isLatin1 []) {t0 : Int32} {A : AH} {out : Int32} (hf : f_J6_isLatin1_18 t0 A = some out) (hr : c_res X = r_J6_isLatin1 A out) : G X 0 0 18 [] [vi t0] A := by
  have hX := hM.1
  unfold f_J6_isLatin1_18 at hf
  obtain ⟨w18, hz18, hf⟩ := ob_some hf
  cases hf
  exact h_zret hM dJ6_isLatin1_18 hr rfl (ckZ_nar hz18).2 rfl

set_option maxRecDepth 100000 in
theorem w_f_J6_isLatin1_17 {X : Ctx} (hM : MX X yJ6_isLatin1 cJ6_isLatin1 1 "java/lang/String" (some Jvm.ClassFile.FieldType.boolean) rm_J6_isLatin1 []) {A : AH} {out : Int32} (hf : f_J6_isLatin1_17 A = some out) (hr : c_res X = r_J6_isLatin1 A out) : G X 0 0 17 [] [] A := by
  have hX := hM.1
  unfold f_J6_isLatin1_17 at hf
  refine g_iconst hX dJ6_isLatin1_17 (0 : Int32) (by decide) ?_
  exact g_pick (w_f_J6_isLatin1_18 hM hf hr) [] rfl

set_option maxRecDepth 100000 in
theorem w_f_J6_isLatin1 {X : Ctx} (hM : MX X yJ6_isLatin1 cJ6_isLatin1 1 "java/lang/String" (some Jvm.ClassFile.FieldType.boolean) rm_J6_isLatin1 []) {this : Nat} {A : AH} {out : Int32} (hf : f_J6_isLatin1 this A = some out) (hr : c_res X = r_J6_isLatin1 A out) : G X 0 0 0 [(0, vr (some this))] [] A := by
  have hX := hM.1
  unfold f_J6_isLatin1 at hf
  refine g_getC hX dJ6_isLatin1_0 (lw_LW q521) ?_
  refine g_if_eq hX dJ6_isLatin1_3 17 hf (by decide) (fun c3 hf => ?_) (fun c3 hf => ?_)
  · exact g_pick (w_f_J6_isLatin1_17 hM hf hr) [] rfl
  · refine g_aload_n hX dJ6_isLatin1_6 (lg_at 0 rfl) ?_
    refine g_strC hX (lw_LW q1612) hf dJ6_isLatin1_7 (fun v7 hf => ?_)
    refine g_if_ne hX dJ6_isLatin1_10 17 hf (by decide) (fun c10 hf => ?_) (fun c10 hf => ?_)
    · exact g_pick (w_f_J6_isLatin1_17 hM hf hr) [] rfl
    · refine g_iconst hX dJ6_isLatin1_13 (1 : Int32) (by decide) ?_
      refine g_goto hX dJ6_isLatin1_14 18 (by decide) ?_
      exact g_pick (w_f_J6_isLatin1_18 hM hf hr) [] rfl

theorem m_J6_isLatin1 {l : Launch} {this : Nat} {A : AH} {out : Int32} (h : f_J6_isLatin1 this A = some out) : MetF l yJ6_isLatin1 (Cond.code yJ6_isLatin1 cJ6_isLatin1 1 (some Jvm.ClassFile.FieldType.boolean)) rm_J6_isLatin1 [vr (some this)] A (r_J6_isLatin1 A out) :=
  metF_of rfl rfl (Nat.le_of_ble_eq_true rfl) fun X hX hl hR hnm hr h1 h2 hno => w_f_J6_isLatin1 (X := X) ⟨hX, hR, h1, h2, fun _ => ⟨hnm, hno⟩⟩ h hr

/-! jdk/internal/util/Preconditions.checkIndex(IILjava/util/function/BiFunction;)I -/
def rm_J8_checkIndex : Room := { frames := 1, cells := 0, slots := 0, locals := 24 }
def r_J8_checkIndex (A : AH) (o : Int32) : (Option AV × AH) ⊕ (Nat × AH) := .inl (some (vi o), A)
set_option maxRecDepth 100000 in
theorem w_f_J8_checkIndex_9 {X : Ctx} (hM : MX X yJ8_checkIndex cJ8_checkIndex 3 "jdk/internal/util/Preconditions" (some Jvm.ClassFile.FieldType.int) rm_J8_checkIndex []) {x2 : Option Nat} {A : AH} {out : Int32} (hf : f_J8_checkIndex_9 x2 = some out) (hr : c_res X = r_J8_checkIndex A out) : G X 0 0 9 [(2, vr x2)] [] A := by
  have hX := hM.1
  unfold f_J8_checkIndex_9 at hf
  cases hf

set_option maxRecDepth 100000 in
theorem w_f_J8_checkIndex {X : Ctx} (hM : MX X yJ8_checkIndex cJ8_checkIndex 3 "jdk/internal/util/Preconditions" (some Jvm.ClassFile.FieldType.int) rm_J8_checkIndex []) {x0 : Int32} {x1 : Int32} {x2 : Option Nat} {A : AH} {out : Int32} (hf : f_J8_checkIndex x0 x1 x2 = some out) (hr : c_res X = r_J8_checkIndex A out) : G X 0 0 0 [(0, vi x0), (1, vi x1), (2, vr x2)] [] A := by
  have hX := hM.1
  unfold f_J8_checkIndex at hf
  refine g_iload_n hX dJ8_checkIndex_0 (lg_at 0 rfl) ?_
  refine g_if_lt hX dJ8_checkIndex_1 9 hf (by decide) (fun c1 hf => ?_) (fun c1 hf => ?_)
  · exact g_pick (w_f_J8_checkIndex_9 hM hf hr) [2] rfl
  · refine g_iload_n hX dJ8_checkIndex_4 (lg_at 0 rfl) ?_
    refine g_iload_n hX dJ8_checkIndex_5 (lg_at 1 rfl) ?_
    refine g_icmp_lt hX dJ8_checkIndex_6 16 hf (by decide) (fun c6 hf => ?_) (fun c6 hf => ?_)
    · refine g_iload_n hX dJ8_checkIndex_16 (lg_at 0 rfl) ?_
      cases hf
      exact h_iret hM dJ8_checkIndex_17 hr rfl rfl
    · exact g_pick (w_f_J8_checkIndex_9 hM hf hr) [2] rfl

theorem m_J8_checkIndex {l : Launch} {x0 : Int32} {x1 : Int32} {x2 : Option Nat} {A : AH} {out : Int32} (h : f_J8_checkIndex x0 x1 x2 = some out) : MetF l yJ8_checkIndex (Cond.code yJ8_checkIndex cJ8_checkIndex 3 (some Jvm.ClassFile.FieldType.int)) rm_J8_checkIndex [vi x0, vi x1, vr x2] A (r_J8_checkIndex A out) :=
  metF_of rfl rfl (Nat.le_of_ble_eq_true rfl) fun X hX hl hR hnm hr h1 h2 hno => w_f_J8_checkIndex (X := X) ⟨hX, hR, h1, h2, fun _ => ⟨hnm, hno⟩⟩ h hr

/-! java/lang/String.checkIndex(II)V -/
def rm_J6_checkIndex : Room := { frames := 2, cells := 0, slots := 0, locals := 46 }
def r_J6_checkIndex (A : AH) (_o : Unit) : (Option AV × AH) ⊕ (Nat × AH) := .inl (none, A)
set_option maxRecDepth 100000 in
theorem w_f_J6_checkIndex {X : Ctx} (hM : MX X yJ6_checkIndex cJ6_checkIndex 2 "java/lang/String" none rm_J6_checkIndex []) {x0 : Int32} {x1 : Int32} {A : AH} {out : Unit} (hf : f_J6_checkIndex x0 x1 A = some out) (hr : c_res X = r_J6_checkIndex A out) : G X 0 0 0 [(0, vi x0), (1, vi x1)] [] A := by
  have hX := hM.1
  unfold f_J6_checkIndex at hf
  refine g_iload_n hX dJ6_checkIndex_0 (lg_at 0 rfl) ?_
  refine g_iload_n hX dJ6_checkIndex_1 (lg_at 1 rfl) ?_
  refine g_getU2 hX dJ6_checkIndex_2 (lw_LW q537) ?_
  obtain ⟨v5, hc5, hf⟩ := ob_some hf
  refine h_callS hM [vi x0, vi x1, vr (hU A 2)] dJ6_checkIndex_5 cs_java_lang_String_1059_s (m_J8_checkIndex hc5) rfl rfl rfl rfl ?_
  refine g_pop hX dJ6_checkIndex_8 rfl ?_
  cases hf
  exact h_vret hM dJ6_checkIndex_9 hr rfl rfl

theorem m_J6_checkIndex {l : Launch} {x0 : Int32} {x1 : Int32} {A : AH} {out : Unit} (h : f_J6_checkIndex x0 x1 A = some out) : MetF l yJ6_checkIndex (Cond.code yJ6_checkIndex cJ6_checkIndex 2 none) rm_J6_checkIndex [vi x0, vi x1] A (r_J6_checkIndex A out) :=
  metF_of rfl rfl (Nat.le_of_ble_eq_true rfl) fun X hX hl hR hnm hr h1 h2 hno => w_f_J6_checkIndex (X := X) ⟨hX, hR, h1, h2, fun _ => ⟨hnm, hno⟩⟩ h hr

/-! java/lang/StringLatin1.charAt([BI)C -/
def rm_J7_charAt : Room := { frames := 3, cells := 0, slots := 0, locals := 67 }
def r_J7_charAt (A : AH) (o : Int32) : (Option AV × AH) ⊕ (Nat × AH) := .inl (some (vi o), A)
set_option maxRecDepth 100000 in
theorem w_f_J7_charAt {X : Ctx} (hM : MX X yJ7_charAt cJ7_charAt 2 "java/lang/StringLatin1" (some Jvm.ClassFile.FieldType.char) rm_J7_charAt []) {x0 : Option Nat} {x1 : Int32} {A : AH} {out : Int32} (hf : f_J7_charAt x0 x1 A = some out) (hr : c_res X = r_J7_charAt A out) : G X 0 0 0 [(0, vr x0), (1, vi x1)] [] A := by
  have hX := hM.1
  unfold f_J7_charAt at hf
  refine g_iload_n hX dJ7_charAt_0 (lg_at 1 rfl) ?_
  refine g_aload_n hX dJ7_charAt_1 (lg_at 0 rfl) ?_
  refine g_alen hX 11 rfl hf dJ7_charAt_2 (fun v2 hf => ?_)
  obtain ⟨q3, hc3, hf⟩ := ob_some hf
  refine h_callS hM [vi x1, vi v2] dJ7_charAt_3 cs_java_lang_StringLatin1_9_s (m_J6_checkIndex hc3) rfl rfl rfl rfl ?_
  refine g_aload_n hX dJ7_charAt_6 (lg_at 0 rfl) ?_
  refine g_iload_n hX dJ7_charAt_7 (lg_at 1 rfl) ?_
  refine g_bald hX hf dJ7_charAt_8 (fun v8 hf => ?_)
  refine g_sipush hX dJ7_charAt_9 (255 : Int32) (by decide) ?_
  refine g_iand hX dJ7_charAt_12 ?_
  refine g_i2c hX dJ7_charAt_13 ?_
  obtain ⟨w14, hz14, hf⟩ := ob_some hf
  cases hf
  exact h_zret hM dJ7_charAt_14 hr rfl (ckC_nar hz14).2 rfl

theorem m_J7_charAt {l : Launch} {x0 : Option Nat} {x1 : Int32} {A : AH} {out : Int32} (h : f_J7_charAt x0 x1 A = some out) : MetF l yJ7_charAt (Cond.code yJ7_charAt cJ7_charAt 2 (some Jvm.ClassFile.FieldType.char)) rm_J7_charAt [vr x0, vi x1] A (r_J7_charAt A out) :=
  metF_of rfl rfl (Nat.le_of_ble_eq_true rfl) fun X hX hl hR hnm hr h1 h2 hno => w_f_J7_charAt (X := X) ⟨hX, hR, h1, h2, fun _ => ⟨hnm, hno⟩⟩ h hr

/-! java/lang/String.charAt(I)C -/
def rm_J6_charAt : Room := { frames := 4, cells := 0, slots := 0, locals := 88 }
def r_J6_charAt (A : AH) (o : Int32) : (Option AV × AH) ⊕ (Nat × AH) := .inl (some (vi o), A)
set_option maxRecDepth 100000 in
theorem w_f_J6_charAt {X : Ctx} (hM : MX X yJ6_charAt cJ6_charAt 2 "java/lang/String" (some Jvm.ClassFile.FieldType.char) rm_J6_charAt []) {this : Nat} {x1 : Int32} {A : AH} {out : Int32} (hf : f_J6_charAt this x1 A = some out) (hr : c_res X = r_J6_charAt A out) : G X 0 0 0 [(0, vr (some this)), (1, vi x1)] [] A := by
  have hX := hM.1
  unfold f_J6_charAt at hf
  refine g_aload_n hX dJ6_charAt_0 (lg_at 0 rfl) ?_
  obtain ⟨k1, hk1, hf⟩ := ob_some hf
  obtain ⟨v1, hc1, hf⟩ := ob_some hf
  refine h_callStr hM [] dJ6_charAt_1 cs_java_lang_String_492_9 hk1 (m_J6_isLatin1 hc1) rfl rfl rfl rfl ?_
  refine g_if_eq hX dJ6_charAt_4 16 hf (by decide) (fun c4 hf => ?_) (fun c4 hf => ?_)
  · cases hf
  · refine g_aload_n hX dJ6_charAt_7 (lg_at 0 rfl) ?_
    refine g_strV hX (lw_LW q1611) hf dJ6_charAt_8 (fun v8 hf => ?_)
    refine g_iload_n hX dJ6_charAt_11 (lg_at 1 rfl) ?_
    obtain ⟨v12, hc12, hf⟩ := ob_some hf
    refine h_callS hM [vr v8, vi x1] dJ6_charAt_12 cs_java_lang_String_495_s (m_J7_charAt hc12) rfl rfl rfl rfl ?_
    obtain ⟨w15, hz15, hf⟩ := ob_some hf
    cases hf
    exact h_zret hM dJ6_charAt_15 hr rfl (ckC_nar hz15).2 rfl

theorem m_J6_charAt {l : Launch} {this : Nat} {x1 : Int32} {A : AH} {out : Int32} (h : f_J6_charAt this x1 A = some out) : MetF l yJ6_charAt (Cond.code yJ6_charAt cJ6_charAt 2 (some Jvm.ClassFile.FieldType.char)) rm_J6_charAt [vr (some this), vi x1] A (r_J6_charAt A out) :=
  metF_of rfl rfl (Nat.le_of_ble_eq_true rfl) fun X hX hl hR hnm hr h1 h2 hno => w_f_J6_charAt (X := X) ⟨hX, hR, h1, h2, fun _ => ⟨hnm, hno⟩⟩ h hr

/-! SlimeNet$Reader.is(Ljava/lang/String;)Z -/
def rm_X5_is : Room := { frames := 5, cells := 0, slots := 0, locals := 109 }
def r_X5_is (A : AH) (o : Int32) : (Option AV × AH) ⊕ (Nat × AH) := .inl (some (vi o), A)
def k_X5_is_28 (X : Ctx) (this : Nat) (x1 : Option Nat) (A : AH) : ((Int32) ⊕ ((Unit) ⊕ (Unit))) → Prop
  | .inl x2 => G X 0 0 28 [(0, vr (some this)), (1, vr x1), (2, vi x2)] [] A
  | .inr (.inl ()) => G X 0 0 54 [] [] A
  | .inr (.inr ()) => G X 0 0 62 [] [] A

set_option maxRecDepth 100000 in
theorem w_s_X5_is_28 {X : Ctx} (hM : MX X yX5_is cX5_is 3 "SlimeNet$Reader" (some Jvm.ClassFile.FieldType.boolean) rm_X5_is []) {this : Nat} {x1 : Option Nat} {A : AH} {st : Int32} {out : (Int32) ⊕ ((Unit) ⊕ (Unit))} (hf : s_X5_is_28 this x1 A st = some out) (K : k_X5_is_28 X this x1 A out) : k_X5_is_28 X this x1 A (.inl st) := by
  have hX := hM.1
  revert hf; generalize st = x2; intro hf
  unfold s_X5_is_28 at hf
  dsimp only at hf
  show G X 0 0 28 [(0, vr (some this)), (1, vr x1), (2, vi x2)] [] A
  refine g_iload_n hX dX5_is_28 (lg_at 2 rfl) ?_
  refine g_aload_n hX dX5_is_29 (lg_at 1 rfl) ?_
  obtain ⟨k30, hk30, hf⟩ := ob_some hf
  obtain ⟨v30, hc30, hf⟩ := ob_some hf
  refine h_callStr hM [] dX5_is_30 cs_SlimeNet_Reader_63_9 hk30 (m_J6_length hc30) rfl rfl rfl rfl ?_
  refine g_icmp_ge hX dX5_is_33 62 hf (by decide) (fun c33 hf => ?_) (fun c33 hf => ?_)
  · cases hf
    exact g_pick (show G X _ _ _ _ _ _ from K) [] rfl
  · refine g_aload_n hX dX5_is_36 (lg_at 0 rfl) ?_
    refine g_aload_n hX dX5_is_37 (lg_at 0 rfl) ?_
    refine g_getI hX hf fs_SlimeNet_Reader_33_6 rfl dX5_is_38 (fun v38 hf => ?_)
    refine g_iload_n hX dX5_is_41 (lg_at 2 rfl) ?_
    refine g_iadd hX dX5_is_42 ?_
    obtain ⟨k43, hk43, hf⟩ := ob_some hf
    obtain ⟨v43, hc43, hf⟩ := ob_some hf
    refine h_callU hM [vi (v38 + x2)] dX5_is_43 cs_SlimeNet_Reader_29_6 hk43 (m_X5_see hc43) rfl rfl rfl rfl ?_
    refine g_aload_n hX dX5_is_46 (lg_at 1 rfl) ?_
    refine g_iload_n hX dX5_is_47 (lg_at 2 rfl) ?_
    obtain ⟨k48, hk48, hf⟩ := ob_some hf
    obtain ⟨v48, hc48, hf⟩ := ob_some hf
    refine h_callStr hM [vi x2] dX5_is_48 cs_SlimeNet_Reader_69_9 hk48 (m_J6_charAt hc48) rfl rfl rfl rfl ?_
    refine g_icmp_eq hX dX5_is_51 56 hf (by decide) (fun c51 hf => ?_) (fun c51 hf => ?_)
    · refine g_iinc hX dX5_is_56 (1 : Int32) (x2 + (1 : Int32)) [(2, vi (x2 + (1 : Int32))), (0, vr (some this)), (1, vr x1)] (by decide) rfl (lg_at 2 rfl) (by decide) rfl ?_
      refine g_goto hX dX5_is_59 28 (by decide) ?_
      cases hf
      exact g_pick (show G X _ _ _ _ _ _ from K) [1, 2, 0] rfl
    · cases hf
      exact g_pick (show G X _ _ _ _ _ _ from K) [] rfl

set_option maxRecDepth 100000 in
theorem w_l_X5_is_28 {X : Ctx} (hM : MX X yX5_is cX5_is 3 "SlimeNet$Reader" (some Jvm.ClassFile.FieldType.boolean) rm_X5_is []) {this : Nat} {x1 : Option Nat} {x2 : Int32} {A : AH} {out : Int32} (hf : l_X5_is_28 this x1 x2 A = some out) (hr : c_res X = r_X5_is A out) : G X 0 0 28 [(0, vr (some this)), (1, vr x1), (2, vi x2)] [] A := by
  have hX := hM.1
  unfold l_X5_is_28 at hf
  obtain ⟨e, hw, hf⟩ := ob_some hf
  refine (whl_ind (k_X5_is_28 X this x1 A) (fun st o hs K => w_s_X5_is_28 hM hs K) hw ?_ : k_X5_is_28 X this x1 A (.inl x2))
  rcases e with ⟨⟩ | ⟨⟩
  · dsimp only at hf
    show G X 0 0 54 [] [] A
    refine g_iconst hX dX5_is_54 (0 : Int32) (by decide) ?_
    cases hf
    exact h_zret hM dX5_is_55 hr rfl (by decide) rfl
  · dsimp only at hf
    show G X 0 0 62 [] [] A
    refine g_iconst hX dX5_is_62 (1 : Int32) (by decide) ?_
    cases hf
    exact h_zret hM dX5_is_63 hr rfl (by decide) rfl

set_option maxRecDepth 100000 in
theorem w_f_X5_is_24 {X : Ctx} (hM : MX X yX5_is cX5_is 3 "SlimeNet$Reader" (some Jvm.ClassFile.FieldType.boolean) rm_X5_is []) {A : AH} {out : Int32} (hf : f_X5_is_24 A = some out) (hr : c_res X = r_X5_is A out) : G X 0 0 24 [] [] A := by
  have hX := hM.1
  unfold f_X5_is_24 at hf
  refine g_iconst hX dX5_is_24 (0 : Int32) (by decide) ?_
  cases hf
  exact h_zret hM dX5_is_25 hr rfl (by decide) rfl

set_option maxRecDepth 100000 in
theorem w_f_X5_is {X : Ctx} (hM : MX X yX5_is cX5_is 3 "SlimeNet$Reader" (some Jvm.ClassFile.FieldType.boolean) rm_X5_is []) {this : Nat} {x1 : Option Nat} {A : AH} {out : Int32} (hf : f_X5_is this x1 A = some out) (hr : c_res X = r_X5_is A out) : G X 0 0 0 [(0, vr (some this)), (1, vr x1)] [] A := by
  have hX := hM.1
  unfold f_X5_is at hf
  refine g_aload_n hX dX5_is_0 (lg_at 0 rfl) ?_
  refine g_getI hX hf fs_SlimeNet_Reader_36_6 rfl dX5_is_1 (fun v1 hf => ?_)
  refine g_iconst hX dX5_is_4 (1 : Int32) (by decide) ?_
  refine g_icmp_ne hX dX5_is_5 24 hf (by decide) (fun c5 hf => ?_) (fun c5 hf => ?_)
  · exact g_pick (w_f_X5_is_24 hM hf hr) [] rfl
  · refine g_aload_n hX dX5_is_8 (lg_at 0 rfl) ?_
    refine g_getI hX hf fs_SlimeNet_Reader_26_6 rfl dX5_is_9 (fun v9 hf => ?_)
    refine g_aload_n hX dX5_is_12 (lg_at 0 rfl) ?_
    refine g_getI hX hf fs_SlimeNet_Reader_33_6 rfl dX5_is_13 (fun v13 hf => ?_)
    refine g_isub hX dX5_is_16 ?_
    refine g_aload_n hX dX5_is_17 (lg_at 1 rfl) ?_
    obtain ⟨k18, hk18, hf⟩ := ob_some hf
    obtain ⟨v18, hc18, hf⟩ := ob_some hf
    refine h_callStr hM [] dX5_is_18 cs_SlimeNet_Reader_63_9 hk18 (m_J6_length hc18) rfl rfl rfl rfl ?_
    refine g_icmp_eq hX dX5_is_21 26 hf (by decide) (fun c21 hf => ?_) (fun c21 hf => ?_)
    · refine g_iconst hX dX5_is_26 (0 : Int32) (by decide) ?_
      refine g_istore_n hX dX5_is_27 [(2, vi (0 : Int32)), (0, vr (some this)), (1, vr x1)] (by decide) rfl ?_
      exact g_pick (w_l_X5_is_28 hM hf hr) [1, 2, 0] rfl
    · exact g_pick (w_f_X5_is_24 hM hf hr) [] rfl

theorem m_X5_is {l : Launch} {this : Nat} {x1 : Option Nat} {A : AH} {out : Int32} (h : f_X5_is this x1 A = some out) : MetF l yX5_is (Cond.code yX5_is cX5_is 3 (some Jvm.ClassFile.FieldType.boolean)) rm_X5_is [vr (some this), vr x1] A (r_X5_is A out) :=
  metF_of rfl rfl (Nat.le_of_ble_eq_true rfl) fun X hX hl hR hnm hr h1 h2 hno => w_f_X5_is (X := X) ⟨hX, hR, h1, h2, fun _ => ⟨hnm, hno⟩⟩ h hr

/-! SlimeNet$Wrong.by(II)LSlimeNet$Wrong; -/
def rm_X1_by : Room := { frames := 1, cells := 0, slots := 0, locals := 24 }
def r_X1_by (_A : AH) (o : Option Nat × AH) : (Option AV × AH) ⊕ (Nat × AH) := .inl (some (vr o.1), o.2)
set_option maxRecDepth 100000 in
theorem w_f_X1_by {X : Ctx} (hM : MX X yX1_by cX1_by 3 "SlimeNet$Wrong" (some (Jvm.ClassFile.FieldType.object "SlimeNet$Wrong")) rm_X1_by []) {this : Nat} {x1 : Int32} {x2 : Int32} {A : AH} {out : Option Nat × AH} (hf : f_X1_by this x1 x2 A = some out) (hr : c_res X = r_X1_by A out) : G X 0 0 0 [(0, vr (some this)), (1, vi x1), (2, vi x2)] [] A := by
  have hX := hM.1
  unfold f_X1_by at hf
  refine g_aload_n hX dX1_by_0 (lg_at 0 rfl) ?_
  refine g_iload_n hX dX1_by_1 (lg_at 1 rfl) ?_
  refine g_putI hX hf fs_SlimeNet_Wrong_7_2 ⟨_, rfl, Or.inl rfl⟩ rfl dX1_by_2 (fun A2 hf => ?_)
  refine g_aload_n hX dX1_by_5 (lg_at 0 rfl) ?_
  refine g_iload_n hX dX1_by_6 (lg_at 2 rfl) ?_
  refine g_putI hX hf fs_SlimeNet_Wrong_13_2 ⟨_, rfl, Or.inl rfl⟩ rfl dX1_by_7 (fun A7 hf => ?_)
  refine g_aload_n hX dX1_by_10 (lg_at 0 rfl) ?_
  cases hf
  exact h_aret hM dX1_by_11 hr rfl rfl rfl

theorem m_X1_by {l : Launch} {this : Nat} {x1 : Int32} {x2 : Int32} {A : AH} {out : Option Nat × AH} (h : f_X1_by this x1 x2 A = some out) : MetF l yX1_by (Cond.code yX1_by cX1_by 3 (some (Jvm.ClassFile.FieldType.object "SlimeNet$Wrong"))) rm_X1_by [vr (some this), vi x1, vi x2] A (r_X1_by A out) :=
  metF_of rfl rfl (Nat.le_of_ble_eq_true rfl) fun X hX hl hR hnm hr h1 h2 hno => w_f_X1_by (X := X) ⟨hX, hR, h1, h2, fun _ => ⟨hnm, hno⟩⟩ h hr

/-! SlimeNet$Reader.ask(ZI)V -/
def rm_X5_ask : Room := { frames := 2, cells := 0, slots := 0, locals := 46 }
def r_X5_ask (_A : AH) : (AH) ⊕ (Nat × AH) → (Option AV × AH) ⊕ (Nat × AH)
  | .inl o => .inl (none, o)
  | .inr x => .inr x
set_option maxRecDepth 100000 in
theorem w_f_X5_ask {X : Ctx} (hM : MX X yX5_ask cX5_ask 3 "SlimeNet$Reader" none rm_X5_ask []) {this : Nat} {x1 : Int32} {x2 : Int32} {A : AH} {out : (AH) ⊕ (Nat × AH)} (hf : f_X5_ask this x1 x2 A = some out) (hr : c_res X = r_X5_ask A out) : G X 0 0 0 [(0, vr (some this)), (1, vi x1), (2, vi x2)] [] A := by
  have hX := hM.1
  unfold f_X5_ask at hf
  refine g_iload_n hX dX5_ask_0 (lg_at 1 rfl) ?_
  refine g_if_ne hX dX5_ask_1 20 hf (by decide) (fun c1 hf => ?_) (fun c1 hf => ?_)
  · cases hf
    exact h_vret hM dX5_ask_20 hr rfl rfl
  · refine g_aload_n hX dX5_ask_4 (lg_at 0 rfl) ?_
    refine g_getR hX hf fs_SlimeNet_Reader_3_6 rfl dX5_ask_5 (fun v5 hf => ?_)
    refine g_getR hX hf fs_SlimeNet_Reader_49_1 rfl dX5_ask_8 (fun v8 hf => ?_)
    refine g_iload_n hX dX5_ask_11 (lg_at 2 rfl) ?_
    refine g_aload_n hX dX5_ask_12 (lg_at 0 rfl) ?_
    refine g_getI hX hf fs_SlimeNet_Reader_33_6 rfl dX5_ask_13 (fun v13 hf => ?_)
    obtain ⟨k16, hk16, hf⟩ := ob_some hf
    obtain ⟨⟨v16, A16⟩, hc16, hf⟩ := ob_some hf
    refine h_callV hM [vi x2, vi v13] dX5_ask_16 cs_SlimeNet_Reader_53_2 hk16 (m_X1_by hc16) rfl rfl rfl rfl ?_
    dsimp only at hf
    obtain ⟨k19, hk19, hf⟩ := ob_some hf
    cases hf
    exact h_athrow hM hk19 dX5_ask_19 (h_out hM (by decide) hr rfl)

theorem m_X5_ask {l : Launch} {this : Nat} {x1 : Int32} {x2 : Int32} {A : AH} {out : (AH) ⊕ (Nat × AH)} (h : f_X5_ask this x1 x2 A = some out) : MetF l yX5_ask (Cond.code yX5_ask cX5_ask 3 none) rm_X5_ask [vr (some this), vi x1, vi x2] A (r_X5_ask A out) :=
  metF_of rfl rfl (Nat.le_of_ble_eq_true rfl) fun X hX hl hR hnm hr h1 h2 hno => w_f_X5_ask (X := X) ⟨hX, hR, h1, h2, fun _ => ⟨hnm, hno⟩⟩ h hr

/-! SlimeNet$Reader.isWord()Z -/
def rm_X5_isWord : Room := { frames := 1, cells := 0, slots := 0, locals := 24 }
def r_X5_isWord (A : AH) (o : Int32) : (Option AV × AH) ⊕ (Nat × AH) := .inl (some (vi o), A)
set_option maxRecDepth 100000 in
theorem w_f_X5_isWord_13 {X : Ctx} (hM : MX X yX5_isWord cX5_isWord 1 "SlimeNet$Reader" (some Jvm.ClassFile.FieldType.boolean) rm_X5_isWord []) {t0 : Int32} {A : AH} {out : Int32} (hf : f_X5_isWord_13 t0 A = some out) (hr : c_res X = r_X5_isWord A out) : G X 0 0 13 [] [vi t0] A := by
  have hX := hM.1
  unfold f_X5_isWord_13 at hf
  obtain ⟨w13, hz13, hf⟩ := ob_some hf
  cases hf
  exact h_zret hM dX5_isWord_13 hr rfl (ckZ_nar hz13).2 rfl

set_option maxRecDepth 100000 in
theorem w_f_X5_isWord {X : Ctx} (hM : MX X yX5_isWord cX5_isWord 1 "SlimeNet$Reader" (some Jvm.ClassFile.FieldType.boolean) rm_X5_isWord []) {this : Nat} {A : AH} {out : Int32} (hf : f_X5_isWord this A = some out) (hr : c_res X = r_X5_isWord A out) : G X 0 0 0 [(0, vr (some this))] [] A := by
  have hX := hM.1
  unfold f_X5_isWord at hf
  refine g_aload_n hX dX5_isWord_0 (lg_at 0 rfl) ?_
  refine g_getI hX hf fs_SlimeNet_Reader_36_6 rfl dX5_isWord_1 (fun v1 hf => ?_)
  refine g_iconst hX dX5_isWord_4 (1 : Int32) (by decide) ?_
  refine g_icmp_ne hX dX5_isWord_5 12 hf (by decide) (fun c5 hf => ?_) (fun c5 hf => ?_)
  · refine g_iconst hX dX5_isWord_12 (0 : Int32) (by decide) ?_
    exact g_pick (w_f_X5_isWord_13 hM hf hr) [] rfl
  · refine g_iconst hX dX5_isWord_8 (1 : Int32) (by decide) ?_
    refine g_goto hX dX5_isWord_9 13 (by decide) ?_
    exact g_pick (w_f_X5_isWord_13 hM hf hr) [] rfl

theorem m_X5_isWord {l : Launch} {this : Nat} {A : AH} {out : Int32} (h : f_X5_isWord this A = some out) : MetF l yX5_isWord (Cond.code yX5_isWord cX5_isWord 1 (some Jvm.ClassFile.FieldType.boolean)) rm_X5_isWord [vr (some this)] A (r_X5_isWord A out) :=
  metF_of rfl rfl (Nat.le_of_ble_eq_true rfl) fun X hX hl hR hnm hr h1 h2 hno => w_f_X5_isWord (X := X) ⟨hX, hR, h1, h2, fun _ => ⟨hnm, hno⟩⟩ h hr

/-! SlimeNet$Reader.name()J -/
def rm_X5_name : Room := { frames := 2, cells := 0, slots := 0, locals := 45 }
def r_X5_name (A : AH) (o : Int64) : (Option AV × AH) ⊕ (Nat × AH) := .inl (some (vl o), A)
def k_X5_name_7 (X : Ctx) (this : Nat) (A : AH) : ((Int64 × Int32) ⊕ (Int64)) → Prop
  | .inl (x1, x3) => G X 0 0 7 [(0, vr (some this)), (1, vl x1), (3, vi x3)] [] A
  | .inr x1 => G X 0 0 40 [(1, vl x1)] [] A

set_option maxRecDepth 100000 in
theorem w_s_X5_name_7 {X : Ctx} (hM : MX X yX5_name cX5_name 4 "SlimeNet$Reader" (some Jvm.ClassFile.FieldType.long) rm_X5_name []) {this : Nat} {A : AH} {st : Int64 × Int32} {out : (Int64 × Int32) ⊕ (Int64)} (hf : s_X5_name_7 this A st = some out) (K : k_X5_name_7 X this A out) : k_X5_name_7 X this A (.inl st) := by
  have hX := hM.1
  obtain ⟨x1, x3⟩ := st
  unfold s_X5_name_7 at hf
  dsimp only at hf
  show G X 0 0 7 [(0, vr (some this)), (1, vl x1), (3, vi x3)] [] A
  refine g_iload_n hX dX5_name_7 (lg_at 2 rfl) ?_
  refine g_aload_n hX dX5_name_8 (lg_at 0 rfl) ?_
  refine g_getI hX hf fs_SlimeNet_Reader_26_6 rfl dX5_name_9 (fun v9 hf => ?_)
  refine g_icmp_ge hX dX5_name_12 40 hf (by decide) (fun c12 hf => ?_) (fun c12 hf => ?_)
  · cases hf
    exact g_pick (show G X _ _ _ _ _ _ from K) [1] rfl
  · refine g_ldc2 hX dX5_name_15 (v := (27 : Int64)) (lw_LW q591) ?_
    refine g_lload_n hX dX5_name_18 (lg_at 1 rfl) ?_
    refine g_lmul hX dX5_name_19 ?_
    refine g_aload_n hX dX5_name_20 (lg_at 0 rfl) ?_
    refine g_iload_n hX dX5_name_21 (lg_at 2 rfl) ?_
    obtain ⟨k22, hk22, hf⟩ := ob_some hf
    obtain ⟨v22, hc22, hf⟩ := ob_some hf
    refine h_callU hM [vi x3] dX5_name_22 cs_SlimeNet_Reader_29_6 hk22 (m_X5_see hc22) rfl rfl rfl rfl ?_
    refine g_i2l hX dX5_name_25 ?_
    refine g_ladd hX dX5_name_26 ?_
    refine g_ldc2 hX dX5_name_27 (v := (97 : Int64)) (lw_LW q592) ?_
    refine g_lsub hX dX5_name_30 ?_
    refine g_lconst hX dX5_name_31 (1 : Int64) (by decide) ?_
    refine g_ladd hX dX5_name_32 ?_
    refine g_lstore_n hX dX5_name_33 [(1, vl (((((27 : Int64) * x1) + (Int32.toInt64 v22)) - (97 : Int64)) + (1 : Int64))), (0, vr (some this)), (3, vi x3)] (by decide) rfl ?_
    refine g_iinc hX dX5_name_34 (1 : Int32) (x3 + (1 : Int32)) [(3, vi (x3 + (1 : Int32))), (1, vl (((((27 : Int64) * x1) + (Int32.toInt64 v22)) - (97 : Int64)) + (1 : Int64))), (0, vr (some this))] (by decide) rfl (lg_at 2 rfl) (by decide) rfl ?_
    refine g_goto hX dX5_name_37 7 (by decide) ?_
    cases hf
    exact g_pick (show G X _ _ _ _ _ _ from K) [2, 1, 0] rfl

set_option maxRecDepth 100000 in
theorem w_l_X5_name_7 {X : Ctx} (hM : MX X yX5_name cX5_name 4 "SlimeNet$Reader" (some Jvm.ClassFile.FieldType.long) rm_X5_name []) {this : Nat} {x1 : Int64} {x3 : Int32} {A : AH} {out : Int64} (hf : l_X5_name_7 this x1 x3 A = some out) (hr : c_res X = r_X5_name A out) : G X 0 0 7 [(0, vr (some this)), (1, vl x1), (3, vi x3)] [] A := by
  have hX := hM.1
  unfold l_X5_name_7 at hf
  obtain ⟨e, hw, hf⟩ := ob_some hf
  refine (whl_ind (k_X5_name_7 X this A) (fun st o hs K => w_s_X5_name_7 hM hs K) hw ?_ : k_X5_name_7 X this A (.inl (x1, x3)))
  revert hf hw; generalize e = x1; intro hw hf
  dsimp only at hf
  show G X 0 0 40 [(1, vl x1)] [] A
  refine g_lload_n hX dX5_name_40 (lg_at 0 rfl) ?_
  cases hf
  exact h_lret hM dX5_name_41 hr rfl rfl

set_option maxRecDepth 100000 in
theorem w_f_X5_name {X : Ctx} (hM : MX X yX5_name cX5_name 4 "SlimeNet$Reader" (some Jvm.ClassFile.FieldType.long) rm_X5_name []) {this : Nat} {A : AH} {out : Int64} (hf : f_X5_name this A = some out) (hr : c_res X = r_X5_name A out) : G X 0 0 0 [(0, vr (some this))] [] A := by
  have hX := hM.1
  unfold f_X5_name at hf
  refine g_lconst hX dX5_name_0 (0 : Int64) (by decide) ?_
  refine g_lstore_n hX dX5_name_1 [(1, vl (0 : Int64)), (0, vr (some this))] (by decide) rfl ?_
  refine g_aload_n hX dX5_name_2 (lg_at 1 rfl) ?_
  refine g_getI hX hf fs_SlimeNet_Reader_33_6 rfl dX5_name_3 (fun v3 hf => ?_)
  refine g_istore_n hX dX5_name_6 [(3, vi v3), (1, vl (0 : Int64)), (0, vr (some this))] (by decide) rfl ?_
  exact g_pick (w_l_X5_name_7 hM hf hr) [2, 1, 0] rfl

theorem m_X5_name {l : Launch} {this : Nat} {A : AH} {out : Int64} (h : f_X5_name this A = some out) : MetF l yX5_name (Cond.code yX5_name cX5_name 4 (some Jvm.ClassFile.FieldType.long)) rm_X5_name [vr (some this)] A (r_X5_name A out) :=
  metF_of rfl rfl (Nat.le_of_ble_eq_true rfl) fun X hX hl hR hnm hr h1 h2 hno => w_f_X5_name (X := X) ⟨hX, hR, h1, h2, fun _ => ⟨hnm, hno⟩⟩ h hr

/-! SlimeNet$Plate.find(J)I -/
def rm_X2_find : Room := { frames := 1, cells := 0, slots := 0, locals := 24 }
def r_X2_find (A : AH) (o : Int32) : (Option AV × AH) ⊕ (Nat × AH) := .inl (some (vi o), A)
def k_X2_find_2 (X : Ctx) (this : Nat) (x1 : Int64) (A : AH) : ((Int32) ⊕ ((Int32) ⊕ (Unit))) → Prop
  | .inl x3 => G X 0 0 2 [(0, vr (some this)), (1, vl x1), (3, vi x3)] [] A
  | .inr (.inl x3) => G X 0 0 21 [(3, vi x3)] [] A
  | .inr (.inr ()) => G X 0 0 29 [] [] A

set_option maxRecDepth 100000 in
theorem w_s_X2_find_2 {X : Ctx} (hM : MX X yX2_find cX2_find 4 "SlimeNet$Plate" (some Jvm.ClassFile.FieldType.int) rm_X2_find []) {this : Nat} {x1 : Int64} {A : AH} {st : Int32} {out : (Int32) ⊕ ((Int32) ⊕ (Unit))} (hf : s_X2_find_2 this x1 A st = some out) (K : k_X2_find_2 X this x1 A out) : k_X2_find_2 X this x1 A (.inl st) := by
  have hX := hM.1
  revert hf; generalize st = x3; intro hf
  unfold s_X2_find_2 at hf
  dsimp only at hf
  show G X 0 0 2 [(0, vr (some this)), (1, vl x1), (3, vi x3)] [] A
  refine g_iload_n hX dX2_find_2 (lg_at 2 rfl) ?_
  refine g_aload_n hX dX2_find_3 (lg_at 0 rfl) ?_
  refine g_getI hX hf fs_SlimeNet_Plate_42_3 rfl dX2_find_4 (fun v4 hf => ?_)
  refine g_icmp_ge hX dX2_find_7 29 hf (by decide) (fun c7 hf => ?_) (fun c7 hf => ?_)
  · cases hf
    exact g_pick (show G X _ _ _ _ _ _ from K) [] rfl
  · refine g_aload_n hX dX2_find_10 (lg_at 0 rfl) ?_
    refine g_getR hX hf fs_SlimeNet_Plate_9_3 rfl dX2_find_11 (fun v11 hf => ?_)
    refine g_iload_n hX dX2_find_14 (lg_at 2 rfl) ?_
    refine g_lald hX hf dX2_find_15 (fun v15 hf => ?_)
    refine g_lload_n hX dX2_find_16 (lg_at 1 rfl) ?_
    refine g_lcmp hX dX2_find_17 ?_
    refine g_if_ne hX dX2_find_18 23 hf (by decide) (fun c18 hf => ?_) (fun c18 hf => ?_)
    · refine g_iinc hX dX2_find_23 (1 : Int32) (x3 + (1 : Int32)) [(3, vi (x3 + (1 : Int32))), (0, vr (some this)), (1, vl x1)] (by decide) rfl (lg_at 2 rfl) (by decide) rfl ?_
      refine g_goto hX dX2_find_26 2 (by decide) ?_
      cases hf
      exact g_pick (show G X _ _ _ _ _ _ from K) [1, 2, 0] rfl
    · cases hf
      exact g_pick (show G X _ _ _ _ _ _ from K) [2] rfl

set_option maxRecDepth 100000 in
theorem w_l_X2_find_2 {X : Ctx} (hM : MX X yX2_find cX2_find 4 "SlimeNet$Plate" (some Jvm.ClassFile.FieldType.int) rm_X2_find []) {this : Nat} {x1 : Int64} {x3 : Int32} {A : AH} {out : Int32} (hf : l_X2_find_2 this x1 x3 A = some out) (hr : c_res X = r_X2_find A out) : G X 0 0 2 [(0, vr (some this)), (1, vl x1), (3, vi x3)] [] A := by
  have hX := hM.1
  unfold l_X2_find_2 at hf
  obtain ⟨e, hw, hf⟩ := ob_some hf
  refine (whl_ind (k_X2_find_2 X this x1 A) (fun st o hs K => w_s_X2_find_2 hM hs K) hw ?_ : k_X2_find_2 X this x1 A (.inl x3))
  rcases e with x3 | ⟨⟩
  · dsimp only at hf
    show G X 0 0 21 [(3, vi x3)] [] A
    refine g_iload_n hX dX2_find_21 (lg_at 0 rfl) ?_
    cases hf
    exact h_iret hM dX2_find_22 hr rfl rfl
  · dsimp only at hf
    show G X 0 0 29 [] [] A
    refine g_iconst hX dX2_find_29 (-1 : Int32) (by decide) ?_
    cases hf
    exact h_iret hM dX2_find_30 hr rfl rfl

set_option maxRecDepth 100000 in
theorem w_f_X2_find {X : Ctx} (hM : MX X yX2_find cX2_find 4 "SlimeNet$Plate" (some Jvm.ClassFile.FieldType.int) rm_X2_find []) {this : Nat} {x1 : Int64} {A : AH} {out : Int32} (hf : f_X2_find this x1 A = some out) (hr : c_res X = r_X2_find A out) : G X 0 0 0 [(0, vr (some this)), (1, vl x1)] [] A := by
  have hX := hM.1
  unfold f_X2_find at hf
  refine g_iconst hX dX2_find_0 (0 : Int32) (by decide) ?_
  refine g_istore_n hX dX2_find_1 [(3, vi (0 : Int32)), (0, vr (some this)), (1, vl x1)] (by decide) rfl ?_
  exact g_pick (w_l_X2_find_2 hM hf hr) [1, 2, 0] rfl

theorem m_X2_find {l : Launch} {this : Nat} {x1 : Int64} {A : AH} {out : Int32} (h : f_X2_find this x1 A = some out) : MetF l yX2_find (Cond.code yX2_find cX2_find 4 (some Jvm.ClassFile.FieldType.int)) rm_X2_find [vr (some this), vl x1] A (r_X2_find A out) :=
  metF_of rfl rfl (Nat.le_of_ble_eq_true rfl) fun X hX hl hR hnm hr h1 h2 hno => w_f_X2_find (X := X) ⟨hX, hR, h1, h2, fun _ => ⟨hnm, hno⟩⟩ h hr

/-! SlimeNet$PlateReader.spot()V -/
def rm_X6_spot : Room := { frames := 3, cells := 0, slots := 0, locals := 68 }
def r_X6_spot (_A : AH) : (AH) ⊕ (Nat × AH) → (Option AV × AH) ⊕ (Nat × AH)
  | .inl o => .inl (none, o)
  | .inr x => .inr x
set_option maxRecDepth 100000 in
theorem w_f_X6_spot_56 {X : Ctx} (hM : MX X yX6_spot cX6_spot 1 "SlimeNet$PlateReader" none rm_X6_spot []) {this : Nat} {t0 : Int32} {t1 : Option Nat} {A : AH} {out : (AH) ⊕ (Nat × AH)} (hf : f_X6_spot_56 this t0 t1 A = some out) (hr : c_res X = r_X6_spot A out) : G X 0 0 56 [(0, vr (some this))] [vi t0, vr t1] A := by
  have hX := hM.1
  unfold f_X6_spot_56 at hf
  refine g_iconst hX dX6_spot_56 (3 : Int32) (by decide) ?_
  obtain ⟨k57, hk57, hf⟩ := ob_some hf
  obtain ⟨q57, hc57, hf⟩ := ob_some hf
  rcases q57 with A57 | ⟨kx, Ax⟩
  rotate_left
  · refine h_callU hM [vi t0, vi (3 : Int32)] dX6_spot_57 cs_SlimeNet_PlateReader_45_6 hk57 (m_X5_ask hc57) rfl rfl rfl rfl ?_
    dsimp only at hf
    cases hf
    exact h_out hM (by decide) hr rfl
  refine h_callU hM [vi t0, vi (3 : Int32)] dX6_spot_57 cs_SlimeNet_PlateReader_45_6 hk57 (m_X5_ask hc57) rfl rfl rfl rfl ?_
  dsimp only at hf
  refine g_aload_n hX dX6_spot_60 (lg_at 0 rfl) ?_
  refine g_getR hX hf fs_SlimeNet_PlateReader_20_6 rfl dX6_spot_61 (fun v61 hf => ?_)
  refine g_getR hX hf fs_SlimeNet_PlateReader_119_3 rfl dX6_spot_64 (fun v64 hf => ?_)
  refine g_aload_n hX dX6_spot_67 (lg_at 0 rfl) ?_
  refine g_getR hX hf fs_SlimeNet_PlateReader_20_6 rfl dX6_spot_68 (fun v68 hf => ?_)
  refine g_getI hX hf fs_SlimeNet_PlateReader_105_3 rfl dX6_spot_71 (fun v71 hf => ?_)
  refine g_aload_n hX dX6_spot_74 (lg_at 0 rfl) ?_
  obtain ⟨k75, hk75, hf⟩ := ob_some hf
  obtain ⟨v75, hc75, hf⟩ := ob_some hf
  refine h_callU hM [] dX6_spot_75 cs_SlimeNet_PlateReader_111_6 hk75 (m_X5_name hc75) rfl rfl rfl rfl ?_
  refine g_last hX hf dX6_spot_78 (fun A78 hf => ?_)
  refine g_aload_n hX dX6_spot_79 (lg_at 0 rfl) ?_
  refine g_getR hX hf fs_SlimeNet_PlateReader_20_6 rfl dX6_spot_80 (fun v80 hf => ?_)
  refine g_dup hX dX6_spot_83 rfl ?_
  refine g_getI hX hf fs_SlimeNet_PlateReader_105_3 rfl dX6_spot_84 (fun v84 hf => ?_)
  refine g_iconst hX dX6_spot_87 (1 : Int32) (by decide) ?_
  refine g_iadd hX dX6_spot_88 ?_
  refine g_putI hX hf fs_SlimeNet_PlateReader_105_3 ⟨_, rfl, Or.inl rfl⟩ rfl dX6_spot_89 (fun A89 hf => ?_)
  refine g_aload_n hX dX6_spot_92 (lg_at 0 rfl) ?_
  obtain ⟨k93, hk93, hf⟩ := ob_some hf
  obtain ⟨A93, hc93, hf⟩ := ob_some hf
  refine h_callU hM [] dX6_spot_93 cs_SlimeNet_PlateReader_49_6 hk93 (m_X5_goOn hc93) rfl rfl rfl rfl ?_
  cases hf
  exact h_vret hM dX6_spot_96 hr rfl rfl

set_option maxRecDepth 100000 in
theorem w_f_X6_spot_18 {X : Ctx} (hM : MX X yX6_spot cX6_spot 1 "SlimeNet$PlateReader" none rm_X6_spot []) {this : Nat} {t0 : Int32} {t1 : Option Nat} {A : AH} {out : (AH) ⊕ (Nat × AH)} (hf : f_X6_spot_18 this t0 t1 A = some out) (hr : c_res X = r_X6_spot A out) : G X 0 0 18 [(0, vr (some this))] [vi t0, vr t1] A := by
  have hX := hM.1
  unfold f_X6_spot_18 at hf
  refine g_iconst hX dX6_spot_18 (4 : Int32) (by decide) ?_
  obtain ⟨k19, hk19, hf⟩ := ob_some hf
  obtain ⟨q19, hc19, hf⟩ := ob_some hf
  rcases q19 with A19 | ⟨kx, Ax⟩
  rotate_left
  · refine h_callU hM [vi t0, vi (4 : Int32)] dX6_spot_19 cs_SlimeNet_PlateReader_45_6 hk19 (m_X5_ask hc19) rfl rfl rfl rfl ?_
    dsimp only at hf
    cases hf
    exact h_out hM (by decide) hr rfl
  refine h_callU hM [vi t0, vi (4 : Int32)] dX6_spot_19 cs_SlimeNet_PlateReader_45_6 hk19 (m_X5_ask hc19) rfl rfl rfl rfl ?_
  dsimp only at hf
  refine g_aload_n hX dX6_spot_22 (lg_at 0 rfl) ?_
  obtain ⟨k23, hk23, hf⟩ := ob_some hf
  obtain ⟨A23, hc23, hf⟩ := ob_some hf
  refine h_callU hM [] dX6_spot_23 cs_SlimeNet_PlateReader_49_6 hk23 (m_X5_goOn hc23) rfl rfl rfl rfl ?_
  refine g_aload_n hX dX6_spot_26 (lg_at 0 rfl) ?_
  refine g_aload_n hX dX6_spot_27 (lg_at 0 rfl) ?_
  obtain ⟨k28, hk28, hf⟩ := ob_some hf
  obtain ⟨v28, hc28, hf⟩ := ob_some hf
  refine h_callU hM [] dX6_spot_28 cs_SlimeNet_PlateReader_108_6 hk28 (m_X5_isWord hc28) rfl rfl rfl rfl ?_
  refine g_iconst hX dX6_spot_31 (1 : Int32) (by decide) ?_
  obtain ⟨k32, hk32, hf⟩ := ob_some hf
  obtain ⟨q32, hc32, hf⟩ := ob_some hf
  rcases q32 with A32 | ⟨kx, Ax⟩
  rotate_left
  · refine h_callU hM [vi v28, vi (1 : Int32)] dX6_spot_32 cs_SlimeNet_PlateReader_45_6 hk32 (m_X5_ask hc32) rfl rfl rfl rfl ?_
    dsimp only at hf
    cases hf
    exact h_out hM (by decide) hr rfl
  refine h_callU hM [vi v28, vi (1 : Int32)] dX6_spot_32 cs_SlimeNet_PlateReader_45_6 hk32 (m_X5_ask hc32) rfl rfl rfl rfl ?_
  dsimp only at hf
  refine g_aload_n hX dX6_spot_35 (lg_at 0 rfl) ?_
  refine g_aload_n hX dX6_spot_36 (lg_at 0 rfl) ?_
  refine g_getR hX hf fs_SlimeNet_PlateReader_20_6 rfl dX6_spot_37 (fun v37 hf => ?_)
  refine g_aload_n hX dX6_spot_40 (lg_at 0 rfl) ?_
  obtain ⟨k41, hk41, hf⟩ := ob_some hf
  obtain ⟨v41, hc41, hf⟩ := ob_some hf
  refine h_callU hM [] dX6_spot_41 cs_SlimeNet_PlateReader_111_6 hk41 (m_X5_name hc41) rfl rfl rfl rfl ?_
  obtain ⟨k44, hk44, hf⟩ := ob_some hf
  obtain ⟨v44, hc44, hf⟩ := ob_some hf
  refine h_callV hM [vl v41] dX6_spot_44 cs_SlimeNet_PlateReader_115_3 hk44 (m_X2_find hc44) rfl rfl rfl rfl ?_
  refine g_iconst hX dX6_spot_47 (-1 : Int32) (by decide) ?_
  refine g_icmp_ne hX dX6_spot_48 55 hf (by decide) (fun c48 hf => ?_) (fun c48 hf => ?_)
  · refine g_iconst hX dX6_spot_55 (0 : Int32) (by decide) ?_
    exact g_pick (w_f_X6_spot_56 hM hf hr) [0] rfl
  · refine g_iconst hX dX6_spot_51 (1 : Int32) (by decide) ?_
    refine g_goto hX dX6_spot_52 56 (by decide) ?_
    exact g_pick (w_f_X6_spot_56 hM hf hr) [0] rfl

set_option maxRecDepth 100000 in
theorem w_f_X6_spot {X : Ctx} (hM : MX X yX6_spot cX6_spot 1 "SlimeNet$PlateReader" none rm_X6_spot []) {this : Nat} {A : AH} {out : (AH) ⊕ (Nat × AH)} (hf : f_X6_spot this A = some out) (hr : c_res X = r_X6_spot A out) : G X 0 0 0 [(0, vr (some this))] [] A := by
  have hX := hM.1
  unfold f_X6_spot at hf
  refine g_aload_n hX dX6_spot_0 (lg_at 0 rfl) ?_
  refine g_aload_n hX dX6_spot_1 (lg_at 0 rfl) ?_
  refine g_getR hX hf fs_SlimeNet_PlateReader_20_6 rfl dX6_spot_2 (fun v2 hf => ?_)
  refine g_getI hX hf fs_SlimeNet_PlateReader_105_3 rfl dX6_spot_5 (fun v5 hf => ?_)
  refine g_bipush hX dX6_spot_8 (6 : Int32) (by decide) ?_
  refine g_icmp_ge hX dX6_spot_10 17 hf (by decide) (fun c10 hf => ?_) (fun c10 hf => ?_)
  · refine g_iconst hX dX6_spot_17 (0 : Int32) (by decide) ?_
    exact g_pick (w_f_X6_spot_18 hM hf hr) [0] rfl
  · refine g_iconst hX dX6_spot_13 (1 : Int32) (by decide) ?_
    refine g_goto hX dX6_spot_14 18 (by decide) ?_
    exact g_pick (w_f_X6_spot_18 hM hf hr) [0] rfl

theorem m_X6_spot {l : Launch} {this : Nat} {A : AH} {out : (AH) ⊕ (Nat × AH)} (h : f_X6_spot this A = some out) : MetF l yX6_spot (Cond.code yX6_spot cX6_spot 1 none) rm_X6_spot [vr (some this)] A (r_X6_spot A out) :=
  metF_of rfl rfl (Nat.le_of_ble_eq_true rfl) fun X hX hl hR hnm hr h1 h2 hno => w_f_X6_spot (X := X) ⟨hX, hR, h1, h2, fun _ => ⟨hnm, hno⟩⟩ h hr

/-! SlimeNet$PlateReader.spotHere()I -/
def rm_X6_spotHere : Room := { frames := 3, cells := 0, slots := 0, locals := 68 }
def r_X6_spotHere (_A : AH) : (Int32 × AH) ⊕ (Nat × AH) → (Option AV × AH) ⊕ (Nat × AH)
  | .inl o => .inl (some (vi o.1), o.2)
  | .inr x => .inr x
set_option maxRecDepth 100000 in
theorem w_f_X6_spotHere_32 {X : Ctx} (hM : MX X yX6_spotHere cX6_spotHere 2 "SlimeNet$PlateReader" (some Jvm.ClassFile.FieldType.int) rm_X6_spotHere []) {x1 : Int32} {t0 : Int32} {t1 : Option Nat} {A : AH} {out : (Int32 × AH) ⊕ (Nat × AH)} (hf : f_X6_spotHere_32 x1 t0 t1 A = some out) (hr : c_res X = r_X6_spotHere A out) : G X 0 0 32 [(1, vi x1)] [vi t0, vr t1] A := by
  have hX := hM.1
  unfold f_X6_spotHere_32 at hf
  refine g_iconst hX dX6_spotHere_32 (5 : Int32) (by decide) ?_
  obtain ⟨k33, hk33, hf⟩ := ob_some hf
  obtain ⟨q33, hc33, hf⟩ := ob_some hf
  rcases q33 with A33 | ⟨kx, Ax⟩
  rotate_left
  · refine h_callU hM [vi t0, vi (5 : Int32)] dX6_spotHere_33 cs_SlimeNet_PlateReader_45_6 hk33 (m_X5_ask hc33) rfl rfl rfl rfl ?_
    dsimp only at hf
    cases hf
    exact h_out hM (by decide) hr rfl
  refine h_callU hM [vi t0, vi (5 : Int32)] dX6_spotHere_33 cs_SlimeNet_PlateReader_45_6 hk33 (m_X5_ask hc33) rfl rfl rfl rfl ?_
  dsimp only at hf
  refine g_iload_n hX dX6_spotHere_36 (lg_at 0 rfl) ?_
  cases hf
  exact h_iret hM dX6_spotHere_37 hr rfl rfl

set_option maxRecDepth 100000 in
theorem w_f_X6_spotHere {X : Ctx} (hM : MX X yX6_spotHere cX6_spotHere 2 "SlimeNet$PlateReader" (some Jvm.ClassFile.FieldType.int) rm_X6_spotHere []) {this : Nat} {A : AH} {out : (Int32 × AH) ⊕ (Nat × AH)} (hf : f_X6_spotHere this A = some out) (hr : c_res X = r_X6_spotHere A out) : G X 0 0 0 [(0, vr (some this))] [] A := by
  have hX := hM.1
  unfold f_X6_spotHere at hf
  refine g_aload_n hX dX6_spotHere_0 (lg_at 0 rfl) ?_
  refine g_aload_n hX dX6_spotHere_1 (lg_at 0 rfl) ?_
  obtain ⟨k2, hk2, hf⟩ := ob_some hf
  obtain ⟨v2, hc2, hf⟩ := ob_some hf
  refine h_callU hM [] dX6_spotHere_2 cs_SlimeNet_PlateReader_108_6 hk2 (m_X5_isWord hc2) rfl rfl rfl rfl ?_
  refine g_iconst hX dX6_spotHere_5 (1 : Int32) (by decide) ?_
  obtain ⟨k6, hk6, hf⟩ := ob_some hf
  obtain ⟨q6, hc6, hf⟩ := ob_some hf
  rcases q6 with A6 | ⟨kx, Ax⟩
  rotate_left
  · refine h_callU hM [vi v2, vi (1 : Int32)] dX6_spotHere_6 cs_SlimeNet_PlateReader_45_6 hk6 (m_X5_ask hc6) rfl rfl rfl rfl ?_
    dsimp only at hf
    cases hf
    exact h_out hM (by decide) hr rfl
  refine h_callU hM [vi v2, vi (1 : Int32)] dX6_spotHere_6 cs_SlimeNet_PlateReader_45_6 hk6 (m_X5_ask hc6) rfl rfl rfl rfl ?_
  dsimp only at hf
  refine g_aload_n hX dX6_spotHere_9 (lg_at 0 rfl) ?_
  refine g_getR hX hf fs_SlimeNet_PlateReader_20_6 rfl dX6_spotHere_10 (fun v10 hf => ?_)
  refine g_aload_n hX dX6_spotHere_13 (lg_at 0 rfl) ?_
  obtain ⟨k14, hk14, hf⟩ := ob_some hf
  obtain ⟨v14, hc14, hf⟩ := ob_some hf
  refine h_callU hM [] dX6_spotHere_14 cs_SlimeNet_PlateReader_111_6 hk14 (m_X5_name hc14) rfl rfl rfl rfl ?_
  obtain ⟨k17, hk17, hf⟩ := ob_some hf
  obtain ⟨v17, hc17, hf⟩ := ob_some hf
  refine h_callV hM [vl v14] dX6_spotHere_17 cs_SlimeNet_PlateReader_115_3 hk17 (m_X2_find hc17) rfl rfl rfl rfl ?_
  refine g_istore_n hX dX6_spotHere_20 [(1, vi v17), (0, vr (some this))] (by decide) rfl ?_
  refine g_aload_n hX dX6_spotHere_21 (lg_at 1 rfl) ?_
  refine g_iload_n hX dX6_spotHere_22 (lg_at 0 rfl) ?_
  refine g_iconst hX dX6_spotHere_23 (-1 : Int32) (by decide) ?_
  refine g_icmp_eq hX dX6_spotHere_24 31 hf (by decide) (fun c24 hf => ?_) (fun c24 hf => ?_)
  · refine g_iconst hX dX6_spotHere_31 (0 : Int32) (by decide) ?_
    exact g_pick (w_f_X6_spotHere_32 hM hf hr) [0] rfl
  · refine g_iconst hX dX6_spotHere_27 (1 : Int32) (by decide) ?_
    refine g_goto hX dX6_spotHere_28 32 (by decide) ?_
    exact g_pick (w_f_X6_spotHere_32 hM hf hr) [0] rfl

theorem m_X6_spotHere {l : Launch} {this : Nat} {A : AH} {out : (Int32 × AH) ⊕ (Nat × AH)} (h : f_X6_spotHere this A = some out) : MetF l yX6_spotHere (Cond.code yX6_spotHere cX6_spotHere 2 (some Jvm.ClassFile.FieldType.int)) rm_X6_spotHere [vr (some this)] A (r_X6_spotHere A out) :=
  metF_of rfl rfl (Nat.le_of_ble_eq_true rfl) fun X hX hl hR hnm hr h1 h2 hno => w_f_X6_spotHere (X := X) ⟨hX, hR, h1, h2, fun _ => ⟨hnm, hno⟩⟩ h hr

/-! java/util/Objects.checkIndex(II)I -/
def rm_J10_checkIndex : Room := { frames := 2, cells := 0, slots := 0, locals := 46 }
def r_J10_checkIndex (A : AH) (o : Int32) : (Option AV × AH) ⊕ (Nat × AH) := .inl (some (vi o), A)
set_option maxRecDepth 100000 in
theorem w_f_J10_checkIndex {X : Ctx} (hM : MX X yJ10_checkIndex cJ10_checkIndex 2 "java/util/Objects" (some Jvm.ClassFile.FieldType.int) rm_J10_checkIndex []) {x0 : Int32} {x1 : Int32} {A : AH} {out : Int32} (hf : f_J10_checkIndex x0 x1 = some out) (hr : c_res X = r_J10_checkIndex A out) : G X 0 0 0 [(0, vi x0), (1, vi x1)] [] A := by
  have hX := hM.1
  unfold f_J10_checkIndex at hf
  refine g_iload_n hX dJ10_checkIndex_0 (lg_at 0 rfl) ?_
  refine g_iload_n hX dJ10_checkIndex_1 (lg_at 1 rfl) ?_
  refine g_null hX dJ10_checkIndex_2 ?_
  obtain ⟨v3, hc3, hf⟩ := ob_some hf
  refine h_callS hM [vi x0, vi x1, vr none] dJ10_checkIndex_3 cs_java_util_Objects_105_s (m_J8_checkIndex hc3) rfl rfl rfl rfl ?_
  cases hf
  exact h_iret hM dJ10_checkIndex_6 hr rfl rfl

theorem m_J10_checkIndex {l : Launch} {x0 : Int32} {x1 : Int32} {A : AH} {out : Int32} (h : f_J10_checkIndex x0 x1 = some out) : MetF l yJ10_checkIndex (Cond.code yJ10_checkIndex cJ10_checkIndex 2 (some Jvm.ClassFile.FieldType.int)) rm_J10_checkIndex [vi x0, vi x1] A (r_J10_checkIndex A out) :=
  metF_of rfl rfl (Nat.le_of_ble_eq_true rfl) fun X hX hl hR hnm hr h1 h2 hno => w_f_J10_checkIndex (X := X) ⟨hX, hR, h1, h2, fun _ => ⟨hnm, hno⟩⟩ h hr

/-! java/util/ArrayList.elementData(I)Ljava/lang/Object; -/
def rm_J4_elementData : Room := { frames := 1, cells := 0, slots := 0, locals := 24 }
def r_J4_elementData (A : AH) (o : Option Nat) : (Option AV × AH) ⊕ (Nat × AH) := .inl (some (vr o), A)
set_option maxRecDepth 100000 in
theorem w_f_J4_elementData {X : Ctx} (hM : MX X yJ4_elementData cJ4_elementData 2 "java/util/ArrayList" (some (Jvm.ClassFile.FieldType.object "java/lang/Object")) rm_J4_elementData []) {this : Nat} {x1 : Int32} {A : AH} {out : Option Nat} (hf : f_J4_elementData this x1 A = some out) (hr : c_res X = r_J4_elementData A out) : G X 0 0 0 [(0, vr (some this)), (1, vi x1)] [] A := by
  have hX := hM.1
  unfold f_J4_elementData at hf
  refine g_aload_n hX dJ4_elementData_0 (lg_at 0 rfl) ?_
  refine g_getR hX hf fs_java_util_ArrayList_9_8 rfl dJ4_elementData_1 (fun v1 hf => ?_)
  refine g_iload_n hX dJ4_elementData_4 (lg_at 1 rfl) ?_
  refine g_aald hX rfl hf dJ4_elementData_5 (fun v5 hf => ?_)
  cases hf
  exact h_aret hM dJ4_elementData_6 hr rfl rfl rfl

theorem m_J4_elementData {l : Launch} {this : Nat} {x1 : Int32} {A : AH} {out : Option Nat} (h : f_J4_elementData this x1 A = some out) : MetF l yJ4_elementData (Cond.code yJ4_elementData cJ4_elementData 2 (some (Jvm.ClassFile.FieldType.object "java/lang/Object"))) rm_J4_elementData [vr (some this), vi x1] A (r_J4_elementData A out) :=
  metF_of rfl rfl (Nat.le_of_ble_eq_true rfl) fun X hX hl hR hnm hr h1 h2 hno => w_f_J4_elementData (X := X) ⟨hX, hR, h1, h2, fun _ => ⟨hnm, hno⟩⟩ h hr

/-! java/util/ArrayList.get(I)Ljava/lang/Object; -/
def rm_J4_get : Room := { frames := 3, cells := 0, slots := 0, locals := 67 }
def r_J4_get (A : AH) (o : Option Nat) : (Option AV × AH) ⊕ (Nat × AH) := .inl (some (vr o), A)
set_option maxRecDepth 100000 in
theorem w_f_J4_get {X : Ctx} (hM : MX X yJ4_get cJ4_get 2 "java/util/ArrayList" (some (Jvm.ClassFile.FieldType.object "java/lang/Object")) rm_J4_get []) {this : Nat} {x1 : Int32} {A : AH} {out : Option Nat} (hf : f_J4_get this x1 A = some out) (hr : c_res X = r_J4_get A out) : G X 0 0 0 [(0, vr (some this)), (1, vi x1)] [] A := by
  have hX := hM.1
  unfold f_J4_get at hf
  refine g_iload_n hX dJ4_get_0 (lg_at 1 rfl) ?_
  refine g_aload_n hX dJ4_get_1 (lg_at 0 rfl) ?_
  refine g_getI hX hf fs_java_util_ArrayList_48_8 rfl dJ4_get_2 (fun v2 hf => ?_)
  obtain ⟨v5, hc5, hf⟩ := ob_some hf
  refine h_callS hM [vi x1, vi v2] dJ4_get_5 cs_java_util_ArrayList_118_s (m_J10_checkIndex hc5) rfl rfl rfl rfl ?_
  refine g_pop hX dJ4_get_8 rfl ?_
  refine g_aload_n hX dJ4_get_9 (lg_at 0 rfl) ?_
  refine g_iload_n hX dJ4_get_10 (lg_at 1 rfl) ?_
  obtain ⟨k11, hk11, hf⟩ := ob_some hf
  obtain ⟨v11, hc11, hf⟩ := ob_some hf
  refine h_callV hM [vi x1] dJ4_get_11 cs_java_util_ArrayList_123_8 hk11 (m_J4_elementData hc11) rfl rfl rfl rfl ?_
  cases hf
  exact h_aret hM dJ4_get_14 hr rfl rfl rfl

theorem m_J4_get {l : Launch} {this : Nat} {x1 : Int32} {A : AH} {out : Option Nat} (h : f_J4_get this x1 A = some out) : MetF l yJ4_get (Cond.code yJ4_get cJ4_get 2 (some (Jvm.ClassFile.FieldType.object "java/lang/Object"))) rm_J4_get [vr (some this), vi x1] A (r_J4_get A out) :=
  metF_of rfl rfl (Nat.le_of_ble_eq_true rfl) fun X hX hl hR hnm hr h1 h2 hno => w_f_J4_get (X := X) ⟨hX, hR, h1, h2, fun _ => ⟨hnm, hno⟩⟩ h hr

/-! SlimeNet$Plate.between(II)LSlimeNet$Pipe; -/
def rm_X2_between : Room := { frames := 4, cells := 0, slots := 0, locals := 88 }
def r_X2_between (A : AH) (o : Option Nat) : (Option AV × AH) ⊕ (Nat × AH) := .inl (some (vr o), A)
def k_X2_between_2 (X : Ctx) (this : Nat) (x1 : Int32) (x2 : Int32) (A : AH) : ((Int32) ⊕ ((Option Nat) ⊕ (Unit))) → Prop
  | .inl x3 => G X 0 0 2 [(0, vr (some this)), (1, vi x1), (2, vi x2), (3, vi x3)] [] A
  | .inr (.inl x4) => G X 0 0 62 [(4, vr x4)] [] A
  | .inr (.inr ()) => G X 0 0 71 [] [] A

set_option maxRecDepth 100000 in
theorem w_f_X2_between_65 {X : Ctx} (hM : MX X yX2_between cX2_between 5 "SlimeNet$Plate" (some (Jvm.ClassFile.FieldType.object "SlimeNet$Pipe")) rm_X2_between []) {this : Nat} {x1 : Int32} {x2 : Int32} {x3 : Int32} {A : AH} {out : (Int32) ⊕ ((Option Nat) ⊕ (Unit))} (hf : f_X2_between_65 this x1 x2 x3 A = some out) (K : k_X2_between_2 X this x1 x2 A out) : G X 0 0 65 [(0, vr (some this)), (1, vi x1), (2, vi x2), (3, vi x3)] [] A := by
  have hX := hM.1
  unfold f_X2_between_65 at hf
  refine g_iinc hX dX2_between_65 (1 : Int32) (x3 + (1 : Int32)) [(3, vi (x3 + (1 : Int32))), (0, vr (some this)), (1, vi x1), (2, vi x2)] (by decide) rfl (lg_at 3 rfl) (by decide) rfl ?_
  refine g_goto hX dX2_between_68 2 (by decide) ?_
  cases hf
  exact g_pick (show G X _ _ _ _ _ _ from K) [1, 2, 3, 0] rfl

set_option maxRecDepth 100000 in
theorem w_f_X2_between_44 {X : Ctx} (hM : MX X yX2_between cX2_between 5 "SlimeNet$Plate" (some (Jvm.ClassFile.FieldType.object "SlimeNet$Pipe")) rm_X2_between []) {this : Nat} {x1 : Int32} {x2 : Int32} {x3 : Int32} {x4 : Option Nat} {A : AH} {out : (Int32) ⊕ ((Option Nat) ⊕ (Unit))} (hf : f_X2_between_44 this x1 x2 x3 x4 A = some out) (K : k_X2_between_2 X this x1 x2 A out) : G X 0 0 44 [(0, vr (some this)), (1, vi x1), (2, vi x2), (3, vi x3), (4, vr x4)] [] A := by
  have hX := hM.1
  unfold f_X2_between_44 at hf
  refine g_aload hX dX2_between_44 (lg_at 4 rfl) ?_
  refine g_getI hX hf fs_SlimeNet_Plate_58_7 rfl dX2_between_46 (fun v46 hf => ?_)
  refine g_iload_n hX dX2_between_49 (lg_at 2 rfl) ?_
  refine g_icmp_ne hX dX2_between_50 65 hf (by decide) (fun c50 hf => ?_) (fun c50 hf => ?_)
  · exact g_pick (w_f_X2_between_65 hM hf K) [0, 1, 2, 3] rfl
  · refine g_aload hX dX2_between_53 (lg_at 4 rfl) ?_
    refine g_getI hX hf fs_SlimeNet_Plate_61_7 rfl dX2_between_55 (fun v55 hf => ?_)
    refine g_iload_n hX dX2_between_58 (lg_at 1 rfl) ?_
    refine g_icmp_ne hX dX2_between_59 65 hf (by decide) (fun c59 hf => ?_) (fun c59 hf => ?_)
    · exact g_pick (w_f_X2_between_65 hM hf K) [0, 1, 2, 3] rfl
    · cases hf
      exact g_pick (show G X _ _ _ _ _ _ from K) [4] rfl

set_option maxRecDepth 100000 in
theorem w_f_X2_between_62 {X : Ctx} (hM : MX X yX2_between cX2_between 5 "SlimeNet$Plate" (some (Jvm.ClassFile.FieldType.object "SlimeNet$Pipe")) rm_X2_between []) {x4 : Option Nat} {A : AH} {out : Option Nat} (hf : f_X2_between_62 x4 A = some out) (hr : c_res X = r_X2_between A out) : G X 0 0 62 [(4, vr x4)] [] A := by
  have hX := hM.1
  unfold f_X2_between_62 at hf
  refine g_aload hX dX2_between_62 (lg_at 0 rfl) ?_
  cases hf
  exact h_aret hM dX2_between_64 hr rfl rfl rfl

set_option maxRecDepth 100000 in
theorem w_s_X2_between_2 {X : Ctx} (hM : MX X yX2_between cX2_between 5 "SlimeNet$Plate" (some (Jvm.ClassFile.FieldType.object "SlimeNet$Pipe")) rm_X2_between []) {this : Nat} {x1 : Int32} {x2 : Int32} {A : AH} {st : Int32} {out : (Int32) ⊕ ((Option Nat) ⊕ (Unit))} (hf : s_X2_between_2 this x1 x2 A st = some out) (K : k_X2_between_2 X this x1 x2 A out) : k_X2_between_2 X this x1 x2 A (.inl st) := by
  have hX := hM.1
  revert hf; generalize st = x3; intro hf
  unfold s_X2_between_2 at hf
  dsimp only at hf
  show G X 0 0 2 [(0, vr (some this)), (1, vi x1), (2, vi x2), (3, vi x3)] [] A
  refine g_iload_n hX dX2_between_2 (lg_at 3 rfl) ?_
  refine g_aload_n hX dX2_between_3 (lg_at 0 rfl) ?_
  refine g_getR hX hf fs_SlimeNet_Plate_18_3 rfl dX2_between_4 (fun v4 hf => ?_)
  obtain ⟨k7, hk7, hf⟩ := ob_some hf
  obtain ⟨v7, hc7, hf⟩ := ob_some hf
  refine h_callV hM [] dX2_between_7 cs_SlimeNet_Plate_48_8 hk7 (m_J4_size hc7) rfl rfl rfl rfl ?_
  refine g_icmp_ge hX dX2_between_10 71 hf (by decide) (fun c10 hf => ?_) (fun c10 hf => ?_)
  · cases hf
    exact g_pick (show G X _ _ _ _ _ _ from K) [] rfl
  · refine g_aload_n hX dX2_between_13 (lg_at 0 rfl) ?_
    refine g_getR hX hf fs_SlimeNet_Plate_18_3 rfl dX2_between_14 (fun v14 hf => ?_)
    refine g_iload_n hX dX2_between_17 (lg_at 3 rfl) ?_
    obtain ⟨k18, hk18, hf⟩ := ob_some hf
    obtain ⟨v18, hc18, hf⟩ := ob_some hf
    refine h_callV hM [vi x3] dX2_between_18 cs_SlimeNet_Plate_52_8 hk18 (m_J4_get hc18) rfl rfl rfl rfl ?_
    refine g_castC hX (by decide) rfl (lw_LW q624) hf dX2_between_21 (fun hf => ?_)
    refine g_astore hX dX2_between_24 [(4, vr v18), (0, vr (some this)), (1, vi x1), (2, vi x2), (3, vi x3)] (by decide) rfl ?_
    refine g_aload hX dX2_between_26 (lg_at 0 rfl) ?_
    refine g_getI hX hf fs_SlimeNet_Plate_58_7 rfl dX2_between_28 (fun v28 hf => ?_)
    refine g_iload_n hX dX2_between_31 (lg_at 2 rfl) ?_
    refine g_icmp_ne hX dX2_between_32 44 hf (by decide) (fun c32 hf => ?_) (fun c32 hf => ?_)
    · exact g_pick (w_f_X2_between_44 hM hf K) [1, 2, 3, 4, 0] rfl
    · refine g_aload hX dX2_between_35 (lg_at 0 rfl) ?_
      refine g_getI hX hf fs_SlimeNet_Plate_61_7 rfl dX2_between_37 (fun v37 hf => ?_)
      refine g_iload_n hX dX2_between_40 (lg_at 3 rfl) ?_
      refine g_icmp_eq hX dX2_between_41 62 hf (by decide) (fun c41 hf => ?_) (fun c41 hf => ?_)
      · cases hf
        exact g_pick (show G X _ _ _ _ _ _ from K) [0] rfl
      · exact g_pick (w_f_X2_between_44 hM hf K) [1, 2, 3, 4, 0] rfl

set_option maxRecDepth 100000 in
theorem w_l_X2_between_2 {X : Ctx} (hM : MX X yX2_between cX2_between 5 "SlimeNet$Plate" (some (Jvm.ClassFile.FieldType.object "SlimeNet$Pipe")) rm_X2_between []) {this : Nat} {x1 : Int32} {x2 : Int32} {x3 : Int32} {A : AH} {out : Option Nat} (hf : l_X2_between_2 this x1 x2 x3 A = some out) (hr : c_res X = r_X2_between A out) : G X 0 0 2 [(0, vr (some this)), (1, vi x1), (2, vi x2), (3, vi x3)] [] A := by
  have hX := hM.1
  unfold l_X2_between_2 at hf
  obtain ⟨e, hw, hf⟩ := ob_some hf
  refine (whl_ind (k_X2_between_2 X this x1 x2 A) (fun st o hs K => w_s_X2_between_2 hM hs K) hw ?_ : k_X2_between_2 X this x1 x2 A (.inl x3))
  rcases e with x4 | ⟨⟩
  · dsimp only at hf
    show G X 0 0 62 [(4, vr x4)] [] A
    exact g_pick (w_f_X2_between_62 hM hf hr) [0] rfl
  · dsimp only at hf
    show G X 0 0 71 [] [] A
    refine g_null hX dX2_between_71 ?_
    cases hf
    exact h_aret hM dX2_between_72 hr rfl rfl rfl

set_option maxRecDepth 100000 in
theorem w_f_X2_between {X : Ctx} (hM : MX X yX2_between cX2_between 5 "SlimeNet$Plate" (some (Jvm.ClassFile.FieldType.object "SlimeNet$Pipe")) rm_X2_between []) {this : Nat} {x1 : Int32} {x2 : Int32} {A : AH} {out : Option Nat} (hf : f_X2_between this x1 x2 A = some out) (hr : c_res X = r_X2_between A out) : G X 0 0 0 [(0, vr (some this)), (1, vi x1), (2, vi x2)] [] A := by
  have hX := hM.1
  unfold f_X2_between at hf
  refine g_iconst hX dX2_between_0 (0 : Int32) (by decide) ?_
  refine g_istore_n hX dX2_between_1 [(3, vi (0 : Int32)), (0, vr (some this)), (1, vi x1), (2, vi x2)] (by decide) rfl ?_
  exact g_pick (w_l_X2_between_2 hM hf hr) [1, 2, 3, 0] rfl

theorem m_X2_between {l : Launch} {this : Nat} {x1 : Int32} {x2 : Int32} {A : AH} {out : Option Nat} (h : f_X2_between this x1 x2 A = some out) : MetF l yX2_between (Cond.code yX2_between cX2_between 5 (some (Jvm.ClassFile.FieldType.object "SlimeNet$Pipe"))) rm_X2_between [vr (some this), vi x1, vi x2] A (r_X2_between A out) :=
  metF_of rfl rfl (Nat.le_of_ble_eq_true rfl) fun X hX hl hR hnm hr h1 h2 hno => w_f_X2_between (X := X) ⟨hX, hR, h1, h2, fun _ => ⟨hnm, hno⟩⟩ h hr

/-! SlimeNet.in(III)Z -/
def rm_X0_in : Room := { frames := 1, cells := 0, slots := 0, locals := 24 }
def r_X0_in (A : AH) (o : Int32) : (Option AV × AH) ⊕ (Nat × AH) := .inl (some (vi o), A)
set_option maxRecDepth 100000 in
theorem w_f_X0_in_15 {X : Ctx} (hM : MX X yX0_in cX0_in 3 "SlimeNet" (some Jvm.ClassFile.FieldType.boolean) rm_X0_in []) {t0 : Int32} {A : AH} {out : Int32} (hf : f_X0_in_15 t0 = some out) (hr : c_res X = r_X0_in A out) : G X 0 0 15 [] [vi t0] A := by
  have hX := hM.1
  unfold f_X0_in_15 at hf
  obtain ⟨w15, hz15, hf⟩ := ob_some hf
  cases hf
  exact h_zret hM dX0_in_15 hr rfl (ckZ_nar hz15).2 rfl

set_option maxRecDepth 100000 in
theorem w_f_X0_in_14 {X : Ctx} (hM : MX X yX0_in cX0_in 3 "SlimeNet" (some Jvm.ClassFile.FieldType.boolean) rm_X0_in []) {A : AH} {out : Int32} (hf : f_X0_in_14 = some out) (hr : c_res X = r_X0_in A out) : G X 0 0 14 [] [] A := by
  have hX := hM.1
  unfold f_X0_in_14 at hf
  refine g_iconst hX dX0_in_14 (0 : Int32) (by decide) ?_
  exact g_pick (w_f_X0_in_15 hM hf hr) [] rfl

set_option maxRecDepth 100000 in
theorem w_f_X0_in {X : Ctx} (hM : MX X yX0_in cX0_in 3 "SlimeNet" (some Jvm.ClassFile.FieldType.boolean) rm_X0_in []) {x0 : Int32} {x1 : Int32} {x2 : Int32} {A : AH} {out : Int32} (hf : f_X0_in x0 x1 x2 = some out) (hr : c_res X = r_X0_in A out) : G X 0 0 0 [(0, vi x0), (1, vi x1), (2, vi x2)] [] A := by
  have hX := hM.1
  unfold f_X0_in at hf
  refine g_iload_n hX dX0_in_0 (lg_at 0 rfl) ?_
  refine g_iload_n hX dX0_in_1 (lg_at 1 rfl) ?_
  refine g_icmp_lt hX dX0_in_2 14 hf (by decide) (fun c2 hf => ?_) (fun c2 hf => ?_)
  · exact g_pick (w_f_X0_in_14 hM hf hr) [] rfl
  · refine g_iload_n hX dX0_in_5 (lg_at 0 rfl) ?_
    refine g_iload_n hX dX0_in_6 (lg_at 2 rfl) ?_
    refine g_icmp_gt hX dX0_in_7 14 hf (by decide) (fun c7 hf => ?_) (fun c7 hf => ?_)
    · exact g_pick (w_f_X0_in_14 hM hf hr) [] rfl
    · refine g_iconst hX dX0_in_10 (1 : Int32) (by decide) ?_
      refine g_goto hX dX0_in_11 15 (by decide) ?_
      exact g_pick (w_f_X0_in_15 hM hf hr) [] rfl

theorem m_X0_in {l : Launch} {x0 : Int32} {x1 : Int32} {x2 : Int32} {A : AH} {out : Int32} (h : f_X0_in x0 x1 x2 = some out) : MetF l yX0_in (Cond.code yX0_in cX0_in 3 (some Jvm.ClassFile.FieldType.boolean)) rm_X0_in [vi x0, vi x1, vi x2] A (r_X0_in A out) :=
  metF_of rfl rfl (Nat.le_of_ble_eq_true rfl) fun X hX hl hR hnm hr h1 h2 hno => w_f_X0_in (X := X) ⟨hX, hR, h1, h2, fun _ => ⟨hnm, hno⟩⟩ h hr

/-! SlimeNet$Reader.within(II)I -/
def rm_X5_within : Room := { frames := 3, cells := 0, slots := 0, locals := 68 }
def r_X5_within (_A : AH) : (Int32 × AH) ⊕ (Nat × AH) → (Option AV × AH) ⊕ (Nat × AH)
  | .inl o => .inl (some (vi o.1), o.2)
  | .inr x => .inr x
set_option maxRecDepth 100000 in
theorem w_f_X5_within_14 {X : Ctx} (hM : MX X yX5_within cX5_within 3 "SlimeNet$Reader" (some Jvm.ClassFile.FieldType.int) rm_X5_within []) {this : Nat} {x1 : Int32} {x2 : Int32} {t0 : Int32} {t1 : Option Nat} {A : AH} {out : (Int32 × AH) ⊕ (Nat × AH)} (hf : f_X5_within_14 this x1 x2 t0 t1 A = some out) (hr : c_res X = r_X5_within A out) : G X 0 0 14 [(0, vr (some this)), (1, vi x1), (2, vi x2)] [vi t0, vr t1] A := by
  have hX := hM.1
  unfold f_X5_within_14 at hf
  refine g_iconst hX dX5_within_14 (1 : Int32) (by decide) ?_
  obtain ⟨k15, hk15, hf⟩ := ob_some hf
  obtain ⟨q15, hc15, hf⟩ := ob_some hf
  rcases q15 with A15 | ⟨kx, Ax⟩
  rotate_left
  · refine h_callU hM [vi t0, vi (1 : Int32)] dX5_within_15 cs_SlimeNet_Reader_73_6 hk15 (m_X5_ask hc15) rfl rfl rfl rfl ?_
    dsimp only at hf
    cases hf
    exact h_out hM (by decide) hr rfl
  refine h_callU hM [vi t0, vi (1 : Int32)] dX5_within_15 cs_SlimeNet_Reader_73_6 hk15 (m_X5_ask hc15) rfl rfl rfl rfl ?_
  dsimp only at hf
  refine g_aload_n hX dX5_within_18 (lg_at 0 rfl) ?_
  refine g_aload_n hX dX5_within_19 (lg_at 0 rfl) ?_
  refine g_getI hX hf fs_SlimeNet_Reader_46_6 rfl dX5_within_20 (fun v20 hf => ?_)
  refine g_iload_n hX dX5_within_23 (lg_at 1 rfl) ?_
  refine g_iload_n hX dX5_within_24 (lg_at 2 rfl) ?_
  obtain ⟨v25, hc25, hf⟩ := ob_some hf
  refine h_callSN hM [vi v20, vi x1, vi x2] dX5_within_25 cs_SlimeNet_Reader_77_s (m_X0_in hc25) rfl rfl rfl rfl ?_
  refine g_iconst hX dX5_within_28 (2 : Int32) (by decide) ?_
  obtain ⟨k29, hk29, hf⟩ := ob_some hf
  obtain ⟨q29, hc29, hf⟩ := ob_some hf
  rcases q29 with A29 | ⟨kx, Ax⟩
  rotate_left
  · refine h_callU hM [vi v25, vi (2 : Int32)] dX5_within_29 cs_SlimeNet_Reader_73_6 hk29 (m_X5_ask hc29) rfl rfl rfl rfl ?_
    dsimp only at hf
    cases hf
    exact h_out hM (by decide) hr rfl
  refine h_callU hM [vi v25, vi (2 : Int32)] dX5_within_29 cs_SlimeNet_Reader_73_6 hk29 (m_X5_ask hc29) rfl rfl rfl rfl ?_
  dsimp only at hf
  refine g_aload_n hX dX5_within_32 (lg_at 0 rfl) ?_
  refine g_getI hX hf fs_SlimeNet_Reader_46_6 rfl dX5_within_33 (fun v33 hf => ?_)
  cases hf
  exact h_iret hM dX5_within_36 hr rfl rfl

set_option maxRecDepth 100000 in
theorem w_f_X5_within {X : Ctx} (hM : MX X yX5_within cX5_within 3 "SlimeNet$Reader" (some Jvm.ClassFile.FieldType.int) rm_X5_within []) {this : Nat} {x1 : Int32} {x2 : Int32} {A : AH} {out : (Int32 × AH) ⊕ (Nat × AH)} (hf : f_X5_within this x1 x2 A = some out) (hr : c_res X = r_X5_within A out) : G X 0 0 0 [(0, vr (some this)), (1, vi x1), (2, vi x2)] [] A := by
  have hX := hM.1
  unfold f_X5_within at hf
  refine g_aload_n hX dX5_within_0 (lg_at 0 rfl) ?_
  refine g_aload_n hX dX5_within_1 (lg_at 0 rfl) ?_
  refine g_getI hX hf fs_SlimeNet_Reader_36_6 rfl dX5_within_2 (fun v2 hf => ?_)
  refine g_iconst hX dX5_within_5 (2 : Int32) (by decide) ?_
  refine g_icmp_ne hX dX5_within_6 13 hf (by decide) (fun c6 hf => ?_) (fun c6 hf => ?_)
  · refine g_iconst hX dX5_within_13 (0 : Int32) (by decide) ?_
    exact g_pick (w_f_X5_within_14 hM hf hr) [0, 1, 2] rfl
  · refine g_iconst hX dX5_within_9 (1 : Int32) (by decide) ?_
    refine g_goto hX dX5_within_10 14 (by decide) ?_
    exact g_pick (w_f_X5_within_14 hM hf hr) [0, 1, 2] rfl

theorem m_X5_within {l : Launch} {this : Nat} {x1 : Int32} {x2 : Int32} {A : AH} {out : (Int32 × AH) ⊕ (Nat × AH)} (h : f_X5_within this x1 x2 A = some out) : MetF l yX5_within (Cond.code yX5_within cX5_within 3 (some Jvm.ClassFile.FieldType.int)) rm_X5_within [vr (some this), vi x1, vi x2] A (r_X5_within A out) :=
  metF_of rfl rfl (Nat.le_of_ble_eq_true rfl) fun X hX hl hR hnm hr h1 h2 hno => w_f_X5_within (X := X) ⟨hX, hR, h1, h2, fun _ => ⟨hnm, hno⟩⟩ h hr

/-! SlimeNet$Pipe.<init>(IIII)V -/
def rm_X7_init : Room := { frames := 1, cells := 0, slots := 0, locals := 24 }
def r_X7_init (_A : AH) (o : AH) : (Option AV × AH) ⊕ (Nat × AH) := .inl (none, o)
set_option maxRecDepth 100000 in
theorem w_f_X7_init {X : Ctx} (hM : MX X yX7_init cX7_init 5 "SlimeNet$Pipe" none rm_X7_init []) {this : Nat} {x1 : Int32} {x2 : Int32} {x3 : Int32} {x4 : Int32} {A : AH} {out : AH} (hf : f_X7_init this x1 x2 x3 x4 A = some out) (hr : c_res X = r_X7_init A out) : G X 0 0 0 [(0, vr (some this)), (1, vi x1), (2, vi x2), (3, vi x3), (4, vi x4)] [] A := by
  have hX := hM.1
  unfold f_X7_init at hf
  refine g_aload_n hX dX7_init_0 (lg_at 0 rfl) ?_
  refine h_objInit hM dX7_init_1 (lw_LW q640) (lw_LW q99) (lw_LW q100) rfl rfl ?_
  refine g_aload_n hX dX7_init_4 (lg_at 0 rfl) ?_
  refine g_iload_n hX dX7_init_5 (lg_at 1 rfl) ?_
  refine g_putI hX hf fs_SlimeNet_Pipe_7_7 ⟨_, rfl, Or.inr ⟨rfl, (hM.2.2.2.2 (by decide)).1.trans rfl, rfl⟩⟩ rfl dX7_init_6 (fun A6 hf => ?_)
  refine g_aload_n hX dX7_init_9 (lg_at 0 rfl) ?_
  refine g_iload_n hX dX7_init_10 (lg_at 2 rfl) ?_
  refine g_putI hX hf fs_SlimeNet_Pipe_13_7 ⟨_, rfl, Or.inr ⟨rfl, (hM.2.2.2.2 (by decide)).1.trans rfl, rfl⟩⟩ rfl dX7_init_11 (fun A11 hf => ?_)
  refine g_aload_n hX dX7_init_14 (lg_at 0 rfl) ?_
  refine g_iload_n hX dX7_init_15 (lg_at 3 rfl) ?_
  refine g_putI hX hf fs_SlimeNet_Pipe_16_7 ⟨_, rfl, Or.inr ⟨rfl, (hM.2.2.2.2 (by decide)).1.trans rfl, rfl⟩⟩ rfl dX7_init_16 (fun A16 hf => ?_)
  refine g_aload_n hX dX7_init_19 (lg_at 0 rfl) ?_
  refine g_iload hX dX7_init_20 (lg_at 4 rfl) ?_
  refine g_putI hX hf fs_SlimeNet_Pipe_19_7 ⟨_, rfl, Or.inr ⟨rfl, (hM.2.2.2.2 (by decide)).1.trans rfl, rfl⟩⟩ rfl dX7_init_22 (fun A22 hf => ?_)
  cases hf
  exact h_vret hM dX7_init_25 hr rfl rfl

theorem m_X7_init {l : Launch} {this : Nat} {x1 : Int32} {x2 : Int32} {x3 : Int32} {x4 : Int32} {A : AH} {out : AH} (h : f_X7_init this x1 x2 x3 x4 A = some out) : MetF l yX7_init (Cond.code yX7_init cX7_init 5 none) rm_X7_init [vr (some this), vi x1, vi x2, vi x3, vi x4] A (r_X7_init A out) :=
  metF_of rfl rfl (Nat.le_of_ble_eq_true rfl) fun X hX hl hR hnm hr h1 h2 hno => w_f_X7_init (X := X) ⟨hX, hR, h1, h2, fun _ => ⟨hnm, hno⟩⟩ h hr

/-! java/util/ArrayList.grow(I)[Ljava/lang/Object; -/
def rm_J4_grow_2 : Room := { frames := 1, cells := 1, slots := 10, locals := 24 }
def r_J4_grow_2 (_A : AH) (o : Option Nat × AH) : (Option AV × AH) ⊕ (Nat × AH) := .inl (some (vr o.1), o.2)
set_option maxRecDepth 100000 in
theorem w_f_J4_grow_2_20 {X : Ctx} (hM : MX X yJ4_grow_2 cJ4_grow_2 4 "java/util/ArrayList" (some (Jvm.ClassFile.FieldType.array (Jvm.ClassFile.FieldType.object "java/lang/Object"))) rm_J4_grow_2 []) {x2 : Int32} {A : AH} {out : Option Nat × AH} (hf : f_J4_grow_2_20 x2 A = some out) (hr : c_res X = r_J4_grow_2 A out) : G X 0 0 20 [(2, vi x2)] [] A := by
  have hX := hM.1
  unfold f_J4_grow_2_20 at hf
  cases hf

set_option maxRecDepth 100000 in
theorem w_f_J4_grow_2 {X : Ctx} (hM : MX X yJ4_grow_2 cJ4_grow_2 4 "java/util/ArrayList" (some (Jvm.ClassFile.FieldType.array (Jvm.ClassFile.FieldType.object "java/lang/Object"))) rm_J4_grow_2 []) {this : Nat} {x1 : Int32} {A : AH} {out : Option Nat × AH} (hf : f_J4_grow_2 this x1 A = some out) (hr : c_res X = r_J4_grow_2 A out) : G X 0 0 0 [(0, vr (some this)), (1, vi x1)] [] A := by
  have hX := hM.1
  unfold f_J4_grow_2 at hf
  refine g_aload_n hX dJ4_grow_2_0 (lg_at 0 rfl) ?_
  refine g_getR hX hf fs_java_util_ArrayList_9_8 rfl dJ4_grow_2_1 (fun v1 hf => ?_)
  refine g_alenq hX hf dJ4_grow_2_4 (fun v4 hf => ?_)
  refine g_istore_n hX dJ4_grow_2_5 [(2, vi v4), (0, vr (some this)), (1, vi x1)] (by decide) rfl ?_
  refine g_iload_n hX dJ4_grow_2_6 (lg_at 0 rfl) ?_
  refine g_if_gt hX dJ4_grow_2_7 20 hf (by decide) (fun c7 hf => ?_) (fun c7 hf => ?_)
  · exact g_pick (w_f_J4_grow_2_20 hM hf hr) [0] rfl
  · refine g_aload_n hX dJ4_grow_2_10 (lg_at 1 rfl) ?_
    refine g_getR hX hf fs_java_util_ArrayList_9_8 rfl dJ4_grow_2_11 (fun v11 hf => ?_)
    refine g_get0 hX dJ4_grow_2_14 (lw_LW q186) ?_
    refine g_acmp_eq hX dJ4_grow_2_17 45 hf (by decide) (fun hf => ?_)
    refine g_aload_n hX dJ4_grow_2_45 (lg_at 1 rfl) ?_
    refine g_bipush hX dJ4_grow_2_46 (10 : Int32) (by decide) ?_
    refine g_iload_n hX dJ4_grow_2_48 (lg_at 2 rfl) ?_
    refine g_mmax hM dJ4_grow_2_49 (lw_LW q722) (lw_LW q689) (lw_LW q80) (lw_LW q690) rfl rfl ?_
    refine h_anew hM dJ4_grow_2_52 (Or.inl ⟨rfl, rfl⟩) (lw_LW q723) hf rfl (fun A52 hf => ?_)
    refine g_dup_x1 hX dJ4_grow_2_55 rfl rfl ?_
    refine g_putR hX hf fs_java_util_ArrayList_9_8 ⟨_, rfl, Or.inl rfl⟩ rfl dJ4_grow_2_56 (fun A56 hf => ?_)
    cases hf
    exact h_aret hM dJ4_grow_2_59 hr rfl rfl rfl

theorem m_J4_grow_2 {l : Launch} {this : Nat} {x1 : Int32} {A : AH} {out : Option Nat × AH} (h : f_J4_grow_2 this x1 A = some out) : MetF l yJ4_grow_2 (Cond.code yJ4_grow_2 cJ4_grow_2 4 (some (Jvm.ClassFile.FieldType.array (Jvm.ClassFile.FieldType.object "java/lang/Object")))) rm_J4_grow_2 [vr (some this), vi x1] A (r_J4_grow_2 A out) :=
  metF_of rfl rfl (Nat.le_of_ble_eq_true rfl) fun X hX hl hR hnm hr h1 h2 hno => w_f_J4_grow_2 (X := X) ⟨hX, hR, h1, h2, fun _ => ⟨hnm, hno⟩⟩ h hr

/-! java/util/ArrayList.grow()[Ljava/lang/Object; -/
def rm_J4_grow : Room := { frames := 2, cells := 1, slots := 10, locals := 47 }
def r_J4_grow (_A : AH) (o : Option Nat × AH) : (Option AV × AH) ⊕ (Nat × AH) := .inl (some (vr o.1), o.2)
set_option maxRecDepth 100000 in
theorem w_f_J4_grow {X : Ctx} (hM : MX X yJ4_grow cJ4_grow 1 "java/util/ArrayList" (some (Jvm.ClassFile.FieldType.array (Jvm.ClassFile.FieldType.object "java/lang/Object"))) rm_J4_grow []) {this : Nat} {A : AH} {out : Option Nat × AH} (hf : f_J4_grow this A = some out) (hr : c_res X = r_J4_grow A out) : G X 0 0 0 [(0, vr (some this))] [] A := by
  have hX := hM.1
  unfold f_J4_grow at hf
  refine g_aload_n hX dJ4_grow_0 (lg_at 0 rfl) ?_
  refine g_aload_n hX dJ4_grow_1 (lg_at 0 rfl) ?_
  refine g_getI hX hf fs_java_util_ArrayList_48_8 rfl dJ4_grow_2 (fun v2 hf => ?_)
  refine g_iconst hX dJ4_grow_5 (1 : Int32) (by decide) ?_
  refine g_iadd hX dJ4_grow_6 ?_
  obtain ⟨k7, hk7, hf⟩ := ob_some hf
  obtain ⟨⟨v7, A7⟩, hc7, hf⟩ := ob_some hf
  refine h_callV hM [vi (v2 + (1 : Int32))] dJ4_grow_7 cs_java_util_ArrayList_69_8 hk7 (m_J4_grow_2 hc7) rfl rfl rfl rfl ?_
  dsimp only at hf
  cases hf
  exact h_aret hM dJ4_grow_10 hr rfl rfl rfl

theorem m_J4_grow {l : Launch} {this : Nat} {A : AH} {out : Option Nat × AH} (h : f_J4_grow this A = some out) : MetF l yJ4_grow (Cond.code yJ4_grow cJ4_grow 1 (some (Jvm.ClassFile.FieldType.array (Jvm.ClassFile.FieldType.object "java/lang/Object")))) rm_J4_grow [vr (some this)] A (r_J4_grow A out) :=
  metF_of rfl rfl (Nat.le_of_ble_eq_true rfl) fun X hX hl hR hnm hr h1 h2 hno => w_f_J4_grow (X := X) ⟨hX, hR, h1, h2, fun _ => ⟨hnm, hno⟩⟩ h hr

/-! java/util/ArrayList.add(Ljava/lang/Object;[Ljava/lang/Object;I)V -/
def rm_J4_add_2 : Room := { frames := 3, cells := 1, slots := 10, locals := 67 }
def r_J4_add_2 (_A : AH) (o : AH) : (Option AV × AH) ⊕ (Nat × AH) := .inl (none, o)
set_option maxRecDepth 100000 in
theorem w_f_J4_add_2_11 {X : Ctx} (hM : MX X yJ4_add_2 cJ4_add_2 4 "java/util/ArrayList" none rm_J4_add_2 []) {this : Nat} {x1 : Option Nat} {x2 : Option Nat} {x3 : Int32} {A : AH} {out : AH} (hf : f_J4_add_2_11 this x1 x2 x3 A = some out) (hr : c_res X = r_J4_add_2 A out) : G X 1 10 11 [(0, vr (some this)), (1, vr x1), (2, vr x2), (3, vi x3)] [] A := by
  have hX := hM.1
  unfold f_J4_add_2_11 at hf
  refine g_aload_n hX dJ4_add_2_11 (lg_at 2 rfl) ?_
  refine g_iload_n hX dJ4_add_2_12 (lg_at 3 rfl) ?_
  refine g_aload_n hX dJ4_add_2_13 (lg_at 1 rfl) ?_
  refine g_aast hX (Or.inl ⟨rfl, rfl⟩) rfl (by decide) (Or.inl q1598) hf dJ4_add_2_14 (fun A14 hf => ?_)
  refine g_aload_n hX dJ4_add_2_15 (lg_at 0 rfl) ?_
  refine g_iload_n hX dJ4_add_2_16 (lg_at 3 rfl) ?_
  refine g_iconst hX dJ4_add_2_17 (1 : Int32) (by decide) ?_
  refine g_iadd hX dJ4_add_2_18 ?_
  refine g_putI hX hf fs_java_util_ArrayList_48_8 ⟨_, rfl, Or.inl rfl⟩ rfl dJ4_add_2_19 (fun A19 hf => ?_)
  cases hf
  exact h_vret hM dJ4_add_2_22 hr rfl rfl

set_option maxRecDepth 100000 in
theorem w_f_J4_add_2 {X : Ctx} (hM : MX X yJ4_add_2 cJ4_add_2 4 "java/util/ArrayList" none rm_J4_add_2 []) {this : Nat} {x1 : Option Nat} {x2 : Option Nat} {x3 : Int32} {A : AH} {out : AH} (hf : f_J4_add_2 this x1 x2 x3 A = some out) (hr : c_res X = r_J4_add_2 A out) : G X 0 0 0 [(0, vr (some this)), (1, vr x1), (2, vr x2), (3, vi x3)] [] A := by
  have hX := hM.1
  unfold f_J4_add_2 at hf
  refine g_iload_n hX dJ4_add_2_0 (lg_at 3 rfl) ?_
  refine g_aload_n hX dJ4_add_2_1 (lg_at 2 rfl) ?_
  refine g_alenq hX hf dJ4_add_2_2 (fun v2 hf => ?_)
  refine g_icmp_ne hX dJ4_add_2_3 11 hf (by decide) (fun c3 hf => ?_) (fun c3 hf => ?_)
  · exact g_wide (g_pick (w_f_J4_add_2_11 hM hf hr) [0, 1, 2, 3] rfl) (Nat.le_of_ble_eq_true rfl) (Nat.le_of_ble_eq_true rfl)
  · refine g_aload_n hX dJ4_add_2_6 (lg_at 0 rfl) ?_
    obtain ⟨k7, hk7, hf⟩ := ob_some hf
    obtain ⟨⟨v7, A7⟩, hc7, hf⟩ := ob_some hf
    refine h_callV hM [] dJ4_add_2_7 cs_java_util_ArrayList_129_8 hk7 (m_J4_grow hc7) rfl rfl rfl rfl ?_
    dsimp only at hf
    refine g_astore_n hX dJ4_add_2_10 [(2, vr v7), (0, vr (some this)), (1, vr x1), (3, vi x3)] (by decide) rfl ?_
    exact g_pick (w_f_J4_add_2_11 hM hf hr) [1, 2, 0, 3] rfl

theorem m_J4_add_2 {l : Launch} {this : Nat} {x1 : Option Nat} {x2 : Option Nat} {x3 : Int32} {A : AH} {out : AH} (h : f_J4_add_2 this x1 x2 x3 A = some out) : MetF l yJ4_add_2 (Cond.code yJ4_add_2 cJ4_add_2 4 none) rm_J4_add_2 [vr (some this), vr x1, vr x2, vi x3] A (r_J4_add_2 A out) :=
  metF_of rfl rfl (Nat.le_of_ble_eq_true rfl) fun X hX hl hR hnm hr h1 h2 hno => w_f_J4_add_2 (X := X) ⟨hX, hR, h1, h2, fun _ => ⟨hnm, hno⟩⟩ h hr

/-! java/util/ArrayList.add(Ljava/lang/Object;)Z -/
def rm_J4_add : Room := { frames := 4, cells := 1, slots := 10, locals := 90 }
def r_J4_add (_A : AH) (o : Int32 × AH) : (Option AV × AH) ⊕ (Nat × AH) := .inl (some (vi o.1), o.2)
set_option maxRecDepth 100000 in
theorem w_f_J4_add {X : Ctx} (hM : MX X yJ4_add cJ4_add 2 "java/util/ArrayList" (some Jvm.ClassFile.FieldType.boolean) rm_J4_add []) {this : Nat} {x1 : Option Nat} {A : AH} {out : Int32 × AH} (hf : f_J4_add this x1 A = some out) (hr : c_res X = r_J4_add A out) : G X 0 0 0 [(0, vr (some this)), (1, vr x1)] [] A := by
  have hX := hM.1
  unfold f_J4_add at hf
  refine g_aload_n hX dJ4_add_0 (lg_at 0 rfl) ?_
  refine g_dup hX dJ4_add_1 rfl ?_
  refine g_getI hX hf fs_java_util_ArrayList_63_8 rfl dJ4_add_2 (fun v2 hf => ?_)
  refine g_iconst hX dJ4_add_5 (1 : Int32) (by decide) ?_
  refine g_iadd hX dJ4_add_6 ?_
  refine g_putI hX hf fs_java_util_ArrayList_63_8 ⟨_, rfl, Or.inl rfl⟩ rfl dJ4_add_7 (fun A7 hf => ?_)
  refine g_aload_n hX dJ4_add_10 (lg_at 0 rfl) ?_
  refine g_aload_n hX dJ4_add_11 (lg_at 1 rfl) ?_
  refine g_aload_n hX dJ4_add_12 (lg_at 0 rfl) ?_
  refine g_getR hX hf fs_java_util_ArrayList_9_8 rfl dJ4_add_13 (fun v13 hf => ?_)
  refine g_aload_n hX dJ4_add_16 (lg_at 0 rfl) ?_
  refine g_getI hX hf fs_java_util_ArrayList_48_8 rfl dJ4_add_17 (fun v17 hf => ?_)
  obtain ⟨k20, hk20, hf⟩ := ob_some hf
  obtain ⟨A20, hc20, hf⟩ := ob_some hf
  refine h_callV hM [vr x1, vr v13, vi v17] dJ4_add_20 cs_java_util_ArrayList_131_8 hk20 (m_J4_add_2 hc20) rfl rfl rfl rfl ?_
  refine g_iconst hX dJ4_add_23 (1 : Int32) (by decide) ?_
  cases hf
  exact h_zret hM dJ4_add_24 hr rfl (by decide) rfl

theorem m_J4_add {l : Launch} {this : Nat} {x1 : Option Nat} {A : AH} {out : Int32 × AH} (h : f_J4_add this x1 A = some out) : MetF l yJ4_add (Cond.code yJ4_add cJ4_add 2 (some Jvm.ClassFile.FieldType.boolean)) rm_J4_add [vr (some this), vr x1] A (r_J4_add A out) :=
  metF_of rfl rfl (Nat.le_of_ble_eq_true rfl) fun X hX hl hR hnm hr h1 h2 hno => w_f_J4_add (X := X) ⟨hX, hR, h1, h2, fun _ => ⟨hnm, hno⟩⟩ h hr

/-! SlimeNet$PlateReader.pipe()V -/
def rm_X6_pipe : Room := { frames := 5, cells := 2, slots := 15, locals := 112 }
def r_X6_pipe (_A : AH) : (AH) ⊕ (Nat × AH) → (Option AV × AH) ⊕ (Nat × AH)
  | .inl o => .inl (none, o)
  | .inr x => .inr x
set_option maxRecDepth 100000 in
theorem w_f_X6_pipe_131 {X : Ctx} (hM : MX X yX6_pipe cX6_pipe 4 "SlimeNet$PlateReader" none rm_X6_pipe []) {this : Nat} {x1 : Int32} {x2 : Int32} {x3 : Int32} {t0 : Int32} {t1 : Option Nat} {A : AH} {out : (AH) ⊕ (Nat × AH)} (hf : f_X6_pipe_131 this x1 x2 x3 t0 t1 A = some out) (hr : c_res X = r_X6_pipe A out) : G X 0 0 131 [(0, vr (some this)), (1, vi x1), (2, vi x2), (3, vi x3)] [vi t0, vr t1] A := by
  have hX := hM.1
  unfold f_X6_pipe_131 at hf
  refine g_iconst hX dX6_pipe_131 (2 : Int32) (by decide) ?_
  obtain ⟨k132, hk132, hf⟩ := ob_some hf
  obtain ⟨q132, hc132, hf⟩ := ob_some hf
  rcases q132 with A132 | ⟨kx, Ax⟩
  rotate_left
  · refine h_callU hM [vi t0, vi (2 : Int32)] dX6_pipe_132 cs_SlimeNet_PlateReader_45_6 hk132 (m_X5_ask hc132) rfl rfl rfl rfl ?_
    dsimp only at hf
    cases hf
    exact h_out hM (by decide) hr rfl
  refine h_callU hM [vi t0, vi (2 : Int32)] dX6_pipe_132 cs_SlimeNet_PlateReader_45_6 hk132 (m_X5_ask hc132) rfl rfl rfl rfl ?_
  dsimp only at hf
  refine g_aload_n hX dX6_pipe_135 (lg_at 0 rfl) ?_
  refine g_getR hX hf fs_SlimeNet_PlateReader_20_6 rfl dX6_pipe_136 (fun v136 hf => ?_)
  refine g_getR hX hf fs_SlimeNet_PlateReader_123_3 rfl dX6_pipe_139 (fun v139 hf => ?_)
  refine h_newF hM dX6_pipe_142 (by decide) rfl (lw_LW q635) (lw_LW q636) (lw_LW q88) rfl hf (fun A142 hf => ?_)
  refine g_dup hX dX6_pipe_145 rfl ?_
  refine g_aload_n hX dX6_pipe_146 (lg_at 0 rfl) ?_
  refine g_getR hX hf fs_SlimeNet_PlateReader_20_6 rfl dX6_pipe_147 (fun v147 hf => ?_)
  refine g_getR hX hf fs_SlimeNet_PlateReader_123_3 rfl dX6_pipe_150 (fun v150 hf => ?_)
  obtain ⟨k153, hk153, hf⟩ := ob_some hf
  obtain ⟨v153, hc153, hf⟩ := ob_some hf
  refine h_callV hM [] dX6_pipe_153 cs_SlimeNet_PlateReader_127_8 hk153 (m_J4_size hc153) rfl rfl rfl rfl ?_
  refine g_iload_n hX dX6_pipe_156 (lg_at 1 rfl) ?_
  refine g_iload_n hX dX6_pipe_157 (lg_at 2 rfl) ?_
  refine g_iload_n hX dX6_pipe_158 (lg_at 3 rfl) ?_
  obtain ⟨A159, hc159, hf⟩ := ob_some hf
  refine h_callI hM [vi v153, vi x1, vi x2, vi x3] dX6_pipe_159 cs_SlimeNet_PlateReader_141_s (m_X7_init hc159) rfl rfl rfl rfl ?_
  obtain ⟨k162, hk162, hf⟩ := ob_some hf
  obtain ⟨⟨v162, A162⟩, hc162, hf⟩ := ob_some hf
  refine h_callV hM [vr (some (hn A132))] dX6_pipe_162 cs_SlimeNet_PlateReader_144_8 hk162 (m_J4_add hc162) rfl rfl rfl rfl ?_
  dsimp only at hf
  refine g_pop hX dX6_pipe_165 rfl ?_
  refine g_aload_n hX dX6_pipe_166 (lg_at 0 rfl) ?_
  obtain ⟨k167, hk167, hf⟩ := ob_some hf
  obtain ⟨A167, hc167, hf⟩ := ob_some hf
  refine h_callU hM [] dX6_pipe_167 cs_SlimeNet_PlateReader_49_6 hk167 (m_X5_goOn hc167) rfl rfl rfl rfl ?_
  cases hf
  exact h_vret hM dX6_pipe_170 hr rfl rfl

set_option maxRecDepth 100000 in
theorem w_f_X6_pipe_102 {X : Ctx} (hM : MX X yX6_pipe cX6_pipe 4 "SlimeNet$PlateReader" none rm_X6_pipe []) {this : Nat} {x1 : Int32} {x2 : Int32} {t0 : Int32} {t1 : Option Nat} {A : AH} {out : (AH) ⊕ (Nat × AH)} (hf : f_X6_pipe_102 this x1 x2 t0 t1 A = some out) (hr : c_res X = r_X6_pipe A out) : G X 0 0 102 [(0, vr (some this)), (1, vi x1), (2, vi x2)] [vi t0, vr t1] A := by
  have hX := hM.1
  unfold f_X6_pipe_102 at hf
  refine g_iconst hX dX6_pipe_102 (5 : Int32) (by decide) ?_
  obtain ⟨k103, hk103, hf⟩ := ob_some hf
  obtain ⟨q103, hc103, hf⟩ := ob_some hf
  rcases q103 with A103 | ⟨kx, Ax⟩
  rotate_left
  · refine h_callU hM [vi t0, vi (5 : Int32)] dX6_pipe_103 cs_SlimeNet_PlateReader_45_6 hk103 (m_X5_ask hc103) rfl rfl rfl rfl ?_
    dsimp only at hf
    cases hf
    exact h_out hM (by decide) hr rfl
  refine h_callU hM [vi t0, vi (5 : Int32)] dX6_pipe_103 cs_SlimeNet_PlateReader_45_6 hk103 (m_X5_ask hc103) rfl rfl rfl rfl ?_
  dsimp only at hf
  refine g_aload_n hX dX6_pipe_106 (lg_at 0 rfl) ?_
  obtain ⟨k107, hk107, hf⟩ := ob_some hf
  obtain ⟨A107, hc107, hf⟩ := ob_some hf
  refine h_callU hM [] dX6_pipe_107 cs_SlimeNet_PlateReader_49_6 hk107 (m_X5_goOn hc107) rfl rfl rfl rfl ?_
  refine g_aload_n hX dX6_pipe_110 (lg_at 0 rfl) ?_
  refine g_iconst hX dX6_pipe_111 (1 : Int32) (by decide) ?_
  refine g_bipush hX dX6_pipe_112 (12 : Int32) (by decide) ?_
  obtain ⟨k114, hk114, hf⟩ := ob_some hf
  obtain ⟨q114, hc114, hf⟩ := ob_some hf
  rcases q114 with ⟨v114, A114⟩ | ⟨kx, Ax⟩
  rotate_left
  · refine h_callU hM [vi (1 : Int32), vi (12 : Int32)] dX6_pipe_114 cs_SlimeNet_PlateReader_136_6 hk114 (m_X5_within hc114) rfl rfl rfl rfl ?_
    dsimp only at hf
    cases hf
    exact h_out hM (by decide) hr rfl
  refine h_callU hM [vi (1 : Int32), vi (12 : Int32)] dX6_pipe_114 cs_SlimeNet_PlateReader_136_6 hk114 (m_X5_within hc114) rfl rfl rfl rfl ?_
  dsimp only at hf
  refine g_istore_n hX dX6_pipe_117 [(3, vi v114), (0, vr (some this)), (1, vi x1), (2, vi x2)] (by decide) rfl ?_
  refine g_aload_n hX dX6_pipe_118 (lg_at 1 rfl) ?_
  refine g_bipush hX dX6_pipe_119 (12 : Int32) (by decide) ?_
  refine g_iload_n hX dX6_pipe_121 (lg_at 0 rfl) ?_
  refine g_irem hX dX6_pipe_122 hf (fun v122 _ hf => ?_)
  refine g_if_ne hX dX6_pipe_123 130 hf (by decide) (fun c123 hf => ?_) (fun c123 hf => ?_)
  · refine g_iconst hX dX6_pipe_130 (0 : Int32) (by decide) ?_
    exact g_pick (w_f_X6_pipe_131 hM hf hr) [1, 2, 3, 0] rfl
  · refine g_iconst hX dX6_pipe_126 (1 : Int32) (by decide) ?_
    refine g_goto hX dX6_pipe_127 131 (by decide) ?_
    exact g_pick (w_f_X6_pipe_131 hM hf hr) [1, 2, 3, 0] rfl

set_option maxRecDepth 100000 in
theorem w_f_X6_pipe_87 {X : Ctx} (hM : MX X yX6_pipe cX6_pipe 4 "SlimeNet$PlateReader" none rm_X6_pipe []) {this : Nat} {x1 : Int32} {x2 : Int32} {t0 : Int32} {t1 : Option Nat} {A : AH} {out : (AH) ⊕ (Nat × AH)} (hf : f_X6_pipe_87 this x1 x2 t0 t1 A = some out) (hr : c_res X = r_X6_pipe A out) : G X 0 0 87 [(0, vr (some this)), (1, vi x1), (2, vi x2)] [vi t0, vr t1] A := by
  have hX := hM.1
  unfold f_X6_pipe_87 at hf
  refine g_iconst hX dX6_pipe_87 (3 : Int32) (by decide) ?_
  obtain ⟨k88, hk88, hf⟩ := ob_some hf
  obtain ⟨q88, hc88, hf⟩ := ob_some hf
  rcases q88 with A88 | ⟨kx, Ax⟩
  rotate_left
  · refine h_callU hM [vi t0, vi (3 : Int32)] dX6_pipe_88 cs_SlimeNet_PlateReader_45_6 hk88 (m_X5_ask hc88) rfl rfl rfl rfl ?_
    dsimp only at hf
    cases hf
    exact h_out hM (by decide) hr rfl
  refine h_callU hM [vi t0, vi (3 : Int32)] dX6_pipe_88 cs_SlimeNet_PlateReader_45_6 hk88 (m_X5_ask hc88) rfl rfl rfl rfl ?_
  dsimp only at hf
  refine g_aload_n hX dX6_pipe_91 (lg_at 0 rfl) ?_
  refine g_iload_n hX dX6_pipe_92 (lg_at 2 rfl) ?_
  refine g_iconst hX dX6_pipe_93 (-1 : Int32) (by decide) ?_
  refine g_icmp_eq hX dX6_pipe_94 101 hf (by decide) (fun c94 hf => ?_) (fun c94 hf => ?_)
  · refine g_iconst hX dX6_pipe_101 (0 : Int32) (by decide) ?_
    exact g_pick (w_f_X6_pipe_102 hM hf hr) [0, 1, 2] rfl
  · refine g_iconst hX dX6_pipe_97 (1 : Int32) (by decide) ?_
    refine g_goto hX dX6_pipe_98 102 (by decide) ?_
    exact g_pick (w_f_X6_pipe_102 hM hf hr) [0, 1, 2] rfl

set_option maxRecDepth 100000 in
theorem w_f_X6_pipe_82 {X : Ctx} (hM : MX X yX6_pipe cX6_pipe 4 "SlimeNet$PlateReader" none rm_X6_pipe []) {this : Nat} {x1 : Int32} {x2 : Int32} {t0 : Option Nat} {A : AH} {out : (AH) ⊕ (Nat × AH)} (hf : f_X6_pipe_82 this x1 x2 t0 A = some out) (hr : c_res X = r_X6_pipe A out) : G X 0 0 82 [(0, vr (some this)), (1, vi x1), (2, vi x2)] [vr t0] A := by
  have hX := hM.1
  unfold f_X6_pipe_82 at hf
  refine g_iconst hX dX6_pipe_82 (1 : Int32) (by decide) ?_
  refine g_goto hX dX6_pipe_83 87 (by decide) ?_
  exact g_pick (w_f_X6_pipe_87 hM hf hr) [0, 1, 2] rfl

set_option maxRecDepth 100000 in
theorem w_f_X6_pipe_86 {X : Ctx} (hM : MX X yX6_pipe cX6_pipe 4 "SlimeNet$PlateReader" none rm_X6_pipe []) {this : Nat} {x1 : Int32} {x2 : Int32} {t0 : Option Nat} {A : AH} {out : (AH) ⊕ (Nat × AH)} (hf : f_X6_pipe_86 this x1 x2 t0 A = some out) (hr : c_res X = r_X6_pipe A out) : G X 0 0 86 [(0, vr (some this)), (1, vi x1), (2, vi x2)] [vr t0] A := by
  have hX := hM.1
  unfold f_X6_pipe_86 at hf
  refine g_iconst hX dX6_pipe_86 (0 : Int32) (by decide) ?_
  exact g_pick (w_f_X6_pipe_87 hM hf hr) [0, 1, 2] rfl

set_option maxRecDepth 100000 in
theorem w_f_X6_pipe_21 {X : Ctx} (hM : MX X yX6_pipe cX6_pipe 4 "SlimeNet$PlateReader" none rm_X6_pipe []) {this : Nat} {t0 : Int32} {t1 : Option Nat} {A : AH} {out : (AH) ⊕ (Nat × AH)} (hf : f_X6_pipe_21 this t0 t1 A = some out) (hr : c_res X = r_X6_pipe A out) : G X 0 0 21 [(0, vr (some this))] [vi t0, vr t1] A := by
  have hX := hM.1
  unfold f_X6_pipe_21 at hf
  refine g_iconst hX dX6_pipe_21 (4 : Int32) (by decide) ?_
  obtain ⟨k22, hk22, hf⟩ := ob_some hf
  obtain ⟨q22, hc22, hf⟩ := ob_some hf
  rcases q22 with A22 | ⟨kx, Ax⟩
  rotate_left
  · refine h_callU hM [vi t0, vi (4 : Int32)] dX6_pipe_22 cs_SlimeNet_PlateReader_45_6 hk22 (m_X5_ask hc22) rfl rfl rfl rfl ?_
    dsimp only at hf
    cases hf
    exact h_out hM (by decide) hr rfl
  refine h_callU hM [vi t0, vi (4 : Int32)] dX6_pipe_22 cs_SlimeNet_PlateReader_45_6 hk22 (m_X5_ask hc22) rfl rfl rfl rfl ?_
  dsimp only at hf
  refine g_aload_n hX dX6_pipe_25 (lg_at 0 rfl) ?_
  obtain ⟨k26, hk26, hf⟩ := ob_some hf
  obtain ⟨A26, hc26, hf⟩ := ob_some hf
  refine h_callU hM [] dX6_pipe_26 cs_SlimeNet_PlateReader_49_6 hk26 (m_X5_goOn hc26) rfl rfl rfl rfl ?_
  refine g_aload_n hX dX6_pipe_29 (lg_at 0 rfl) ?_
  obtain ⟨k30, hk30, hf⟩ := ob_some hf
  obtain ⟨q30, hc30, hf⟩ := ob_some hf
  rcases q30 with ⟨v30, A30⟩ | ⟨kx, Ax⟩
  rotate_left
  · refine h_callV hM [] dX6_pipe_30 cs_SlimeNet_PlateReader_62_6 hk30 (m_X6_spotHere hc30) rfl rfl rfl rfl ?_
    dsimp only at hf
    cases hf
    exact h_out hM (by decide) hr rfl
  refine h_callV hM [] dX6_pipe_30 cs_SlimeNet_PlateReader_62_6 hk30 (m_X6_spotHere hc30) rfl rfl rfl rfl ?_
  dsimp only at hf
  refine g_istore_n hX dX6_pipe_33 [(1, vi v30), (0, vr (some this))] (by decide) rfl ?_
  refine g_aload_n hX dX6_pipe_34 (lg_at 1 rfl) ?_
  obtain ⟨k35, hk35, hf⟩ := ob_some hf
  obtain ⟨A35, hc35, hf⟩ := ob_some hf
  refine h_callU hM [] dX6_pipe_35 cs_SlimeNet_PlateReader_49_6 hk35 (m_X5_goOn hc35) rfl rfl rfl rfl ?_
  refine g_aload_n hX dX6_pipe_38 (lg_at 1 rfl) ?_
  refine g_aload_n hX dX6_pipe_39 (lg_at 1 rfl) ?_
  obtain ⟨k40, hk40, hf⟩ := ob_some hf
  obtain ⟨v40, hc40, hf⟩ := ob_some hf
  refine h_callU hM [] dX6_pipe_40 cs_SlimeNet_PlateReader_108_6 hk40 (m_X5_isWord hc40) rfl rfl rfl rfl ?_
  refine g_iconst hX dX6_pipe_43 (1 : Int32) (by decide) ?_
  obtain ⟨k44, hk44, hf⟩ := ob_some hf
  obtain ⟨q44, hc44, hf⟩ := ob_some hf
  rcases q44 with A44 | ⟨kx, Ax⟩
  rotate_left
  · refine h_callU hM [vi v40, vi (1 : Int32)] dX6_pipe_44 cs_SlimeNet_PlateReader_45_6 hk44 (m_X5_ask hc44) rfl rfl rfl rfl ?_
    dsimp only at hf
    cases hf
    exact h_out hM (by decide) hr rfl
  refine h_callU hM [vi v40, vi (1 : Int32)] dX6_pipe_44 cs_SlimeNet_PlateReader_45_6 hk44 (m_X5_ask hc44) rfl rfl rfl rfl ?_
  dsimp only at hf
  refine g_aload_n hX dX6_pipe_47 (lg_at 1 rfl) ?_
  refine g_getR hX hf fs_SlimeNet_PlateReader_20_6 rfl dX6_pipe_48 (fun v48 hf => ?_)
  refine g_aload_n hX dX6_pipe_51 (lg_at 1 rfl) ?_
  obtain ⟨k52, hk52, hf⟩ := ob_some hf
  obtain ⟨v52, hc52, hf⟩ := ob_some hf
  refine h_callU hM [] dX6_pipe_52 cs_SlimeNet_PlateReader_111_6 hk52 (m_X5_name hc52) rfl rfl rfl rfl ?_
  obtain ⟨k55, hk55, hf⟩ := ob_some hf
  obtain ⟨v55, hc55, hf⟩ := ob_some hf
  refine h_callV hM [vl v52] dX6_pipe_55 cs_SlimeNet_PlateReader_115_3 hk55 (m_X2_find hc55) rfl rfl rfl rfl ?_
  refine g_istore_n hX dX6_pipe_58 [(2, vi v55), (1, vi v30), (0, vr (some this))] (by decide) rfl ?_
  refine g_aload_n hX dX6_pipe_59 (lg_at 2 rfl) ?_
  refine g_iload_n hX dX6_pipe_60 (lg_at 0 rfl) ?_
  refine g_iconst hX dX6_pipe_61 (-1 : Int32) (by decide) ?_
  refine g_icmp_eq hX dX6_pipe_62 82 hf (by decide) (fun c62 hf => ?_) (fun c62 hf => ?_)
  · exact g_pick (w_f_X6_pipe_82 hM hf hr) [2, 1, 0] rfl
  · refine g_iload_n hX dX6_pipe_65 (lg_at 0 rfl) ?_
    refine g_iload_n hX dX6_pipe_66 (lg_at 1 rfl) ?_
    refine g_icmp_eq hX dX6_pipe_67 86 hf (by decide) (fun c67 hf => ?_) (fun c67 hf => ?_)
    · exact g_pick (w_f_X6_pipe_86 hM hf hr) [2, 1, 0] rfl
    · refine g_aload_n hX dX6_pipe_70 (lg_at 2 rfl) ?_
      refine g_getR hX hf fs_SlimeNet_PlateReader_20_6 rfl dX6_pipe_71 (fun v71 hf => ?_)
      refine g_iload_n hX dX6_pipe_74 (lg_at 1 rfl) ?_
      refine g_iload_n hX dX6_pipe_75 (lg_at 0 rfl) ?_
      obtain ⟨k76, hk76, hf⟩ := ob_some hf
      obtain ⟨v76, hc76, hf⟩ := ob_some hf
      refine h_callV hM [vi v30, vi v55] dX6_pipe_76 cs_SlimeNet_PlateReader_132_3 hk76 (m_X2_between hc76) rfl rfl rfl rfl ?_
      refine g_ifnonnull hX dX6_pipe_79 86 hf (by decide) (fun c79 hf => ?_) (fun c79 hf => ?_)
      · exact g_pick (w_f_X6_pipe_82 hM hf hr) [2, 1, 0] rfl
      · exact g_pick (w_f_X6_pipe_86 hM hf hr) [2, 1, 0] rfl

set_option maxRecDepth 100000 in
theorem w_f_X6_pipe {X : Ctx} (hM : MX X yX6_pipe cX6_pipe 4 "SlimeNet$PlateReader" none rm_X6_pipe []) {this : Nat} {A : AH} {out : (AH) ⊕ (Nat × AH)} (hf : f_X6_pipe this A = some out) (hr : c_res X = r_X6_pipe A out) : G X 0 0 0 [(0, vr (some this))] [] A := by
  have hX := hM.1
  unfold f_X6_pipe at hf
  refine g_aload_n hX dX6_pipe_0 (lg_at 0 rfl) ?_
  refine g_aload_n hX dX6_pipe_1 (lg_at 0 rfl) ?_
  refine g_getR hX hf fs_SlimeNet_PlateReader_20_6 rfl dX6_pipe_2 (fun v2 hf => ?_)
  refine g_getR hX hf fs_SlimeNet_PlateReader_123_3 rfl dX6_pipe_5 (fun v5 hf => ?_)
  obtain ⟨k8, hk8, hf⟩ := ob_some hf
  obtain ⟨v8, hc8, hf⟩ := ob_some hf
  refine h_callV hM [] dX6_pipe_8 cs_SlimeNet_PlateReader_127_8 hk8 (m_J4_size hc8) rfl rfl rfl rfl ?_
  refine g_bipush hX dX6_pipe_11 (10 : Int32) (by decide) ?_
  refine g_icmp_ge hX dX6_pipe_13 20 hf (by decide) (fun c13 hf => ?_) (fun c13 hf => ?_)
  · refine g_iconst hX dX6_pipe_20 (0 : Int32) (by decide) ?_
    exact g_pick (w_f_X6_pipe_21 hM hf hr) [0] rfl
  · refine g_iconst hX dX6_pipe_16 (1 : Int32) (by decide) ?_
    refine g_goto hX dX6_pipe_17 21 (by decide) ?_
    exact g_pick (w_f_X6_pipe_21 hM hf hr) [0] rfl

theorem m_X6_pipe {l : Launch} {this : Nat} {A : AH} {out : (AH) ⊕ (Nat × AH)} (h : f_X6_pipe this A = some out) : MetF l yX6_pipe (Cond.code yX6_pipe cX6_pipe 4 none) rm_X6_pipe [vr (some this)] A (r_X6_pipe A out) :=
  metF_of rfl rfl (Nat.le_of_ble_eq_true rfl) fun X hX hl hR hnm hr h1 h2 hno => w_f_X6_pipe (X := X) ⟨hX, hR, h1, h2, fun _ => ⟨hnm, hno⟩⟩ h hr

/-! SlimeNet$Plate.isFlake(I)Z -/
def rm_X2_isFlake : Room := { frames := 1, cells := 0, slots := 0, locals := 24 }
def r_X2_isFlake (A : AH) (o : Int32) : (Option AV × AH) ⊕ (Nat × AH) := .inl (some (vi o), A)
def k_X2_isFlake_2 (X : Ctx) (this : Nat) (x1 : Int32) (A : AH) : ((Int32) ⊕ ((Unit) ⊕ (Unit))) → Prop
  | .inl x2 => G X 0 0 2 [(0, vr (some this)), (1, vi x1), (2, vi x2)] [] A
  | .inr (.inl ()) => G X 0 0 20 [] [] A
  | .inr (.inr ()) => G X 0 0 28 [] [] A

set_option maxRecDepth 100000 in
theorem w_s_X2_isFlake_2 {X : Ctx} (hM : MX X yX2_isFlake cX2_isFlake 3 "SlimeNet$Plate" (some Jvm.ClassFile.FieldType.boolean) rm_X2_isFlake []) {this : Nat} {x1 : Int32} {A : AH} {st : Int32} {out : (Int32) ⊕ ((Unit) ⊕ (Unit))} (hf : s_X2_isFlake_2 this x1 A st = some out) (K : k_X2_isFlake_2 X this x1 A out) : k_X2_isFlake_2 X this x1 A (.inl st) := by
  have hX := hM.1
  revert hf; generalize st = x2; intro hf
  unfold s_X2_isFlake_2 at hf
  dsimp only at hf
  show G X 0 0 2 [(0, vr (some this)), (1, vi x1), (2, vi x2)] [] A
  refine g_iload_n hX dX2_isFlake_2 (lg_at 2 rfl) ?_
  refine g_aload_n hX dX2_isFlake_3 (lg_at 0 rfl) ?_
  refine g_getI hX hf fs_SlimeNet_Plate_45_3 rfl dX2_isFlake_4 (fun v4 hf => ?_)
  refine g_icmp_ge hX dX2_isFlake_7 28 hf (by decide) (fun c7 hf => ?_) (fun c7 hf => ?_)
  · cases hf
    exact g_pick (show G X _ _ _ _ _ _ from K) [] rfl
  · refine g_aload_n hX dX2_isFlake_10 (lg_at 0 rfl) ?_
    refine g_getR hX hf fs_SlimeNet_Plate_22_3 rfl dX2_isFlake_11 (fun v11 hf => ?_)
    refine g_iload_n hX dX2_isFlake_14 (lg_at 2 rfl) ?_
    refine g_iald hX hf dX2_isFlake_15 (fun v15 hf => ?_)
    refine g_iload_n hX dX2_isFlake_16 (lg_at 1 rfl) ?_
    refine g_icmp_ne hX dX2_isFlake_17 22 hf (by decide) (fun c17 hf => ?_) (fun c17 hf => ?_)
    · refine g_iinc hX dX2_isFlake_22 (1 : Int32) (x2 + (1 : Int32)) [(2, vi (x2 + (1 : Int32))), (0, vr (some this)), (1, vi x1)] (by decide) rfl (lg_at 2 rfl) (by decide) rfl ?_
      refine g_goto hX dX2_isFlake_25 2 (by decide) ?_
      cases hf
      exact g_pick (show G X _ _ _ _ _ _ from K) [1, 2, 0] rfl
    · cases hf
      exact g_pick (show G X _ _ _ _ _ _ from K) [] rfl

set_option maxRecDepth 100000 in
theorem w_l_X2_isFlake_2 {X : Ctx} (hM : MX X yX2_isFlake cX2_isFlake 3 "SlimeNet$Plate" (some Jvm.ClassFile.FieldType.boolean) rm_X2_isFlake []) {this : Nat} {x1 : Int32} {x2 : Int32} {A : AH} {out : Int32} (hf : l_X2_isFlake_2 this x1 x2 A = some out) (hr : c_res X = r_X2_isFlake A out) : G X 0 0 2 [(0, vr (some this)), (1, vi x1), (2, vi x2)] [] A := by
  have hX := hM.1
  unfold l_X2_isFlake_2 at hf
  obtain ⟨e, hw, hf⟩ := ob_some hf
  refine (whl_ind (k_X2_isFlake_2 X this x1 A) (fun st o hs K => w_s_X2_isFlake_2 hM hs K) hw ?_ : k_X2_isFlake_2 X this x1 A (.inl x2))
  rcases e with ⟨⟩ | ⟨⟩
  · dsimp only at hf
    show G X 0 0 20 [] [] A
    refine g_iconst hX dX2_isFlake_20 (1 : Int32) (by decide) ?_
    cases hf
    exact h_zret hM dX2_isFlake_21 hr rfl (by decide) rfl
  · dsimp only at hf
    show G X 0 0 28 [] [] A
    refine g_iconst hX dX2_isFlake_28 (0 : Int32) (by decide) ?_
    cases hf
    exact h_zret hM dX2_isFlake_29 hr rfl (by decide) rfl

set_option maxRecDepth 100000 in
theorem w_f_X2_isFlake {X : Ctx} (hM : MX X yX2_isFlake cX2_isFlake 3 "SlimeNet$Plate" (some Jvm.ClassFile.FieldType.boolean) rm_X2_isFlake []) {this : Nat} {x1 : Int32} {A : AH} {out : Int32} (hf : f_X2_isFlake this x1 A = some out) (hr : c_res X = r_X2_isFlake A out) : G X 0 0 0 [(0, vr (some this)), (1, vi x1)] [] A := by
  have hX := hM.1
  unfold f_X2_isFlake at hf
  refine g_iconst hX dX2_isFlake_0 (0 : Int32) (by decide) ?_
  refine g_istore_n hX dX2_isFlake_1 [(2, vi (0 : Int32)), (0, vr (some this)), (1, vi x1)] (by decide) rfl ?_
  exact g_pick (w_l_X2_isFlake_2 hM hf hr) [1, 2, 0] rfl

theorem m_X2_isFlake {l : Launch} {this : Nat} {x1 : Int32} {A : AH} {out : Int32} (h : f_X2_isFlake this x1 A = some out) : MetF l yX2_isFlake (Cond.code yX2_isFlake cX2_isFlake 3 (some Jvm.ClassFile.FieldType.boolean)) rm_X2_isFlake [vr (some this), vi x1] A (r_X2_isFlake A out) :=
  metF_of rfl rfl (Nat.le_of_ble_eq_true rfl) fun X hX hl hR hnm hr h1 h2 hno => w_f_X2_isFlake (X := X) ⟨hX, hR, h1, h2, fun _ => ⟨hnm, hno⟩⟩ h hr

/-! SlimeNet$PlateReader.salt()V -/
def rm_X6_salt : Room := { frames := 5, cells := 0, slots := 0, locals := 112 }
def r_X6_salt (_A : AH) : (AH) ⊕ (Nat × AH) → (Option AV × AH) ⊕ (Nat × AH)
  | .inl o => .inl (none, o)
  | .inr x => .inr x
set_option maxRecDepth 100000 in
theorem w_f_X6_salt_80 {X : Ctx} (hM : MX X yX6_salt cX6_salt 4 "SlimeNet$PlateReader" none rm_X6_salt []) {this : Nat} {x3 : Option Nat} {t0 : Int32} {t1 : Option Nat} {A : AH} {out : (AH) ⊕ (Nat × AH)} (hf : f_X6_salt_80 this x3 t0 t1 A = some out) (hr : c_res X = r_X6_salt A out) : G X 0 0 80 [(0, vr (some this)), (3, vr x3)] [vi t0, vr t1] A := by
  have hX := hM.1
  unfold f_X6_salt_80 at hf
  refine g_iconst hX dX6_salt_80 (5 : Int32) (by decide) ?_
  obtain ⟨k81, hk81, hf⟩ := ob_some hf
  obtain ⟨q81, hc81, hf⟩ := ob_some hf
  rcases q81 with A81 | ⟨kx, Ax⟩
  rotate_left
  · refine h_callU hM [vi t0, vi (5 : Int32)] dX6_salt_81 cs_SlimeNet_PlateReader_45_6 hk81 (m_X5_ask hc81) rfl rfl rfl rfl ?_
    dsimp only at hf
    cases hf
    exact h_out hM (by decide) hr rfl
  refine h_callU hM [vi t0, vi (5 : Int32)] dX6_salt_81 cs_SlimeNet_PlateReader_45_6 hk81 (m_X5_ask hc81) rfl rfl rfl rfl ?_
  dsimp only at hf
  refine g_aload_n hX dX6_salt_84 (lg_at 1 rfl) ?_
  refine g_iconst hX dX6_salt_85 (1 : Int32) (by decide) ?_
  refine g_putZ hX hf fs_SlimeNet_PlateReader_148_7 ⟨_, rfl, Or.inl rfl⟩ rfl dX6_salt_86 (fun A86 hf => ?_)
  refine g_aload_n hX dX6_salt_89 (lg_at 0 rfl) ?_
  obtain ⟨k90, hk90, hf⟩ := ob_some hf
  obtain ⟨A90, hc90, hf⟩ := ob_some hf
  refine h_callU hM [] dX6_salt_90 cs_SlimeNet_PlateReader_49_6 hk90 (m_X5_goOn hc90) rfl rfl rfl rfl ?_
  cases hf
  exact h_vret hM dX6_salt_93 hr rfl rfl

set_option maxRecDepth 100000 in
theorem w_f_X6_salt_66 {X : Ctx} (hM : MX X yX6_salt cX6_salt 4 "SlimeNet$PlateReader" none rm_X6_salt []) {this : Nat} {x3 : Option Nat} {t0 : Int32} {t1 : Option Nat} {A : AH} {out : (AH) ⊕ (Nat × AH)} (hf : f_X6_salt_66 this x3 t0 t1 A = some out) (hr : c_res X = r_X6_salt A out) : G X 0 0 66 [(0, vr (some this)), (3, vr x3)] [vi t0, vr t1] A := by
  have hX := hM.1
  unfold f_X6_salt_66 at hf
  refine g_iconst hX dX6_salt_66 (3 : Int32) (by decide) ?_
  obtain ⟨k67, hk67, hf⟩ := ob_some hf
  obtain ⟨q67, hc67, hf⟩ := ob_some hf
  rcases q67 with A67 | ⟨kx, Ax⟩
  rotate_left
  · refine h_callU hM [vi t0, vi (3 : Int32)] dX6_salt_67 cs_SlimeNet_PlateReader_45_6 hk67 (m_X5_ask hc67) rfl rfl rfl rfl ?_
    dsimp only at hf
    cases hf
    exact h_out hM (by decide) hr rfl
  refine h_callU hM [vi t0, vi (3 : Int32)] dX6_salt_67 cs_SlimeNet_PlateReader_45_6 hk67 (m_X5_ask hc67) rfl rfl rfl rfl ?_
  dsimp only at hf
  refine g_aload_n hX dX6_salt_70 (lg_at 0 rfl) ?_
  refine g_aload_n hX dX6_salt_71 (lg_at 1 rfl) ?_
  refine g_ifnull hX dX6_salt_72 79 hf (by decide) (fun c72 hf => ?_) (fun c72 hf => ?_)
  · refine g_iconst hX dX6_salt_79 (0 : Int32) (by decide) ?_
    exact g_pick (w_f_X6_salt_80 hM hf hr) [0, 1] rfl
  · refine g_iconst hX dX6_salt_75 (1 : Int32) (by decide) ?_
    refine g_goto hX dX6_salt_76 80 (by decide) ?_
    exact g_pick (w_f_X6_salt_80 hM hf hr) [0, 1] rfl

set_option maxRecDepth 100000 in
theorem w_f_X6_salt_61 {X : Ctx} (hM : MX X yX6_salt cX6_salt 4 "SlimeNet$PlateReader" none rm_X6_salt []) {this : Nat} {x3 : Option Nat} {t0 : Option Nat} {A : AH} {out : (AH) ⊕ (Nat × AH)} (hf : f_X6_salt_61 this x3 t0 A = some out) (hr : c_res X = r_X6_salt A out) : G X 0 0 61 [(0, vr (some this)), (3, vr x3)] [vr t0] A := by
  have hX := hM.1
  unfold f_X6_salt_61 at hf
  refine g_iconst hX dX6_salt_61 (1 : Int32) (by decide) ?_
  refine g_goto hX dX6_salt_62 66 (by decide) ?_
  exact g_pick (w_f_X6_salt_66 hM hf hr) [0, 1] rfl

set_option maxRecDepth 100000 in
theorem w_f_X6_salt_48 {X : Ctx} (hM : MX X yX6_salt cX6_salt 4 "SlimeNet$PlateReader" none rm_X6_salt []) {this : Nat} {t0 : Option Nat} {A : AH} {out : (AH) ⊕ (Nat × AH)} (hf : f_X6_salt_48 this t0 A = some out) (hr : c_res X = r_X6_salt A out) : G X 0 0 48 [(0, vr (some this))] [vr t0] A := by
  have hX := hM.1
  unfold f_X6_salt_48 at hf
  refine g_astore_n hX dX6_salt_48 [(3, vr t0), (0, vr (some this))] (by decide) rfl ?_
  refine g_aload_n hX dX6_salt_49 (lg_at 1 rfl) ?_
  refine g_aload_n hX dX6_salt_50 (lg_at 0 rfl) ?_
  refine g_ifnull hX dX6_salt_51 61 hf (by decide) (fun c51 hf => ?_) (fun c51 hf => ?_)
  · exact g_pick (w_f_X6_salt_61 hM hf hr) [1, 0] rfl
  · refine g_aload_n hX dX6_salt_54 (lg_at 0 rfl) ?_
    refine g_getI hX hf fs_SlimeNet_PlateReader_148_7 rfl dX6_salt_55 (fun v55 hf => ?_)
    refine g_if_ne hX dX6_salt_58 65 hf (by decide) (fun c58 hf => ?_) (fun c58 hf => ?_)
    · refine g_iconst hX dX6_salt_65 (0 : Int32) (by decide) ?_
      exact g_pick (w_f_X6_salt_66 hM hf hr) [1, 0] rfl
    · exact g_pick (w_f_X6_salt_61 hM hf hr) [1, 0] rfl

set_option maxRecDepth 100000 in
theorem w_f_X6_salt {X : Ctx} (hM : MX X yX6_salt cX6_salt 4 "SlimeNet$PlateReader" none rm_X6_salt []) {this : Nat} {A : AH} {out : (AH) ⊕ (Nat × AH)} (hf : f_X6_salt this A = some out) (hr : c_res X = r_X6_salt A out) : G X 0 0 0 [(0, vr (some this))] [] A := by
  have hX := hM.1
  unfold f_X6_salt at hf
  refine g_aload_n hX dX6_salt_0 (lg_at 0 rfl) ?_
  obtain ⟨k1, hk1, hf⟩ := ob_some hf
  obtain ⟨q1, hc1, hf⟩ := ob_some hf
  rcases q1 with ⟨v1, A1⟩ | ⟨kx, Ax⟩
  rotate_left
  · refine h_callV hM [] dX6_salt_1 cs_SlimeNet_PlateReader_62_6 hk1 (m_X6_spotHere hc1) rfl rfl rfl rfl ?_
    dsimp only at hf
    cases hf
    exact h_out hM (by decide) hr rfl
  refine h_callV hM [] dX6_salt_1 cs_SlimeNet_PlateReader_62_6 hk1 (m_X6_spotHere hc1) rfl rfl rfl rfl ?_
  dsimp only at hf
  refine g_istore_n hX dX6_salt_4 [(1, vi v1), (0, vr (some this))] (by decide) rfl ?_
  refine g_aload_n hX dX6_salt_5 (lg_at 1 rfl) ?_
  obtain ⟨k6, hk6, hf⟩ := ob_some hf
  obtain ⟨A6, hc6, hf⟩ := ob_some hf
  refine h_callU hM [] dX6_salt_6 cs_SlimeNet_PlateReader_49_6 hk6 (m_X5_goOn hc6) rfl rfl rfl rfl ?_
  refine g_aload_n hX dX6_salt_9 (lg_at 1 rfl) ?_
  refine g_aload_n hX dX6_salt_10 (lg_at 1 rfl) ?_
  obtain ⟨k11, hk11, hf⟩ := ob_some hf
  obtain ⟨v11, hc11, hf⟩ := ob_some hf
  refine h_callU hM [] dX6_salt_11 cs_SlimeNet_PlateReader_108_6 hk11 (m_X5_isWord hc11) rfl rfl rfl rfl ?_
  refine g_iconst hX dX6_salt_14 (1 : Int32) (by decide) ?_
  obtain ⟨k15, hk15, hf⟩ := ob_some hf
  obtain ⟨q15, hc15, hf⟩ := ob_some hf
  rcases q15 with A15 | ⟨kx, Ax⟩
  rotate_left
  · refine h_callU hM [vi v11, vi (1 : Int32)] dX6_salt_15 cs_SlimeNet_PlateReader_45_6 hk15 (m_X5_ask hc15) rfl rfl rfl rfl ?_
    dsimp only at hf
    cases hf
    exact h_out hM (by decide) hr rfl
  refine h_callU hM [vi v11, vi (1 : Int32)] dX6_salt_15 cs_SlimeNet_PlateReader_45_6 hk15 (m_X5_ask hc15) rfl rfl rfl rfl ?_
  dsimp only at hf
  refine g_aload_n hX dX6_salt_18 (lg_at 1 rfl) ?_
  refine g_getR hX hf fs_SlimeNet_PlateReader_20_6 rfl dX6_salt_19 (fun v19 hf => ?_)
  refine g_aload_n hX dX6_salt_22 (lg_at 1 rfl) ?_
  obtain ⟨k23, hk23, hf⟩ := ob_some hf
  obtain ⟨v23, hc23, hf⟩ := ob_some hf
  refine h_callU hM [] dX6_salt_23 cs_SlimeNet_PlateReader_111_6 hk23 (m_X5_name hc23) rfl rfl rfl rfl ?_
  obtain ⟨k26, hk26, hf⟩ := ob_some hf
  obtain ⟨v26, hc26, hf⟩ := ob_some hf
  refine h_callV hM [vl v23] dX6_salt_26 cs_SlimeNet_PlateReader_115_3 hk26 (m_X2_find hc26) rfl rfl rfl rfl ?_
  refine g_istore_n hX dX6_salt_29 [(2, vi v26), (1, vi v1), (0, vr (some this))] (by decide) rfl ?_
  refine g_iload_n hX dX6_salt_30 (lg_at 0 rfl) ?_
  refine g_iconst hX dX6_salt_31 (-1 : Int32) (by decide) ?_
  refine g_icmp_ne hX dX6_salt_32 39 hf (by decide) (fun c32 hf => ?_) (fun c32 hf => ?_)
  · refine g_aload_n hX dX6_salt_39 (lg_at 2 rfl) ?_
    refine g_getR hX hf fs_SlimeNet_PlateReader_20_6 rfl dX6_salt_40 (fun v40 hf => ?_)
    refine g_iload_n hX dX6_salt_43 (lg_at 1 rfl) ?_
    refine g_iload_n hX dX6_salt_44 (lg_at 0 rfl) ?_
    obtain ⟨k45, hk45, hf⟩ := ob_some hf
    obtain ⟨v45, hc45, hf⟩ := ob_some hf
    refine h_callV hM [vi v1, vi v26] dX6_salt_45 cs_SlimeNet_PlateReader_132_3 hk45 (m_X2_between hc45) rfl rfl rfl rfl ?_
    exact g_pick (w_f_X6_salt_48 hM hf hr) [2] rfl
  · refine g_null hX dX6_salt_35 ?_
    refine g_goto hX dX6_salt_36 48 (by decide) ?_
    exact g_pick (w_f_X6_salt_48 hM hf hr) [2] rfl

theorem m_X6_salt {l : Launch} {this : Nat} {A : AH} {out : (AH) ⊕ (Nat × AH)} (h : f_X6_salt this A = some out) : MetF l yX6_salt (Cond.code yX6_salt cX6_salt 4 none) rm_X6_salt [vr (some this)] A (r_X6_salt A out) :=
  metF_of rfl rfl (Nat.le_of_ble_eq_true rfl) fun X hX hl hR hnm hr h1 h2 hno => w_f_X6_salt (X := X) ⟨hX, hR, h1, h2, fun _ => ⟨hnm, hno⟩⟩ h hr

/-! SlimeNet$PlateReader.begins(Ljava/lang/String;I)Z -/
def rm_X6_begins : Room := { frames := 6, cells := 0, slots := 0, locals := 131 }
def r_X6_begins (_A : AH) : (Int32 × AH) ⊕ (Nat × AH) → (Option AV × AH) ⊕ (Nat × AH)
  | .inl o => .inl (some (vi o.1), o.2)
  | .inr x => .inr x
set_option maxRecDepth 100000 in
theorem w_f_X6_begins_27 {X : Ctx} (hM : MX X yX6_begins cX6_begins 3 "SlimeNet$PlateReader" (some Jvm.ClassFile.FieldType.boolean) rm_X6_begins []) {this : Nat} {x2 : Int32} {t0 : Int32} {t1 : Option Nat} {A : AH} {out : (Int32 × AH) ⊕ (Nat × AH)} (hf : f_X6_begins_27 this x2 t0 t1 A = some out) (hr : c_res X = r_X6_begins A out) : G X 0 0 27 [(0, vr (some this)), (2, vi x2)] [vi t0, vr t1] A := by
  have hX := hM.1
  unfold f_X6_begins_27 at hf
  refine g_iconst hX dX6_begins_27 (3 : Int32) (by decide) ?_
  obtain ⟨k28, hk28, hf⟩ := ob_some hf
  obtain ⟨q28, hc28, hf⟩ := ob_some hf
  rcases q28 with A28 | ⟨kx, Ax⟩
  rotate_left
  · refine h_callU hM [vi t0, vi (3 : Int32)] dX6_begins_28 cs_SlimeNet_PlateReader_45_6 hk28 (m_X5_ask hc28) rfl rfl rfl rfl ?_
    dsimp only at hf
    cases hf
    exact h_out hM (by decide) hr rfl
  refine h_callU hM [vi t0, vi (3 : Int32)] dX6_begins_28 cs_SlimeNet_PlateReader_45_6 hk28 (m_X5_ask hc28) rfl rfl rfl rfl ?_
  dsimp only at hf
  refine g_aload_n hX dX6_begins_31 (lg_at 0 rfl) ?_
  refine g_dup hX dX6_begins_32 rfl ?_
  refine g_getI hX hf fs_SlimeNet_PlateReader_42_6 rfl dX6_begins_33 (fun v33 hf => ?_)
  refine g_iconst hX dX6_begins_36 (1 : Int32) (by decide) ?_
  refine g_iload_n hX dX6_begins_37 (lg_at 1 rfl) ?_
  refine g_ishl hX dX6_begins_38 ?_
  refine g_ior hX dX6_begins_39 ?_
  refine g_putI hX hf fs_SlimeNet_PlateReader_42_6 ⟨_, rfl, Or.inl rfl⟩ rfl dX6_begins_40 (fun A40 hf => ?_)
  refine g_aload_n hX dX6_begins_43 (lg_at 0 rfl) ?_
  obtain ⟨k44, hk44, hf⟩ := ob_some hf
  obtain ⟨A44, hc44, hf⟩ := ob_some hf
  refine h_callU hM [] dX6_begins_44 cs_SlimeNet_PlateReader_49_6 hk44 (m_X5_goOn hc44) rfl rfl rfl rfl ?_
  refine g_iconst hX dX6_begins_47 (1 : Int32) (by decide) ?_
  cases hf
  exact h_zret hM dX6_begins_48 hr rfl (by decide) rfl

set_option maxRecDepth 100000 in
theorem w_f_X6_begins {X : Ctx} (hM : MX X yX6_begins cX6_begins 3 "SlimeNet$PlateReader" (some Jvm.ClassFile.FieldType.boolean) rm_X6_begins []) {this : Nat} {x1 : Option Nat} {x2 : Int32} {A : AH} {out : (Int32 × AH) ⊕ (Nat × AH)} (hf : f_X6_begins this x1 x2 A = some out) (hr : c_res X = r_X6_begins A out) : G X 0 0 0 [(0, vr (some this)), (1, vr x1), (2, vi x2)] [] A := by
  have hX := hM.1
  unfold f_X6_begins at hf
  refine g_aload_n hX dX6_begins_0 (lg_at 0 rfl) ?_
  refine g_aload_n hX dX6_begins_1 (lg_at 1 rfl) ?_
  obtain ⟨k2, hk2, hf⟩ := ob_some hf
  obtain ⟨v2, hc2, hf⟩ := ob_some hf
  refine h_callU hM [vr x1] dX6_begins_2 cs_SlimeNet_PlateReader_38_6 hk2 (m_X5_is hc2) rfl rfl rfl rfl ?_
  refine g_if_ne hX dX6_begins_5 10 hf (by decide) (fun c5 hf => ?_) (fun c5 hf => ?_)
  · refine g_aload_n hX dX6_begins_10 (lg_at 0 rfl) ?_
    refine g_aload_n hX dX6_begins_11 (lg_at 0 rfl) ?_
    refine g_getI hX hf fs_SlimeNet_PlateReader_42_6 rfl dX6_begins_12 (fun v12 hf => ?_)
    refine g_iload_n hX dX6_begins_15 (lg_at 2 rfl) ?_
    refine g_ishr hX dX6_begins_16 ?_
    refine g_iconst hX dX6_begins_17 (1 : Int32) (by decide) ?_
    refine g_iand hX dX6_begins_18 ?_
    refine g_if_ne hX dX6_begins_19 26 hf (by decide) (fun c19 hf => ?_) (fun c19 hf => ?_)
    · refine g_iconst hX dX6_begins_26 (0 : Int32) (by decide) ?_
      exact g_pick (w_f_X6_begins_27 hM hf hr) [0, 2] rfl
    · refine g_iconst hX dX6_begins_22 (1 : Int32) (by decide) ?_
      refine g_goto hX dX6_begins_23 27 (by decide) ?_
      exact g_pick (w_f_X6_begins_27 hM hf hr) [0, 2] rfl
  · refine g_iconst hX dX6_begins_8 (0 : Int32) (by decide) ?_
    cases hf
    exact h_zret hM dX6_begins_9 hr rfl (by decide) rfl

theorem m_X6_begins {l : Launch} {this : Nat} {x1 : Option Nat} {x2 : Int32} {A : AH} {out : (Int32 × AH) ⊕ (Nat × AH)} (h : f_X6_begins this x1 x2 A = some out) : MetF l yX6_begins (Cond.code yX6_begins cX6_begins 3 (some Jvm.ClassFile.FieldType.boolean)) rm_X6_begins [vr (some this), vr x1, vi x2] A (r_X6_begins A out) :=
  metF_of rfl rfl (Nat.le_of_ble_eq_true rfl) fun X hX hl hR hnm hr h1 h2 hno => w_f_X6_begins (X := X) ⟨hX, hR, h1, h2, fun _ => ⟨hnm, hno⟩⟩ h hr

/-! SlimeNet$Reader.number(II)I -/
def rm_X5_number : Room := { frames := 4, cells := 0, slots := 0, locals := 90 }
def r_X5_number (_A : AH) : (Int32 × AH) ⊕ (Nat × AH) → (Option AV × AH) ⊕ (Nat × AH)
  | .inl o => .inl (some (vi o.1), o.2)
  | .inr x => .inr x
set_option maxRecDepth 100000 in
theorem w_f_X5_number {X : Ctx} (hM : MX X yX5_number cX5_number 4 "SlimeNet$Reader" (some Jvm.ClassFile.FieldType.int) rm_X5_number []) {this : Nat} {x1 : Int32} {x2 : Int32} {A : AH} {out : (Int32 × AH) ⊕ (Nat × AH)} (hf : f_X5_number this x1 x2 A = some out) (hr : c_res X = r_X5_number A out) : G X 0 0 0 [(0, vr (some this)), (1, vi x1), (2, vi x2)] [] A := by
  have hX := hM.1
  unfold f_X5_number at hf
  refine g_aload_n hX dX5_number_0 (lg_at 0 rfl) ?_
  refine g_iload_n hX dX5_number_1 (lg_at 1 rfl) ?_
  refine g_iload_n hX dX5_number_2 (lg_at 2 rfl) ?_
  obtain ⟨k3, hk3, hf⟩ := ob_some hf
  obtain ⟨q3, hc3, hf⟩ := ob_some hf
  rcases q3 with ⟨v3, A3⟩ | ⟨kx, Ax⟩
  rotate_left
  · refine h_callU hM [vi x1, vi x2] dX5_number_3 cs_SlimeNet_Reader_81_6 hk3 (m_X5_within hc3) rfl rfl rfl rfl ?_
    dsimp only at hf
    cases hf
    exact h_out hM (by decide) hr rfl
  refine h_callU hM [vi x1, vi x2] dX5_number_3 cs_SlimeNet_Reader_81_6 hk3 (m_X5_within hc3) rfl rfl rfl rfl ?_
  dsimp only at hf
  refine g_istore_n hX dX5_number_6 [(3, vi v3), (0, vr (some this)), (1, vi x1), (2, vi x2)] (by decide) rfl ?_
  refine g_aload_n hX dX5_number_7 (lg_at 1 rfl) ?_
  obtain ⟨k8, hk8, hf⟩ := ob_some hf
  obtain ⟨A8, hc8, hf⟩ := ob_some hf
  refine h_callU hM [] dX5_number_8 cs_SlimeNet_Reader_19_6 hk8 (m_X5_goOn hc8) rfl rfl rfl rfl ?_
  refine g_iload_n hX dX5_number_11 (lg_at 0 rfl) ?_
  cases hf
  exact h_iret hM dX5_number_12 hr rfl rfl

theorem m_X5_number {l : Launch} {this : Nat} {x1 : Int32} {x2 : Int32} {A : AH} {out : (Int32 × AH) ⊕ (Nat × AH)} (h : f_X5_number this x1 x2 A = some out) : MetF l yX5_number (Cond.code yX5_number cX5_number 4 (some Jvm.ClassFile.FieldType.int)) rm_X5_number [vr (some this), vi x1, vi x2] A (r_X5_number A out) :=
  metF_of rfl rfl (Nat.le_of_ble_eq_true rfl) fun X hX hl hR hnm hr h1 h2 hno => w_f_X5_number (X := X) ⟨hX, hR, h1, h2, fun _ => ⟨hnm, hno⟩⟩ h hr

/-! SlimeNet$PlateReader.clause()V -/
def rm_X6_clause : Room := { frames := 7, cells := 2, slots := 15, locals := 153 }
def r_X6_clause (_A : AH) : (AH) ⊕ (Nat × AH) → (Option AV × AH) ⊕ (Nat × AH)
  | .inl o => .inl (none, o)
  | .inr x => .inr x
set_option maxRecDepth 100000 in
theorem w_f_X6_clause_228 {X : Ctx} (hM : MX X yX6_clause cX6_clause 2 "SlimeNet$PlateReader" none rm_X6_clause []) {A : AH} {out : (AH) ⊕ (Nat × AH)} (hf : f_X6_clause_228 A = some out) (hr : c_res X = r_X6_clause A out) : G X 2 15 228 [] [] A := by
  have hX := hM.1
  unfold f_X6_clause_228 at hf
  cases hf
  exact h_vret hM dX6_clause_228 hr rfl rfl

set_option maxRecDepth 100000 in
theorem w_f_X6_clause_67 {X : Ctx} (hM : MX X yX6_clause cX6_clause 2 "SlimeNet$PlateReader" none rm_X6_clause []) {this : Nat} {x1 : Int32} {t0 : Int32} {t1 : Option Nat} {A : AH} {out : (AH) ⊕ (Nat × AH)} (hf : f_X6_clause_67 this x1 t0 t1 A = some out) (hr : c_res X = r_X6_clause A out) : G X 0 0 67 [(0, vr (some this)), (1, vi x1)] [vi t0, vr t1] A := by
  have hX := hM.1
  unfold f_X6_clause_67 at hf
  refine g_iconst hX dX6_clause_67 (3 : Int32) (by decide) ?_
  obtain ⟨k68, hk68, hf⟩ := ob_some hf
  obtain ⟨q68, hc68, hf⟩ := ob_some hf
  rcases q68 with A68 | ⟨kx, Ax⟩
  rotate_left
  · refine h_callU hM [vi t0, vi (3 : Int32)] dX6_clause_68 cs_SlimeNet_PlateReader_45_6 hk68 (m_X5_ask hc68) rfl rfl rfl rfl ?_
    dsimp only at hf
    cases hf
    exact h_out hM (by decide) hr rfl
  refine h_callU hM [vi t0, vi (3 : Int32)] dX6_clause_68 cs_SlimeNet_PlateReader_45_6 hk68 (m_X5_ask hc68) rfl rfl rfl rfl ?_
  dsimp only at hf
  refine g_aload_n hX dX6_clause_71 (lg_at 0 rfl) ?_
  refine g_getR hX hf fs_SlimeNet_PlateReader_20_6 rfl dX6_clause_72 (fun v72 hf => ?_)
  refine g_getR hX hf fs_SlimeNet_PlateReader_70_3 rfl dX6_clause_75 (fun v75 hf => ?_)
  refine g_aload_n hX dX6_clause_78 (lg_at 0 rfl) ?_
  refine g_getR hX hf fs_SlimeNet_PlateReader_20_6 rfl dX6_clause_79 (fun v79 hf => ?_)
  refine g_getI hX hf fs_SlimeNet_PlateReader_74_3 rfl dX6_clause_82 (fun v82 hf => ?_)
  refine g_iload_n hX dX6_clause_85 (lg_at 1 rfl) ?_
  refine g_iast hX hf dX6_clause_86 (fun A86 hf => ?_)
  refine g_aload_n hX dX6_clause_87 (lg_at 0 rfl) ?_
  refine g_getR hX hf fs_SlimeNet_PlateReader_20_6 rfl dX6_clause_88 (fun v88 hf => ?_)
  refine g_dup hX dX6_clause_91 rfl ?_
  refine g_getI hX hf fs_SlimeNet_PlateReader_74_3 rfl dX6_clause_92 (fun v92 hf => ?_)
  refine g_iconst hX dX6_clause_95 (1 : Int32) (by decide) ?_
  refine g_iadd hX dX6_clause_96 ?_
  refine g_putI hX hf fs_SlimeNet_PlateReader_74_3 ⟨_, rfl, Or.inl rfl⟩ rfl dX6_clause_97 (fun A97 hf => ?_)
  refine g_aload_n hX dX6_clause_100 (lg_at 0 rfl) ?_
  obtain ⟨k101, hk101, hf⟩ := ob_some hf
  obtain ⟨A101, hc101, hf⟩ := ob_some hf
  refine h_callU hM [] dX6_clause_101 cs_SlimeNet_PlateReader_49_6 hk101 (m_X5_goOn hc101) rfl rfl rfl rfl ?_
  refine g_goto hX dX6_clause_104 228 (by decide) ?_
  exact g_wide (g_pick (w_f_X6_clause_228 hM hf hr) [] rfl) (Nat.le_of_ble_eq_true rfl) (Nat.le_of_ble_eq_true rfl)

set_option maxRecDepth 100000 in
theorem w_f_X6_clause {X : Ctx} (hM : MX X yX6_clause cX6_clause 2 "SlimeNet$PlateReader" none rm_X6_clause []) {this : Nat} {A : AH} {out : (AH) ⊕ (Nat × AH)} (hf : f_X6_clause this A = some out) (hr : c_res X = r_X6_clause A out) : G X 0 0 0 [(0, vr (some this))] [] A := by
  have hX := hM.1
  unfold f_X6_clause at hf
  refine g_aload_n hX dX6_clause_0 (lg_at 0 rfl) ?_
  refine g_ldcS (i := 0) hX (by decide) dX6_clause_1 ?_
  obtain ⟨k3, hk3, hf⟩ := ob_some hf
  obtain ⟨v3, hc3, hf⟩ := ob_some hf
  refine h_callU hM [vr (some 2)] dX6_clause_3 cs_SlimeNet_PlateReader_38_6 hk3 (m_X5_is hc3) rfl rfl rfl rfl ?_
  refine g_if_eq hX dX6_clause_6 16 hf (by decide) (fun c6 hf => ?_) (fun c6 hf => ?_)
  · refine g_aload_n hX dX6_clause_16 (lg_at 0 rfl) ?_
    refine g_ldcS (i := 1) hX (by decide) dX6_clause_17 ?_
    obtain ⟨k19, hk19, hf⟩ := ob_some hf
    obtain ⟨v19, hc19, hf⟩ := ob_some hf
    refine h_callU hM [vr (some 3)] dX6_clause_19 cs_SlimeNet_PlateReader_38_6 hk19 (m_X5_is hc19) rfl rfl rfl rfl ?_
    refine g_if_eq hX dX6_clause_22 32 hf (by decide) (fun c22 hf => ?_) (fun c22 hf => ?_)
    · refine g_aload_n hX dX6_clause_32 (lg_at 0 rfl) ?_
      refine g_ldcS (i := 2) hX (by decide) dX6_clause_33 ?_
      obtain ⟨k35, hk35, hf⟩ := ob_some hf
      obtain ⟨v35, hc35, hf⟩ := ob_some hf
      refine h_callU hM [vr (some 4)] dX6_clause_35 cs_SlimeNet_PlateReader_38_6 hk35 (m_X5_is hc35) rfl rfl rfl rfl ?_
      refine g_if_eq hX dX6_clause_38 107 hf (by decide) (fun c38 hf => ?_) (fun c38 hf => ?_)
      · refine g_aload_n hX dX6_clause_107 (lg_at 0 rfl) ?_
        refine g_ldcS (i := 3) hX (by decide) dX6_clause_108 ?_
        obtain ⟨k110, hk110, hf⟩ := ob_some hf
        obtain ⟨v110, hc110, hf⟩ := ob_some hf
        refine h_callU hM [vr (some 5)] dX6_clause_110 cs_SlimeNet_PlateReader_38_6 hk110 (m_X5_is hc110) rfl rfl rfl rfl ?_
        refine g_if_eq hX dX6_clause_113 127 hf (by decide) (fun c113 hf => ?_) (fun c113 hf => ?_)
        · refine g_aload_n hX dX6_clause_127 (lg_at 0 rfl) ?_
          refine g_ldcS (i := 4) hX (by decide) dX6_clause_128 ?_
          refine g_iconst hX dX6_clause_130 (0 : Int32) (by decide) ?_
          obtain ⟨k131, hk131, hf⟩ := ob_some hf
          obtain ⟨q131, hc131, hf⟩ := ob_some hf
          rcases q131 with ⟨v131, A131⟩ | ⟨kx, Ax⟩
          rotate_left
          · refine h_callV hM [vr (some 6), vi (0 : Int32)] dX6_clause_131 cs_SlimeNet_PlateReader_83_6 hk131 (m_X6_begins hc131) rfl rfl rfl rfl ?_
            dsimp only at hf
            cases hf
            exact h_out hM (by decide) hr rfl
          refine h_callV hM [vr (some 6), vi (0 : Int32)] dX6_clause_131 cs_SlimeNet_PlateReader_83_6 hk131 (m_X6_begins hc131) rfl rfl rfl rfl ?_
          dsimp only at hf
          refine g_if_eq hX dX6_clause_134 168 hf (by decide) (fun c134 hf => ?_) (fun c134 hf => ?_)
          · refine g_aload_n hX dX6_clause_168 (lg_at 0 rfl) ?_
            refine g_ldcS (i := 5) hX (by decide) dX6_clause_169 ?_
            refine g_iconst hX dX6_clause_171 (1 : Int32) (by decide) ?_
            obtain ⟨k172, hk172, hf⟩ := ob_some hf
            obtain ⟨q172, hc172, hf⟩ := ob_some hf
            rcases q172 with ⟨v172, A172⟩ | ⟨kx, Ax⟩
            rotate_left
            · refine h_callV hM [vr (some 7), vi (1 : Int32)] dX6_clause_172 cs_SlimeNet_PlateReader_83_6 hk172 (m_X6_begins hc172) rfl rfl rfl rfl ?_
              dsimp only at hf
              cases hf
              exact h_out hM (by decide) hr rfl
            refine h_callV hM [vr (some 7), vi (1 : Int32)] dX6_clause_172 cs_SlimeNet_PlateReader_83_6 hk172 (m_X6_begins hc172) rfl rfl rfl rfl ?_
            dsimp only at hf
            refine g_if_eq hX dX6_clause_175 195 hf (by decide) (fun c175 hf => ?_) (fun c175 hf => ?_)
            · refine g_aload_n hX dX6_clause_195 (lg_at 0 rfl) ?_
              refine g_aload_n hX dX6_clause_196 (lg_at 0 rfl) ?_
              refine g_ldcS (i := 6) hX (by decide) dX6_clause_197 ?_
              obtain ⟨k199, hk199, hf⟩ := ob_some hf
              obtain ⟨v199, hc199, hf⟩ := ob_some hf
              refine h_callU hM [vr (some 8)] dX6_clause_199 cs_SlimeNet_PlateReader_38_6 hk199 (m_X5_is hc199) rfl rfl rfl rfl ?_
              refine g_iconst hX dX6_clause_202 (1 : Int32) (by decide) ?_
              obtain ⟨k203, hk203, hf⟩ := ob_some hf
              obtain ⟨q203, hc203, hf⟩ := ob_some hf
              rcases q203 with A203 | ⟨kx, Ax⟩
              rotate_left
              · refine h_callU hM [vi v199, vi (1 : Int32)] dX6_clause_203 cs_SlimeNet_PlateReader_45_6 hk203 (m_X5_ask hc203) rfl rfl rfl rfl ?_
                dsimp only at hf
                cases hf
                exact h_out hM (by decide) hr rfl
              refine h_callU hM [vi v199, vi (1 : Int32)] dX6_clause_203 cs_SlimeNet_PlateReader_45_6 hk203 (m_X5_ask hc203) rfl rfl rfl rfl ?_
              dsimp only at hf
              refine g_aload_n hX dX6_clause_206 (lg_at 0 rfl) ?_
              refine g_ldcS (i := 6) hX (by decide) dX6_clause_207 ?_
              refine g_iconst hX dX6_clause_209 (2 : Int32) (by decide) ?_
              obtain ⟨k210, hk210, hf⟩ := ob_some hf
              obtain ⟨q210, hc210, hf⟩ := ob_some hf
              rcases q210 with ⟨v210, A210⟩ | ⟨kx, Ax⟩
              rotate_left
              · refine h_callV hM [vr (some 8), vi (2 : Int32)] dX6_clause_210 cs_SlimeNet_PlateReader_83_6 hk210 (m_X6_begins hc210) rfl rfl rfl rfl ?_
                dsimp only at hf
                cases hf
                exact h_out hM (by decide) hr rfl
              refine h_callV hM [vr (some 8), vi (2 : Int32)] dX6_clause_210 cs_SlimeNet_PlateReader_83_6 hk210 (m_X6_begins hc210) rfl rfl rfl rfl ?_
              dsimp only at hf
              refine g_pop hX dX6_clause_213 rfl ?_
              refine g_aload_n hX dX6_clause_214 (lg_at 0 rfl) ?_
              refine g_getR hX hf fs_SlimeNet_PlateReader_20_6 rfl dX6_clause_215 (fun v215 hf => ?_)
              refine g_aload_n hX dX6_clause_218 (lg_at 0 rfl) ?_
              refine g_iconst hX dX6_clause_219 (1 : Int32) (by decide) ?_
              refine g_bipush hX dX6_clause_220 (9 : Int32) (by decide) ?_
              obtain ⟨k222, hk222, hf⟩ := ob_some hf
              obtain ⟨q222, hc222, hf⟩ := ob_some hf
              rcases q222 with ⟨v222, A222⟩ | ⟨kx, Ax⟩
              rotate_left
              · refine h_callU hM [vi (1 : Int32), vi (9 : Int32)] dX6_clause_222 cs_SlimeNet_PlateReader_87_6 hk222 (m_X5_number hc222) rfl rfl rfl rfl ?_
                dsimp only at hf
                cases hf
                exact h_out hM (by decide) hr rfl
              refine h_callU hM [vi (1 : Int32), vi (9 : Int32)] dX6_clause_222 cs_SlimeNet_PlateReader_87_6 hk222 (m_X5_number hc222) rfl rfl rfl rfl ?_
              dsimp only at hf
              refine g_putI hX hf fs_SlimeNet_PlateReader_103_3 ⟨_, rfl, Or.inl rfl⟩ rfl dX6_clause_225 (fun A225 hf => ?_)
              exact g_wide (g_pick (w_f_X6_clause_228 hM hf hr) [] rfl) (Nat.le_of_ble_eq_true rfl) (Nat.le_of_ble_eq_true rfl)
            · refine g_aload_n hX dX6_clause_178 (lg_at 0 rfl) ?_
              refine g_getR hX hf fs_SlimeNet_PlateReader_20_6 rfl dX6_clause_179 (fun v179 hf => ?_)
              refine g_aload_n hX dX6_clause_182 (lg_at 0 rfl) ?_
              refine g_iconst hX dX6_clause_183 (1 : Int32) (by decide) ?_
              refine g_bipush hX dX6_clause_184 (9 : Int32) (by decide) ?_
              obtain ⟨k186, hk186, hf⟩ := ob_some hf
              obtain ⟨q186, hc186, hf⟩ := ob_some hf
              rcases q186 with ⟨v186, A186⟩ | ⟨kx, Ax⟩
              rotate_left
              · refine h_callU hM [vi (1 : Int32), vi (9 : Int32)] dX6_clause_186 cs_SlimeNet_PlateReader_87_6 hk186 (m_X5_number hc186) rfl rfl rfl rfl ?_
                dsimp only at hf
                cases hf
                exact h_out hM (by decide) hr rfl
              refine h_callU hM [vi (1 : Int32), vi (9 : Int32)] dX6_clause_186 cs_SlimeNet_PlateReader_87_6 hk186 (m_X5_number hc186) rfl rfl rfl rfl ?_
              dsimp only at hf
              refine g_putI hX hf fs_SlimeNet_PlateReader_99_3 ⟨_, rfl, Or.inl rfl⟩ rfl dX6_clause_189 (fun A189 hf => ?_)
              refine g_goto hX dX6_clause_192 228 (by decide) ?_
              exact g_wide (g_pick (w_f_X6_clause_228 hM hf hr) [] rfl) (Nat.le_of_ble_eq_true rfl) (Nat.le_of_ble_eq_true rfl)
          · refine g_aload_n hX dX6_clause_137 (lg_at 0 rfl) ?_
            refine g_getR hX hf fs_SlimeNet_PlateReader_20_6 rfl dX6_clause_138 (fun v138 hf => ?_)
            refine g_aload_n hX dX6_clause_141 (lg_at 0 rfl) ?_
            refine g_iconst hX dX6_clause_142 (0 : Int32) (by decide) ?_
            refine g_bipush hX dX6_clause_143 (20 : Int32) (by decide) ?_
            obtain ⟨k145, hk145, hf⟩ := ob_some hf
            obtain ⟨q145, hc145, hf⟩ := ob_some hf
            rcases q145 with ⟨v145, A145⟩ | ⟨kx, Ax⟩
            rotate_left
            · refine h_callU hM [vi (0 : Int32), vi (20 : Int32)] dX6_clause_145 cs_SlimeNet_PlateReader_87_6 hk145 (m_X5_number hc145) rfl rfl rfl rfl ?_
              dsimp only at hf
              cases hf
              exact h_out hM (by decide) hr rfl
            refine h_callU hM [vi (0 : Int32), vi (20 : Int32)] dX6_clause_145 cs_SlimeNet_PlateReader_87_6 hk145 (m_X5_number hc145) rfl rfl rfl rfl ?_
            dsimp only at hf
            refine g_putI hX hf fs_SlimeNet_PlateReader_91_3 ⟨_, rfl, Or.inl rfl⟩ rfl dX6_clause_148 (fun A148 hf => ?_)
            refine g_aload_n hX dX6_clause_151 (lg_at 0 rfl) ?_
            refine g_getR hX hf fs_SlimeNet_PlateReader_20_6 rfl dX6_clause_152 (fun v152 hf => ?_)
            refine g_aload_n hX dX6_clause_155 (lg_at 0 rfl) ?_
            refine g_iconst hX dX6_clause_156 (0 : Int32) (by decide) ?_
            refine g_bipush hX dX6_clause_157 (20 : Int32) (by decide) ?_
            obtain ⟨k159, hk159, hf⟩ := ob_some hf
            obtain ⟨q159, hc159, hf⟩ := ob_some hf
            rcases q159 with ⟨v159, A159⟩ | ⟨kx, Ax⟩
            rotate_left
            · refine h_callU hM [vi (0 : Int32), vi (20 : Int32)] dX6_clause_159 cs_SlimeNet_PlateReader_87_6 hk159 (m_X5_number hc159) rfl rfl rfl rfl ?_
              dsimp only at hf
              cases hf
              exact h_out hM (by decide) hr rfl
            refine h_callU hM [vi (0 : Int32), vi (20 : Int32)] dX6_clause_159 cs_SlimeNet_PlateReader_87_6 hk159 (m_X5_number hc159) rfl rfl rfl rfl ?_
            dsimp only at hf
            refine g_putI hX hf fs_SlimeNet_PlateReader_94_3 ⟨_, rfl, Or.inl rfl⟩ rfl dX6_clause_162 (fun A162 hf => ?_)
            refine g_goto hX dX6_clause_165 228 (by decide) ?_
            exact g_wide (g_pick (w_f_X6_clause_228 hM hf hr) [] rfl) (Nat.le_of_ble_eq_true rfl) (Nat.le_of_ble_eq_true rfl)
        · refine g_aload_n hX dX6_clause_116 (lg_at 0 rfl) ?_
          obtain ⟨k117, hk117, hf⟩ := ob_some hf
          obtain ⟨A117, hc117, hf⟩ := ob_some hf
          refine h_callU hM [] dX6_clause_117 cs_SlimeNet_PlateReader_49_6 hk117 (m_X5_goOn hc117) rfl rfl rfl rfl ?_
          refine g_aload_n hX dX6_clause_120 (lg_at 0 rfl) ?_
          obtain ⟨k121, hk121, hf⟩ := ob_some hf
          obtain ⟨q121, hc121, hf⟩ := ob_some hf
          rcases q121 with A121 | ⟨kx, Ax⟩
          rotate_left
          · refine h_callV hM [] dX6_clause_121 cs_SlimeNet_PlateReader_79_6 hk121 (m_X6_salt hc121) rfl rfl rfl rfl ?_
            dsimp only at hf
            cases hf
            exact h_out hM (by decide) hr rfl
          refine h_callV hM [] dX6_clause_121 cs_SlimeNet_PlateReader_79_6 hk121 (m_X6_salt hc121) rfl rfl rfl rfl ?_
          dsimp only at hf
          refine g_goto hX dX6_clause_124 228 (by decide) ?_
          exact g_wide (g_pick (w_f_X6_clause_228 hM hf hr) [] rfl) (Nat.le_of_ble_eq_true rfl) (Nat.le_of_ble_eq_true rfl)
      · refine g_aload_n hX dX6_clause_41 (lg_at 0 rfl) ?_
        obtain ⟨k42, hk42, hf⟩ := ob_some hf
        obtain ⟨A42, hc42, hf⟩ := ob_some hf
        refine h_callU hM [] dX6_clause_42 cs_SlimeNet_PlateReader_49_6 hk42 (m_X5_goOn hc42) rfl rfl rfl rfl ?_
        refine g_aload_n hX dX6_clause_45 (lg_at 0 rfl) ?_
        obtain ⟨k46, hk46, hf⟩ := ob_some hf
        obtain ⟨q46, hc46, hf⟩ := ob_some hf
        rcases q46 with ⟨v46, A46⟩ | ⟨kx, Ax⟩
        rotate_left
        · refine h_callV hM [] dX6_clause_46 cs_SlimeNet_PlateReader_62_6 hk46 (m_X6_spotHere hc46) rfl rfl rfl rfl ?_
          dsimp only at hf
          cases hf
          exact h_out hM (by decide) hr rfl
        refine h_callV hM [] dX6_clause_46 cs_SlimeNet_PlateReader_62_6 hk46 (m_X6_spotHere hc46) rfl rfl rfl rfl ?_
        dsimp only at hf
        refine g_istore_n hX dX6_clause_49 [(1, vi v46), (0, vr (some this))] (by decide) rfl ?_
        refine g_aload_n hX dX6_clause_50 (lg_at 1 rfl) ?_
        refine g_aload_n hX dX6_clause_51 (lg_at 1 rfl) ?_
        refine g_getR hX hf fs_SlimeNet_PlateReader_20_6 rfl dX6_clause_52 (fun v52 hf => ?_)
        refine g_iload_n hX dX6_clause_55 (lg_at 0 rfl) ?_
        obtain ⟨k56, hk56, hf⟩ := ob_some hf
        obtain ⟨v56, hc56, hf⟩ := ob_some hf
        refine h_callV hM [vi v46] dX6_clause_56 cs_SlimeNet_PlateReader_66_3 hk56 (m_X2_isFlake hc56) rfl rfl rfl rfl ?_
        refine g_if_ne hX dX6_clause_59 66 hf (by decide) (fun c59 hf => ?_) (fun c59 hf => ?_)
        · refine g_iconst hX dX6_clause_66 (0 : Int32) (by decide) ?_
          exact g_pick (w_f_X6_clause_67 hM hf hr) [1, 0] rfl
        · refine g_iconst hX dX6_clause_62 (1 : Int32) (by decide) ?_
          refine g_goto hX dX6_clause_63 67 (by decide) ?_
          exact g_pick (w_f_X6_clause_67 hM hf hr) [1, 0] rfl
    · refine g_aload_n hX dX6_clause_25 (lg_at 0 rfl) ?_
      obtain ⟨k26, hk26, hf⟩ := ob_some hf
      obtain ⟨q26, hc26, hf⟩ := ob_some hf
      rcases q26 with A26 | ⟨kx, Ax⟩
      rotate_left
      · refine h_callV hM [] dX6_clause_26 cs_SlimeNet_PlateReader_58_6 hk26 (m_X6_pipe hc26) rfl rfl rfl rfl ?_
        dsimp only at hf
        cases hf
        exact h_out hM (by decide) hr rfl
      refine h_callV hM [] dX6_clause_26 cs_SlimeNet_PlateReader_58_6 hk26 (m_X6_pipe hc26) rfl rfl rfl rfl ?_
      dsimp only at hf
      refine g_goto hX dX6_clause_29 228 (by decide) ?_
      exact g_pick (w_f_X6_clause_228 hM hf hr) [] rfl
  · refine g_aload_n hX dX6_clause_9 (lg_at 0 rfl) ?_
    obtain ⟨k10, hk10, hf⟩ := ob_some hf
    obtain ⟨q10, hc10, hf⟩ := ob_some hf
    rcases q10 with A10 | ⟨kx, Ax⟩
    rotate_left
    · refine h_callV hM [] dX6_clause_10 cs_SlimeNet_PlateReader_54_6 hk10 (m_X6_spot hc10) rfl rfl rfl rfl ?_
      dsimp only at hf
      cases hf
      exact h_out hM (by decide) hr rfl
    refine h_callV hM [] dX6_clause_10 cs_SlimeNet_PlateReader_54_6 hk10 (m_X6_spot hc10) rfl rfl rfl rfl ?_
    dsimp only at hf
    refine g_goto hX dX6_clause_13 228 (by decide) ?_
    exact g_wide (g_pick (w_f_X6_clause_228 hM hf hr) [] rfl) (Nat.le_of_ble_eq_true rfl) (Nat.le_of_ble_eq_true rfl)

theorem m_X6_clause {l : Launch} {this : Nat} {A : AH} {out : (AH) ⊕ (Nat × AH)} (h : f_X6_clause this A = some out) : MetF l yX6_clause (Cond.code yX6_clause cX6_clause 2 none) rm_X6_clause [vr (some this)] A (r_X6_clause A out) :=
  metF_of rfl rfl (Nat.le_of_ble_eq_true rfl) fun X hX hl hR hnm hr h1 h2 hno => w_f_X6_clause (X := X) ⟨hX, hR, h1, h2, fun _ => ⟨hnm, hno⟩⟩ h hr

/-! SlimeNet$Reader.semicolon()V -/
def rm_X5_semicolon : Room := { frames := 3, cells := 0, slots := 0, locals := 68 }
def r_X5_semicolon (_A : AH) : (AH) ⊕ (Nat × AH) → (Option AV × AH) ⊕ (Nat × AH)
  | .inl o => .inl (none, o)
  | .inr x => .inr x
set_option maxRecDepth 100000 in
theorem w_f_X5_semicolon_14 {X : Ctx} (hM : MX X yX5_semicolon cX5_semicolon 1 "SlimeNet$Reader" none rm_X5_semicolon []) {this : Nat} {t0 : Int32} {t1 : Option Nat} {A : AH} {out : (AH) ⊕ (Nat × AH)} (hf : f_X5_semicolon_14 this t0 t1 A = some out) (hr : c_res X = r_X5_semicolon A out) : G X 0 0 14 [(0, vr (some this))] [vi t0, vr t1] A := by
  have hX := hM.1
  unfold f_X5_semicolon_14 at hf
  refine g_iconst hX dX5_semicolon_14 (1 : Int32) (by decide) ?_
  obtain ⟨k15, hk15, hf⟩ := ob_some hf
  obtain ⟨q15, hc15, hf⟩ := ob_some hf
  rcases q15 with A15 | ⟨kx, Ax⟩
  rotate_left
  · refine h_callU hM [vi t0, vi (1 : Int32)] dX5_semicolon_15 cs_SlimeNet_Reader_73_6 hk15 (m_X5_ask hc15) rfl rfl rfl rfl ?_
    dsimp only at hf
    cases hf
    exact h_out hM (by decide) hr rfl
  refine h_callU hM [vi t0, vi (1 : Int32)] dX5_semicolon_15 cs_SlimeNet_Reader_73_6 hk15 (m_X5_ask hc15) rfl rfl rfl rfl ?_
  dsimp only at hf
  refine g_aload_n hX dX5_semicolon_18 (lg_at 0 rfl) ?_
  obtain ⟨k19, hk19, hf⟩ := ob_some hf
  obtain ⟨A19, hc19, hf⟩ := ob_some hf
  refine h_callU hM [] dX5_semicolon_19 cs_SlimeNet_Reader_19_6 hk19 (m_X5_goOn hc19) rfl rfl rfl rfl ?_
  cases hf
  exact h_vret hM dX5_semicolon_22 hr rfl rfl

set_option maxRecDepth 100000 in
theorem w_f_X5_semicolon {X : Ctx} (hM : MX X yX5_semicolon cX5_semicolon 1 "SlimeNet$Reader" none rm_X5_semicolon []) {this : Nat} {A : AH} {out : (AH) ⊕ (Nat × AH)} (hf : f_X5_semicolon this A = some out) (hr : c_res X = r_X5_semicolon A out) : G X 0 0 0 [(0, vr (some this))] [] A := by
  have hX := hM.1
  unfold f_X5_semicolon at hf
  refine g_aload_n hX dX5_semicolon_0 (lg_at 0 rfl) ?_
  refine g_aload_n hX dX5_semicolon_1 (lg_at 0 rfl) ?_
  refine g_getI hX hf fs_SlimeNet_Reader_36_6 rfl dX5_semicolon_2 (fun v2 hf => ?_)
  refine g_iconst hX dX5_semicolon_5 (3 : Int32) (by decide) ?_
  refine g_icmp_ne hX dX5_semicolon_6 13 hf (by decide) (fun c6 hf => ?_) (fun c6 hf => ?_)
  · refine g_iconst hX dX5_semicolon_13 (0 : Int32) (by decide) ?_
    exact g_pick (w_f_X5_semicolon_14 hM hf hr) [0] rfl
  · refine g_iconst hX dX5_semicolon_9 (1 : Int32) (by decide) ?_
    refine g_goto hX dX5_semicolon_10 14 (by decide) ?_
    exact g_pick (w_f_X5_semicolon_14 hM hf hr) [0] rfl

theorem m_X5_semicolon {l : Launch} {this : Nat} {A : AH} {out : (AH) ⊕ (Nat × AH)} (h : f_X5_semicolon this A = some out) : MetF l yX5_semicolon (Cond.code yX5_semicolon cX5_semicolon 1 none) rm_X5_semicolon [vr (some this)] A (r_X5_semicolon A out) :=
  metF_of rfl rfl (Nat.le_of_ble_eq_true rfl) fun X hX hl hR hnm hr h1 h2 hno => w_f_X5_semicolon (X := X) ⟨hX, hR, h1, h2, fun _ => ⟨hnm, hno⟩⟩ h hr

/-! SlimeNet$PlateReader.read()LSlimeNet$Plate; -/
def rm_X6_read : Room := { frames := 8, cells := 704, slots := 5280, locals := 174 }
def r_X6_read (_A : AH) : (Option Nat × AH) ⊕ (Nat × AH) → (Option AV × AH) ⊕ (Nat × AH)
  | .inl o => .inl (some (vr o.1), o.2)
  | .inr x => .inr x
def k_X6_read_0 (X : Ctx) (cs ss : Nat) (this : Nat) : ((AH) ⊕ ((AH) ⊕ (Nat × AH))) → Prop
  | .inl A => G X cs ss 0 [(0, vr (some this))] [] A
  | .inr (.inl A) => G X cs ss 31 [(0, vr (some this))] [] A
  | .inr (.inr x) => c_res X = .inr x

theorem k_X6_read_0_mono {X : Ctx} {cs ss cs2 ss2 : Nat} {this : Nat} {e : (AH) ⊕ (Nat × AH)} (h1 : cs ≤ cs2) (h2 : ss ≤ ss2) : k_X6_read_0 X cs2 ss2 this (.inr e) → k_X6_read_0 X cs ss this (.inr e) := by
  rcases e with A | ⟨kx, Ax⟩
  · intro h; exact g_wide h h1 h2
  · intro h; exact h

set_option maxRecDepth 100000 in
theorem w_s_X6_read_0 {X : Ctx} (hM : MX X yX6_read cX6_read 1 "SlimeNet$PlateReader" (some (Jvm.ClassFile.FieldType.object "SlimeNet$Plate")) rm_X6_read []) {cs ss : Nat} (hcs : cs + 2 ≤ rm_X6_read.cells) (hss : ss + 15 ≤ rm_X6_read.slots) {this : Nat} {st : AH} {out : (AH) ⊕ ((AH) ⊕ (Nat × AH))} (hf : s_X6_read_0 this st = some out) (K : k_X6_read_0 X (cs + 2) (ss + 15) this out) : k_X6_read_0 X cs ss this (.inl st) := by
  have hX := hM.1
  revert hf; generalize st = A; intro hf
  unfold s_X6_read_0 at hf
  dsimp only at hf
  show G X cs ss 0 [(0, vr (some this))] [] A
  refine g_aload_n hX dX6_read_0 (lg_at 0 rfl) ?_
  obtain ⟨k1, hk1, hf⟩ := ob_some hf
  obtain ⟨v1, hc1, hf⟩ := ob_some hf
  refine h_callU hM [] dX6_read_1 cs_SlimeNet_PlateReader_24_6 hk1 (m_X5_isEnd hc1) (by simp only [roomOK, rm_X5_isEnd, rm_X5_semicolon, rm_X6_clause, rm_X6_read, Bool.and_eq_true, Nat.ble_eq] at hcs hss ⊢; omega) rfl rfl rfl ?_
  refine g_if_ne hX dX6_read_4 31 hf (by decide) (fun c4 hf => ?_) (fun c4 hf => ?_)
  · cases hf
    exact g_wide (g_pick (show G X _ _ _ _ _ _ from K) [0] rfl) (by first | omega | (simp only [rm_X5_isEnd, rm_X5_semicolon, rm_X6_clause]; omega)) (by first | omega | (simp only [rm_X5_isEnd, rm_X5_semicolon, rm_X6_clause]; omega))
  · refine g_aload_n hX dX6_read_7 (lg_at 0 rfl) ?_
    obtain ⟨k8, hk8, hf⟩ := ob_some hf
    obtain ⟨q8, hc8, hf⟩ := ob_some hf
    rcases q8 with A8 | ⟨kx, Ax⟩
    rotate_left
    · refine h_callV hM [] dX6_read_8 cs_SlimeNet_PlateReader_28_6 hk8 (m_X6_clause hc8) (by simp only [roomOK, rm_X5_isEnd, rm_X5_semicolon, rm_X6_clause, rm_X6_read, Bool.and_eq_true, Nat.ble_eq] at hcs hss ⊢; omega) rfl rfl rfl ?_
      dsimp only at hf
      cases hf
      exact h_out hM (by decide) K (by simp only [roomOK, rm_X5_isEnd, rm_X5_semicolon, rm_X6_clause, rm_X6_read, Bool.and_eq_true, Nat.ble_eq] at hcs hss ⊢; omega)
    refine h_callV hM [] dX6_read_8 cs_SlimeNet_PlateReader_28_6 hk8 (m_X6_clause hc8) (by simp only [roomOK, rm_X5_isEnd, rm_X5_semicolon, rm_X6_clause, rm_X6_read, Bool.and_eq_true, Nat.ble_eq] at hcs hss ⊢; omega) rfl rfl rfl ?_
    dsimp only at hf
    refine g_aload_n hX dX6_read_11 (lg_at 0 rfl) ?_
    obtain ⟨k12, hk12, hf⟩ := ob_some hf
    obtain ⟨q12, hc12, hf⟩ := ob_some hf
    rcases q12 with A12 | ⟨kx, Ax⟩
    rotate_left
    · refine h_callU hM [] dX6_read_12 cs_SlimeNet_PlateReader_31_6 hk12 (m_X5_semicolon hc12) (by simp only [roomOK, rm_X5_isEnd, rm_X5_semicolon, rm_X6_clause, rm_X6_read, Bool.and_eq_true, Nat.ble_eq] at hcs hss ⊢; omega) rfl rfl rfl ?_
      dsimp only at hf
      cases hf
      exact h_out hM (by decide) K (by simp only [roomOK, rm_X5_isEnd, rm_X5_semicolon, rm_X6_clause, rm_X6_read, Bool.and_eq_true, Nat.ble_eq] at hcs hss ⊢; omega)
    refine h_callU hM [] dX6_read_12 cs_SlimeNet_PlateReader_31_6 hk12 (m_X5_semicolon hc12) (by simp only [roomOK, rm_X5_isEnd, rm_X5_semicolon, rm_X6_clause, rm_X6_read, Bool.and_eq_true, Nat.ble_eq] at hcs hss ⊢; omega) rfl rfl rfl ?_
    dsimp only at hf
    refine g_aload_n hX dX6_read_15 (lg_at 0 rfl) ?_
    refine g_getR hX hf fs_SlimeNet_PlateReader_20_6 rfl dX6_read_16 (fun v16 hf => ?_)
    refine g_dup hX dX6_read_19 rfl ?_
    refine g_getI hX hf fs_SlimeNet_PlateReader_34_3 rfl dX6_read_20 (fun v20 hf => ?_)
    refine g_iconst hX dX6_read_23 (1 : Int32) (by decide) ?_
    refine g_iadd hX dX6_read_24 ?_
    refine g_putI hX hf fs_SlimeNet_PlateReader_34_3 ⟨_, rfl, Or.inl rfl⟩ rfl dX6_read_25 (fun A25 hf => ?_)
    refine g_goto hX dX6_read_28 0 (by decide) ?_
    cases hf
    exact g_pick (show G X _ _ _ _ _ _ from K) [0] rfl

set_option maxRecDepth 100000 in
theorem w_l_X6_read_0 {X : Ctx} (hM : MX X yX6_read cX6_read 1 "SlimeNet$PlateReader" (some (Jvm.ClassFile.FieldType.object "SlimeNet$Plate")) rm_X6_read []) {this : Nat} {A : AH} {out : (Option Nat × AH) ⊕ (Nat × AH)} (hf : l_X6_read_0 this A = some out) (hr : c_res X = r_X6_read A out) : G X 0 0 0 [(0, vr (some this))] [] A := by
  have hX := hM.1
  unfold l_X6_read_0 at hf
  obtain ⟨e, hw, hf⟩ := ob_some hf
  have key := whO_ind (fun n o => n ≤ 352 → k_X6_read_0 X (0 + 2 * (352 - n)) (0 + 15 * (352 - n)) this o) (fun n st o hs K hn => w_s_X6_read_0 hM (by show _ ≤ 704; omega) (by show _ ≤ 5280; omega) hs (by have := K (by omega); rw [show 0 + 2 * (352 - n) = 0 + 2 * (352 - (n + 1)) + 2 by omega, show 0 + 15 * (352 - n) = 0 + 15 * (352 - (n + 1)) + 15 by omega] at this; exact this)) (fun n e h0 hn => ?_) hw ?_
  · exact g_wide (key (Nat.le_refl _)) (by omega) (by omega)
  · have h0 := h0 (by omega)
    revert h0
    exact k_X6_read_0_mono (by omega) (by omega)
  intro _
  rcases e with A | ⟨kx, Ax⟩
  · dsimp only at hf
    show G X 704 5280 31 [(0, vr (some this))] [] A
    refine g_aload_n hX dX6_read_31 (lg_at 0 rfl) ?_
    refine g_getR hX hf fs_SlimeNet_PlateReader_20_6 rfl dX6_read_32 (fun v32 hf => ?_)
    cases hf
    exact h_aret hM dX6_read_35 hr rfl rfl rfl
  · dsimp only at hf
    cases hf
    exact hr

set_option maxRecDepth 100000 in
theorem w_f_X6_read {X : Ctx} (hM : MX X yX6_read cX6_read 1 "SlimeNet$PlateReader" (some (Jvm.ClassFile.FieldType.object "SlimeNet$Plate")) rm_X6_read []) {this : Nat} {A : AH} {out : (Option Nat × AH) ⊕ (Nat × AH)} (hf : f_X6_read this A = some out) (hr : c_res X = r_X6_read A out) : G X 0 0 0 [(0, vr (some this))] [] A := by
  have hX := hM.1
  unfold f_X6_read at hf
  exact g_pick (w_l_X6_read_0 hM hf hr) [0] rfl

theorem m_X6_read {l : Launch} {this : Nat} {A : AH} {out : (Option Nat × AH) ⊕ (Nat × AH)} (h : f_X6_read this A = some out) : MetF l yX6_read (Cond.code yX6_read cX6_read 1 (some (Jvm.ClassFile.FieldType.object "SlimeNet$Plate"))) rm_X6_read [vr (some this)] A (r_X6_read A out) :=
  metF_of rfl rfl (Nat.le_of_ble_eq_true rfl) fun X hX hl hR hnm hr h1 h2 hno => w_f_X6_read (X := X) ⟨hX, hR, h1, h2, fun _ => ⟨hnm, hno⟩⟩ h hr

