/-! java/lang/Throwable.<init>(Ljava/lang/String;Ljava/lang/Throwable;ZZ)V -/
def rm_J0_init_2 : Room := { frames := 1, cells := 0, slots := 0, locals := 24 }
def r_J0_init_2 (_A : AH) (o : AH) : (Option AV × AH) ⊕ (Nat × AH) := .inl (none, o)
set_option maxRecDepth 100000 in
theorem w_f_J0_init_2_60 {X : Ctx} (hM : MX X yJ0_init_2 cJ0_init_2 5 "java/lang/Throwable" none rm_J0_init_2 []) {A : AH} {out : AH} (hf : f_J0_init_2_60 A = some out) (hr : c_res X = r_J0_init_2 A out) : G X 0 0 60 [] [] A := by
  have hX := hM.1
  unfold f_J0_init_2_60 at hf
  cases hf
  exact h_vret hM dJ0_init_2_60 hr rfl rfl

set_option maxRecDepth 100000 in
theorem w_f_J0_init_2 {X : Ctx} (hM : MX X yJ0_init_2 cJ0_init_2 5 "java/lang/Throwable" none rm_J0_init_2 []) {this : Nat} {x1 : Option Nat} {x2 : Option Nat} {x3 : Int32} {x4 : Int32} {A : AH} {out : AH} (hf : f_J0_init_2 this x1 x2 x3 x4 A = some out) (hr : c_res X = r_J0_init_2 A out) : G X 0 0 0 [(0, vr (some this)), (1, vr x1), (2, vr x2), (3, vi x3), (4, vi x4)] [] A := by
  have hX := hM.1
  unfold f_J0_init_2 at hf
  refine g_aload_n hX dJ0_init_2_0 (lg_at 0 rfl) ?_
  refine h_objInit hM dJ0_init_2_1 (lw_LW q124) (lw_LW q99) (lw_LW q100) rfl rfl ?_
  refine g_aload_n hX dJ0_init_2_4 (lg_at 0 rfl) ?_
  refine g_aload_n hX dJ0_init_2_5 (lg_at 0 rfl) ?_
  refine g_putR hX hf fs_java_lang_Throwable_7_2 ⟨_, rfl, Or.inl rfl⟩ rfl dJ0_init_2_6 (fun A6 hf => ?_)
  refine g_aload_n hX dJ0_init_2_9 (lg_at 0 rfl) ?_
  refine g_getU0 hX dJ0_init_2_10 (lw_LW q125) ?_
  refine g_putR hX hf fs_java_lang_Throwable_17_2 ⟨_, rfl, Or.inl rfl⟩ rfl dJ0_init_2_13 (fun A13 hf => ?_)
  refine g_aload_n hX dJ0_init_2_16 (lg_at 0 rfl) ?_
  refine g_getU1 hX dJ0_init_2_17 (lw_LW q127) ?_
  refine g_putR hX hf fs_java_lang_Throwable_24_2 ⟨_, rfl, Or.inl rfl⟩ rfl dJ0_init_2_20 (fun A20 hf => ?_)
  refine g_iload hX dJ0_init_2_23 (lg_at 4 rfl) ?_
  refine g_if_eq hX dJ0_init_2_25 36 hf (by decide) (fun c25 hf => ?_) (fun c25 hf => ?_)
  · refine g_aload_n hX dJ0_init_2_36 (lg_at 0 rfl) ?_
    refine g_null hX dJ0_init_2_37 ?_
    refine g_putR hX hf fs_java_lang_Throwable_17_2 ⟨_, rfl, Or.inl rfl⟩ rfl dJ0_init_2_38 (fun A38 hf => ?_)
    refine g_aload_n hX dJ0_init_2_41 (lg_at 0 rfl) ?_
    refine g_aload_n hX dJ0_init_2_42 (lg_at 1 rfl) ?_
    refine g_putR hX hf fs_java_lang_Throwable_31_2 ⟨_, rfl, Or.inl rfl⟩ rfl dJ0_init_2_43 (fun A43 hf => ?_)
    refine g_aload_n hX dJ0_init_2_46 (lg_at 0 rfl) ?_
    refine g_aload_n hX dJ0_init_2_47 (lg_at 2 rfl) ?_
    refine g_putR hX hf fs_java_lang_Throwable_7_2 ⟨_, rfl, Or.inl rfl⟩ rfl dJ0_init_2_48 (fun A48 hf => ?_)
    refine g_iload_n hX dJ0_init_2_51 (lg_at 3 rfl) ?_
    refine g_if_ne hX dJ0_init_2_52 60 hf (by decide) (fun c52 hf => ?_) (fun c52 hf => ?_)
    · exact g_pick (w_f_J0_init_2_60 hM hf hr) [] rfl
    · refine g_aload_n hX dJ0_init_2_55 (lg_at 0 rfl) ?_
      refine g_null hX dJ0_init_2_56 ?_
      refine g_putR hX hf fs_java_lang_Throwable_24_2 ⟨_, rfl, Or.inl rfl⟩ rfl dJ0_init_2_57 (fun A57 hf => ?_)
      exact g_pick (w_f_J0_init_2_60 hM hf hr) [] rfl
  · cases hf

theorem m_J0_init_2 {l : Launch} {this : Nat} {x1 : Option Nat} {x2 : Option Nat} {x3 : Int32} {x4 : Int32} {A : AH} {out : AH} (h : f_J0_init_2 this x1 x2 x3 x4 A = some out) : MetF l yJ0_init_2 (Cond.code yJ0_init_2 cJ0_init_2 5 none) rm_J0_init_2 [vr (some this), vr x1, vr x2, vi x3, vi x4] A (r_J0_init_2 A out) :=
  metF_of rfl rfl (Nat.le_of_ble_eq_true rfl) fun X hX hl hR hnm hr h1 h2 hno => w_f_J0_init_2 (X := X) ⟨hX, hR, h1, h2, fun _ => ⟨hnm, hno⟩⟩ h hr

/-! java/lang/Exception.<init>(Ljava/lang/String;Ljava/lang/Throwable;ZZ)V -/
def rm_J1_init : Room := { frames := 2, cells := 0, slots := 0, locals := 48 }
def r_J1_init (_A : AH) (o : AH) : (Option AV × AH) ⊕ (Nat × AH) := .inl (none, o)
set_option maxRecDepth 100000 in
theorem w_f_J1_init {X : Ctx} (hM : MX X yJ1_init cJ1_init 5 "java/lang/Exception" none rm_J1_init []) {this : Nat} {x1 : Option Nat} {x2 : Option Nat} {x3 : Int32} {x4 : Int32} {A : AH} {out : AH} (hf : f_J1_init this x1 x2 x3 x4 A = some out) (hr : c_res X = r_J1_init A out) : G X 0 0 0 [(0, vr (some this)), (1, vr x1), (2, vr x2), (3, vi x3), (4, vi x4)] [] A := by
  have hX := hM.1
  unfold f_J1_init at hf
  refine g_aload_n hX dJ1_init_0 (lg_at 0 rfl) ?_
  refine g_aload_n hX dJ1_init_1 (lg_at 1 rfl) ?_
  refine g_aload_n hX dJ1_init_2 (lg_at 2 rfl) ?_
  refine g_iload_n hX dJ1_init_3 (lg_at 3 rfl) ?_
  refine g_iload hX dJ1_init_4 (lg_at 4 rfl) ?_
  obtain ⟨A6, hc6, hf⟩ := ob_some hf
  refine h_callI hM [vr x1, vr x2, vi x3, vi x4] dJ1_init_6 cs_java_lang_Exception_16_s (m_J0_init_2 hc6) rfl rfl rfl rfl ?_
  cases hf
  exact h_vret hM dJ1_init_9 hr rfl rfl

theorem m_J1_init {l : Launch} {this : Nat} {x1 : Option Nat} {x2 : Option Nat} {x3 : Int32} {x4 : Int32} {A : AH} {out : AH} (h : f_J1_init this x1 x2 x3 x4 A = some out) : MetF l yJ1_init (Cond.code yJ1_init cJ1_init 5 none) rm_J1_init [vr (some this), vr x1, vr x2, vi x3, vi x4] A (r_J1_init A out) :=
  metF_of rfl rfl (Nat.le_of_ble_eq_true rfl) fun X hX hl hR hnm hr h1 h2 hno => w_f_J1_init (X := X) ⟨hX, hR, h1, h2, fun _ => ⟨hnm, hno⟩⟩ h hr

/-! SlimeNet$Wrong.<init>()V -/
def rm_X1_init : Room := { frames := 3, cells := 0, slots := 0, locals := 72 }
def r_X1_init (_A : AH) (o : AH) : (Option AV × AH) ⊕ (Nat × AH) := .inl (none, o)
set_option maxRecDepth 100000 in
theorem w_f_X1_init {X : Ctx} (hM : MX X yX1_init cX1_init 1 "SlimeNet$Wrong" none rm_X1_init []) {this : Nat} {A : AH} {out : AH} (hf : f_X1_init this A = some out) (hr : c_res X = r_X1_init A out) : G X 0 0 0 [(0, vr (some this))] [] A := by
  have hX := hM.1
  unfold f_X1_init at hf
  refine g_aload_n hX dX1_init_0 (lg_at 0 rfl) ?_
  refine g_null hX dX1_init_1 ?_
  refine g_null hX dX1_init_2 ?_
  refine g_iconst hX dX1_init_3 (0 : Int32) (by decide) ?_
  refine g_iconst hX dX1_init_4 (0 : Int32) (by decide) ?_
  obtain ⟨A5, hc5, hf⟩ := ob_some hf
  refine h_callI hM [vr none, vr none, vi (0 : Int32), vi (0 : Int32)] dX1_init_5 cs_SlimeNet_Wrong_1_s (m_J1_init hc5) rfl rfl rfl rfl ?_
  cases hf
  exact h_vret hM dX1_init_8 hr rfl rfl

theorem m_X1_init {l : Launch} {this : Nat} {A : AH} {out : AH} (h : f_X1_init this A = some out) : MetF l yX1_init (Cond.code yX1_init cX1_init 1 none) rm_X1_init [vr (some this)] A (r_X1_init A out) :=
  metF_of rfl rfl (Nat.le_of_ble_eq_true rfl) fun X hX hl hR hnm hr h1 h2 hno => w_f_X1_init (X := X) ⟨hX, hR, h1, h2, fun _ => ⟨hnm, hno⟩⟩ h hr

/-! java/util/AbstractCollection.<init>()V -/
def rm_J2_init : Room := { frames := 1, cells := 0, slots := 0, locals := 24 }
def r_J2_init (A : AH) (_o : Unit) : (Option AV × AH) ⊕ (Nat × AH) := .inl (none, A)
set_option maxRecDepth 100000 in
theorem w_f_J2_init {X : Ctx} (hM : MX X yJ2_init cJ2_init 1 "java/util/AbstractCollection" none rm_J2_init []) {this : Nat} {A : AH} {out : Unit} (hf : f_J2_init this = some out) (hr : c_res X = r_J2_init A out) : G X 0 0 0 [(0, vr (some this))] [] A := by
  have hX := hM.1
  unfold f_J2_init at hf
  refine g_aload_n hX dJ2_init_0 (lg_at 0 rfl) ?_
  refine h_objInit hM dJ2_init_1 (lw_LW q185) (lw_LW q99) (lw_LW q100) rfl rfl ?_
  cases hf
  exact h_vret hM dJ2_init_4 hr rfl rfl

theorem m_J2_init {l : Launch} {this : Nat} {A : AH} {out : Unit} (h : f_J2_init this = some out) : MetF l yJ2_init (Cond.code yJ2_init cJ2_init 1 none) rm_J2_init [vr (some this)] A (r_J2_init A out) :=
  metF_of rfl rfl (Nat.le_of_ble_eq_true rfl) fun X hX hl hR hnm hr h1 h2 hno => w_f_J2_init (X := X) ⟨hX, hR, h1, h2, fun _ => ⟨hnm, hno⟩⟩ h hr

/-! java/util/AbstractList.<init>()V -/
def rm_J3_init : Room := { frames := 2, cells := 0, slots := 0, locals := 44 }
def r_J3_init (_A : AH) (o : AH) : (Option AV × AH) ⊕ (Nat × AH) := .inl (none, o)
set_option maxRecDepth 100000 in
theorem w_f_J3_init {X : Ctx} (hM : MX X yJ3_init cJ3_init 1 "java/util/AbstractList" none rm_J3_init []) {this : Nat} {A : AH} {out : AH} (hf : f_J3_init this A = some out) (hr : c_res X = r_J3_init A out) : G X 0 0 0 [(0, vr (some this))] [] A := by
  have hX := hM.1
  unfold f_J3_init at hf
  refine g_aload_n hX dJ3_init_0 (lg_at 0 rfl) ?_
  obtain ⟨q1, hc1, hf⟩ := ob_some hf
  refine h_callI hM [] dJ3_init_1 cs_java_util_AbstractList_1_s (m_J2_init hc1) rfl rfl rfl rfl ?_
  refine g_aload_n hX dJ3_init_4 (lg_at 0 rfl) ?_
  refine g_iconst hX dJ3_init_5 (0 : Int32) (by decide) ?_
  refine g_putI hX hf fs_java_util_AbstractList_7_8 ⟨_, rfl, Or.inl rfl⟩ rfl dJ3_init_6 (fun A6 hf => ?_)
  cases hf
  exact h_vret hM dJ3_init_9 hr rfl rfl

theorem m_J3_init {l : Launch} {this : Nat} {A : AH} {out : AH} (h : f_J3_init this A = some out) : MetF l yJ3_init (Cond.code yJ3_init cJ3_init 1 none) rm_J3_init [vr (some this)] A (r_J3_init A out) :=
  metF_of rfl rfl (Nat.le_of_ble_eq_true rfl) fun X hX hl hR hnm hr h1 h2 hno => w_f_J3_init (X := X) ⟨hX, hR, h1, h2, fun _ => ⟨hnm, hno⟩⟩ h hr

/-! java/util/ArrayList.<init>()V -/
def rm_J4_init : Room := { frames := 3, cells := 0, slots := 0, locals := 64 }
def r_J4_init (_A : AH) (o : AH) : (Option AV × AH) ⊕ (Nat × AH) := .inl (none, o)
set_option maxRecDepth 100000 in
theorem w_f_J4_init {X : Ctx} (hM : MX X yJ4_init cJ4_init 1 "java/util/ArrayList" none rm_J4_init []) {this : Nat} {A : AH} {out : AH} (hf : f_J4_init this A = some out) (hr : c_res X = r_J4_init A out) : G X 0 0 0 [(0, vr (some this))] [] A := by
  have hX := hM.1
  unfold f_J4_init at hf
  refine g_aload_n hX dJ4_init_0 (lg_at 0 rfl) ?_
  obtain ⟨A1, hc1, hf⟩ := ob_some hf
  refine h_callI hM [] dJ4_init_1 cs_java_util_ArrayList_1_s (m_J3_init hc1) rfl rfl rfl rfl ?_
  refine g_aload_n hX dJ4_init_4 (lg_at 0 rfl) ?_
  refine g_get0 hX dJ4_init_5 (lw_LW q186) ?_
  refine g_putR hX hf fs_java_util_ArrayList_9_8 ⟨_, rfl, Or.inl rfl⟩ rfl dJ4_init_8 (fun A8 hf => ?_)
  cases hf
  exact h_vret hM dJ4_init_11 hr rfl rfl

theorem m_J4_init {l : Launch} {this : Nat} {A : AH} {out : AH} (h : f_J4_init this A = some out) : MetF l yJ4_init (Cond.code yJ4_init cJ4_init 1 none) rm_J4_init [vr (some this)] A (r_J4_init A out) :=
  metF_of rfl rfl (Nat.le_of_ble_eq_true rfl) fun X hX hl hR hnm hr h1 h2 hno => w_f_J4_init (X := X) ⟨hX, hR, h1, h2, fun _ => ⟨hnm, hno⟩⟩ h hr

/-! SlimeNet$Plate.<init>()V -/
def rm_X2_init : Room := { frames := 4, cells := 4, slots := 21, locals := 84 }
def r_X2_init (_A : AH) (o : AH) : (Option AV × AH) ⊕ (Nat × AH) := .inl (none, o)
set_option maxRecDepth 100000 in
theorem w_f_X2_init {X : Ctx} (hM : MX X yX2_init cX2_init 1 "SlimeNet$Plate" none rm_X2_init []) {this : Nat} {A : AH} {out : AH} (hf : f_X2_init this A = some out) (hr : c_res X = r_X2_init A out) : G X 0 0 0 [(0, vr (some this))] [] A := by
  have hX := hM.1
  unfold f_X2_init at hf
  refine g_aload_n hX dX2_init_0 (lg_at 0 rfl) ?_
  refine h_objInit hM dX2_init_1 (lw_LW q173) (lw_LW q99) (lw_LW q100) rfl rfl ?_
  refine g_aload_n hX dX2_init_4 (lg_at 0 rfl) ?_
  refine g_bipush hX dX2_init_5 (6 : Int32) (by decide) ?_
  refine h_newa .long hM dX2_init_7 rfl (Or.inr (Or.inr (Or.inr ⟨rfl, rfl⟩))) (lw_LW q201) hf rfl (fun A7 hf => ?_)
  refine g_putR hX hf fs_SlimeNet_Plate_9_3 ⟨_, rfl, Or.inr ⟨rfl, (hM.2.2.2.2 (by decide)).1.trans rfl, rfl⟩⟩ rfl dX2_init_9 (fun A9 hf => ?_)
  refine g_aload_n hX dX2_init_12 (lg_at 0 rfl) ?_
  refine h_newF hM dX2_init_13 (by decide) rfl (lw_LW q174) (lw_LW q175) (lw_LW q77) rfl hf (fun A13 hf => ?_)
  refine g_dup hX dX2_init_16 rfl ?_
  obtain ⟨A17, hc17, hf⟩ := ob_some hf
  refine h_callI hM [] dX2_init_17 cs_SlimeNet_Plate_17_s (m_J4_init hc17) rfl rfl rfl rfl ?_
  refine g_putR hX hf fs_SlimeNet_Plate_18_3 ⟨_, rfl, Or.inr ⟨rfl, (hM.2.2.2.2 (by decide)).1.trans rfl, rfl⟩⟩ rfl dX2_init_20 (fun A20 hf => ?_)
  refine g_aload_n hX dX2_init_23 (lg_at 0 rfl) ?_
  refine g_bipush hX dX2_init_24 (6 : Int32) (by decide) ?_
  refine h_newa .int hM dX2_init_26 rfl (Or.inl ⟨rfl, rfl⟩) (lw_LW q259) hf rfl (fun A26 hf => ?_)
  refine g_putR hX hf fs_SlimeNet_Plate_22_3 ⟨_, rfl, Or.inr ⟨rfl, (hM.2.2.2.2 (by decide)).1.trans rfl, rfl⟩⟩ rfl dX2_init_28 (fun A28 hf => ?_)
  refine g_aload_n hX dX2_init_31 (lg_at 0 rfl) ?_
  refine g_bipush hX dX2_init_32 (6 : Int32) (by decide) ?_
  refine h_newa .int hM dX2_init_34 rfl (Or.inl ⟨rfl, rfl⟩) (lw_LW q259) hf rfl (fun A34 hf => ?_)
  refine g_putR hX hf fs_SlimeNet_Plate_26_3 ⟨_, rfl, Or.inr ⟨rfl, (hM.2.2.2.2 (by decide)).1.trans rfl, rfl⟩⟩ rfl dX2_init_36 (fun A36 hf => ?_)
  refine g_aload_n hX dX2_init_39 (lg_at 0 rfl) ?_
  refine g_iconst hX dX2_init_40 (5 : Int32) (by decide) ?_
  refine g_putI hX hf fs_SlimeNet_Plate_29_3 ⟨_, rfl, Or.inl rfl⟩ rfl dX2_init_41 (fun A41 hf => ?_)
  refine g_aload_n hX dX2_init_44 (lg_at 0 rfl) ?_
  refine g_iconst hX dX2_init_45 (2 : Int32) (by decide) ?_
  refine g_putI hX hf fs_SlimeNet_Plate_33_3 ⟨_, rfl, Or.inl rfl⟩ rfl dX2_init_46 (fun A46 hf => ?_)
  refine g_aload_n hX dX2_init_49 (lg_at 0 rfl) ?_
  refine g_iconst hX dX2_init_50 (3 : Int32) (by decide) ?_
  refine g_putI hX hf fs_SlimeNet_Plate_36_3 ⟨_, rfl, Or.inl rfl⟩ rfl dX2_init_51 (fun A51 hf => ?_)
  refine g_aload_n hX dX2_init_54 (lg_at 0 rfl) ?_
  refine g_iconst hX dX2_init_55 (5 : Int32) (by decide) ?_
  refine g_putI hX hf fs_SlimeNet_Plate_39_3 ⟨_, rfl, Or.inl rfl⟩ rfl dX2_init_56 (fun A56 hf => ?_)
  cases hf
  exact h_vret hM dX2_init_59 hr rfl rfl

theorem m_X2_init {l : Launch} {this : Nat} {A : AH} {out : AH} (h : f_X2_init this A = some out) : MetF l yX2_init (Cond.code yX2_init cX2_init 1 none) rm_X2_init [vr (some this)] A (r_X2_init A out) :=
  metF_of rfl rfl (Nat.le_of_ble_eq_true rfl) fun X hX hl hR hnm hr h1 h2 hno => w_f_X2_init (X := X) ⟨hX, hR, h1, h2, fun _ => ⟨hnm, hno⟩⟩ h hr

/-! SlimeNet$Slime.<init>()V -/
def rm_X3_init : Room := { frames := 1, cells := 7, slots := 84, locals := 24 }
def r_X3_init (_A : AH) (o : AH) : (Option AV × AH) ⊕ (Nat × AH) := .inl (none, o)
set_option maxRecDepth 100000 in
theorem w_f_X3_init {X : Ctx} (hM : MX X yX3_init cX3_init 1 "SlimeNet$Slime" none rm_X3_init []) {this : Nat} {A : AH} {out : AH} (hf : f_X3_init this A = some out) (hr : c_res X = r_X3_init A out) : G X 0 0 0 [(0, vr (some this))] [] A := by
  have hX := hM.1
  unfold f_X3_init at hf
  refine g_aload_n hX dX3_init_0 (lg_at 0 rfl) ?_
  refine h_objInit hM dX3_init_1 (lw_LW q265) (lw_LW q99) (lw_LW q100) rfl rfl ?_
  refine g_aload_n hX dX3_init_4 (lg_at 0 rfl) ?_
  refine g_bipush hX dX3_init_5 (10 : Int32) (by decide) ?_
  refine h_newa .int hM dX3_init_7 rfl (Or.inl ⟨rfl, rfl⟩) (lw_LW q259) hf rfl (fun A7 hf => ?_)
  refine g_putR hX hf fs_SlimeNet_Slime_9_4 ⟨_, rfl, Or.inr ⟨rfl, (hM.2.2.2.2 (by decide)).1.trans rfl, rfl⟩⟩ rfl dX3_init_9 (fun A9 hf => ?_)
  refine g_aload_n hX dX3_init_12 (lg_at 0 rfl) ?_
  refine g_bipush hX dX3_init_13 (10 : Int32) (by decide) ?_
  refine h_newa .int hM dX3_init_15 rfl (Or.inl ⟨rfl, rfl⟩) (lw_LW q259) hf rfl (fun A15 hf => ?_)
  refine g_putR hX hf fs_SlimeNet_Slime_15_4 ⟨_, rfl, Or.inr ⟨rfl, (hM.2.2.2.2 (by decide)).1.trans rfl, rfl⟩⟩ rfl dX3_init_17 (fun A17 hf => ?_)
  refine g_aload_n hX dX3_init_20 (lg_at 0 rfl) ?_
  refine g_bipush hX dX3_init_21 (6 : Int32) (by decide) ?_
  refine h_newa .int hM dX3_init_23 rfl (Or.inl ⟨rfl, rfl⟩) (lw_LW q259) hf rfl (fun A23 hf => ?_)
  refine g_putR hX hf fs_SlimeNet_Slime_18_4 ⟨_, rfl, Or.inr ⟨rfl, (hM.2.2.2.2 (by decide)).1.trans rfl, rfl⟩⟩ rfl dX3_init_25 (fun A25 hf => ?_)
  refine g_aload_n hX dX3_init_28 (lg_at 0 rfl) ?_
  refine g_bipush hX dX3_init_29 (36 : Int32) (by decide) ?_
  refine h_newa .long hM dX3_init_31 rfl (Or.inr (Or.inr (Or.inr ⟨rfl, rfl⟩))) (lw_LW q201) hf rfl (fun A31 hf => ?_)
  refine g_putR hX hf fs_SlimeNet_Slime_21_4 ⟨_, rfl, Or.inr ⟨rfl, (hM.2.2.2.2 (by decide)).1.trans rfl, rfl⟩⟩ rfl dX3_init_33 (fun A33 hf => ?_)
  refine g_aload_n hX dX3_init_36 (lg_at 0 rfl) ?_
  refine g_bipush hX dX3_init_37 (6 : Int32) (by decide) ?_
  refine h_newa .long hM dX3_init_39 rfl (Or.inr (Or.inr (Or.inr ⟨rfl, rfl⟩))) (lw_LW q201) hf rfl (fun A39 hf => ?_)
  refine g_putR hX hf fs_SlimeNet_Slime_25_4 ⟨_, rfl, Or.inr ⟨rfl, (hM.2.2.2.2 (by decide)).1.trans rfl, rfl⟩⟩ rfl dX3_init_41 (fun A41 hf => ?_)
  refine g_aload_n hX dX3_init_44 (lg_at 0 rfl) ?_
  refine g_bipush hX dX3_init_45 (6 : Int32) (by decide) ?_
  refine h_newa .long hM dX3_init_47 rfl (Or.inr (Or.inr (Or.inr ⟨rfl, rfl⟩))) (lw_LW q201) hf rfl (fun A47 hf => ?_)
  refine g_putR hX hf fs_SlimeNet_Slime_28_4 ⟨_, rfl, Or.inr ⟨rfl, (hM.2.2.2.2 (by decide)).1.trans rfl, rfl⟩⟩ rfl dX3_init_49 (fun A49 hf => ?_)
  refine g_aload_n hX dX3_init_52 (lg_at 0 rfl) ?_
  refine g_bipush hX dX3_init_53 (10 : Int32) (by decide) ?_
  refine h_newa .long hM dX3_init_55 rfl (Or.inr (Or.inr (Or.inr ⟨rfl, rfl⟩))) (lw_LW q201) hf rfl (fun A55 hf => ?_)
  refine g_putR hX hf fs_SlimeNet_Slime_31_4 ⟨_, rfl, Or.inr ⟨rfl, (hM.2.2.2.2 (by decide)).1.trans rfl, rfl⟩⟩ rfl dX3_init_57 (fun A57 hf => ?_)
  cases hf
  exact h_vret hM dX3_init_60 hr rfl rfl

theorem m_X3_init {l : Launch} {this : Nat} {A : AH} {out : AH} (h : f_X3_init this A = some out) : MetF l yX3_init (Cond.code yX3_init cX3_init 1 none) rm_X3_init [vr (some this)] A (r_X3_init A out) :=
  metF_of rfl rfl (Nat.le_of_ble_eq_true rfl) fun X hX hl hR hnm hr h1 h2 hno => w_f_X3_init (X := X) ⟨hX, hR, h1, h2, fun _ => ⟨hnm, hno⟩⟩ h hr

/-! java/util/ArrayList.size()I -/
def rm_J4_size : Room := { frames := 1, cells := 0, slots := 0, locals := 24 }
def r_J4_size (A : AH) (o : Int32) : (Option AV × AH) ⊕ (Nat × AH) := .inl (some (vi o), A)
set_option maxRecDepth 100000 in
theorem w_f_J4_size {X : Ctx} (hM : MX X yJ4_size cJ4_size 1 "java/util/ArrayList" (some Jvm.ClassFile.FieldType.int) rm_J4_size []) {this : Nat} {A : AH} {out : Int32} (hf : f_J4_size this A = some out) (hr : c_res X = r_J4_size A out) : G X 0 0 0 [(0, vr (some this))] [] A := by
  have hX := hM.1
  unfold f_J4_size at hf
  refine g_aload_n hX dJ4_size_0 (lg_at 0 rfl) ?_
  refine g_getI hX hf fs_java_util_ArrayList_48_8 rfl dJ4_size_1 (fun v1 hf => ?_)
  cases hf
  exact h_iret hM dJ4_size_4 hr rfl rfl

theorem m_J4_size {l : Launch} {this : Nat} {A : AH} {out : Int32} (h : f_J4_size this A = some out) : MetF l yJ4_size (Cond.code yJ4_size cJ4_size 1 (some Jvm.ClassFile.FieldType.int)) rm_J4_size [vr (some this)] A (r_J4_size A out) :=
  metF_of rfl rfl (Nat.le_of_ble_eq_true rfl) fun X hX hl hR hnm hr h1 h2 hno => w_f_J4_size (X := X) ⟨hX, hR, h1, h2, fun _ => ⟨hnm, hno⟩⟩ h hr

/-! SlimeNet$Slime.begin(LSlimeNet$Plate;)V -/
def rm_X3_begin : Room := { frames := 2, cells := 0, slots := 0, locals := 44 }
def r_X3_begin (_A : AH) (o : AH) : (Option AV × AH) ⊕ (Nat × AH) := .inl (none, o)
def k_X3_begin_28 (X : Ctx) (this : Nat) (x1 : Option Nat) : ((Int32 × AH) ⊕ (AH)) → Prop
  | .inl (x2, A) => G X 0 0 28 [(0, vr (some this)), (1, vr x1), (2, vi x2)] [] A
  | .inr A => G X 0 0 72 [] [] A

set_option maxRecDepth 100000 in
theorem w_f_X3_begin_58 {X : Ctx} (hM : MX X yX3_begin cX3_begin 3 "SlimeNet$Slime" none rm_X3_begin []) {this : Nat} {x1 : Option Nat} {x2 : Int32} {t0 : Int32} {t1 : Int32} {t2 : Option Nat} {A : AH} {out : (Int32 × AH) ⊕ (AH)} (hf : f_X3_begin_58 this x1 x2 t0 t1 t2 A = some out) (K : k_X3_begin_28 X this x1 out) : G X 0 0 58 [(0, vr (some this)), (1, vr x1), (2, vi x2)] [vi t0, vi t1, vr t2] A := by
  have hX := hM.1
  unfold f_X3_begin_58 at hf
  refine g_iast hX hf dX3_begin_58 (fun A58 hf => ?_)
  refine g_aload_n hX dX3_begin_59 (lg_at 0 rfl) ?_
  refine g_getR hX hf fs_SlimeNet_Slime_15_4 rfl dX3_begin_60 (fun v60 hf => ?_)
  refine g_iload_n hX dX3_begin_63 (lg_at 2 rfl) ?_
  refine g_iconst hX dX3_begin_64 (0 : Int32) (by decide) ?_
  refine g_iast hX hf dX3_begin_65 (fun A65 hf => ?_)
  refine g_iinc hX dX3_begin_66 (1 : Int32) (x2 + (1 : Int32)) [(2, vi (x2 + (1 : Int32))), (0, vr (some this)), (1, vr x1)] (by decide) rfl (lg_at 2 rfl) (by decide) rfl ?_
  refine g_goto hX dX3_begin_69 28 (by decide) ?_
  cases hf
  exact g_pick (show G X _ _ _ _ _ _ from K) [1, 2, 0] rfl

set_option maxRecDepth 100000 in
theorem w_s_X3_begin_28 {X : Ctx} (hM : MX X yX3_begin cX3_begin 3 "SlimeNet$Slime" none rm_X3_begin []) {this : Nat} {x1 : Option Nat} {st : Int32 × AH} {out : (Int32 × AH) ⊕ (AH)} (hf : s_X3_begin_28 this x1 st = some out) (K : k_X3_begin_28 X this x1 out) : k_X3_begin_28 X this x1 (.inl st) := by
  have hX := hM.1
  obtain ⟨x2, A⟩ := st
  unfold s_X3_begin_28 at hf
  dsimp only at hf
  show G X 0 0 28 [(0, vr (some this)), (1, vr x1), (2, vi x2)] [] A
  refine g_iload_n hX dX3_begin_28 (lg_at 2 rfl) ?_
  refine g_bipush hX dX3_begin_29 (10 : Int32) (by decide) ?_
  refine g_icmp_ge hX dX3_begin_31 72 hf (by decide) (fun c31 hf => ?_) (fun c31 hf => ?_)
  · cases hf
    exact g_pick (show G X _ _ _ _ _ _ from K) [] rfl
  · refine g_aload_n hX dX3_begin_34 (lg_at 0 rfl) ?_
    refine g_getR hX hf fs_SlimeNet_Slime_9_4 rfl dX3_begin_35 (fun v35 hf => ?_)
    refine g_iload_n hX dX3_begin_38 (lg_at 2 rfl) ?_
    refine g_iload_n hX dX3_begin_39 (lg_at 2 rfl) ?_
    refine g_aload_n hX dX3_begin_40 (lg_at 1 rfl) ?_
    refine g_getR hX hf fs_SlimeNet_Slime_52_3 rfl dX3_begin_41 (fun v41 hf => ?_)
    obtain ⟨k44, hk44, hf⟩ := ob_some hf
    obtain ⟨v44, hc44, hf⟩ := ob_some hf
    refine h_callV hM [] dX3_begin_44 cs_SlimeNet_Slime_56_8 hk44 (m_J4_size hc44) rfl rfl rfl rfl ?_
    refine g_icmp_ge hX dX3_begin_47 57 hf (by decide) (fun c47 hf => ?_) (fun c47 hf => ?_)
    · refine g_iconst hX dX3_begin_57 (0 : Int32) (by decide) ?_
      exact g_pick (w_f_X3_begin_58 hM hf K) [0, 1, 2] rfl
    · refine g_aload_n hX dX3_begin_50 (lg_at 1 rfl) ?_
      refine g_getI hX hf fs_SlimeNet_Slime_62_3 rfl dX3_begin_51 (fun v51 hf => ?_)
      refine g_goto hX dX3_begin_54 58 (by decide) ?_
      exact g_pick (w_f_X3_begin_58 hM hf K) [0, 1, 2] rfl

set_option maxRecDepth 100000 in
theorem w_l_X3_begin_28 {X : Ctx} (hM : MX X yX3_begin cX3_begin 3 "SlimeNet$Slime" none rm_X3_begin []) {this : Nat} {x1 : Option Nat} {x2 : Int32} {A : AH} {out : AH} (hf : l_X3_begin_28 this x1 x2 A = some out) (hr : c_res X = r_X3_begin A out) : G X 0 0 28 [(0, vr (some this)), (1, vr x1), (2, vi x2)] [] A := by
  have hX := hM.1
  unfold l_X3_begin_28 at hf
  obtain ⟨e, hw, hf⟩ := ob_some hf
  refine (whl_ind (k_X3_begin_28 X this x1) (fun st o hs K => w_s_X3_begin_28 hM hs K) hw ?_ : k_X3_begin_28 X this x1 (.inl (x2, A)))
  revert hf hw; generalize e = A; intro hw hf
  dsimp only at hf
  show G X 0 0 72 [] [] A
  cases hf
  exact h_vret hM dX3_begin_72 hr rfl rfl

set_option maxRecDepth 100000 in
theorem w_f_X3_begin {X : Ctx} (hM : MX X yX3_begin cX3_begin 3 "SlimeNet$Slime" none rm_X3_begin []) {this : Nat} {x1 : Option Nat} {A : AH} {out : AH} (hf : f_X3_begin this x1 A = some out) (hr : c_res X = r_X3_begin A out) : G X 0 0 0 [(0, vr (some this)), (1, vr x1)] [] A := by
  have hX := hM.1
  unfold f_X3_begin at hf
  refine g_aload_n hX dX3_begin_0 (lg_at 0 rfl) ?_
  refine g_aload_n hX dX3_begin_1 (lg_at 1 rfl) ?_
  refine g_putR hX hf fs_SlimeNet_Slime_34_4 ⟨_, rfl, Or.inl rfl⟩ rfl dX3_begin_2 (fun A2 hf => ?_)
  refine g_aload_n hX dX3_begin_5 (lg_at 0 rfl) ?_
  refine g_aload_n hX dX3_begin_6 (lg_at 1 rfl) ?_
  refine g_getI hX hf fs_SlimeNet_Slime_38_3 rfl dX3_begin_7 (fun v7 hf => ?_)
  refine g_putI hX hf fs_SlimeNet_Slime_44_4 ⟨_, rfl, Or.inl rfl⟩ rfl dX3_begin_10 (fun A10 hf => ?_)
  refine g_aload_n hX dX3_begin_13 (lg_at 0 rfl) ?_
  refine g_aload_n hX dX3_begin_14 (lg_at 1 rfl) ?_
  refine g_getI hX hf fs_SlimeNet_Slime_45_3 rfl dX3_begin_15 (fun v15 hf => ?_)
  refine g_putI hX hf fs_SlimeNet_Slime_48_4 ⟨_, rfl, Or.inl rfl⟩ rfl dX3_begin_18 (fun A18 hf => ?_)
  refine g_aload_n hX dX3_begin_21 (lg_at 0 rfl) ?_
  refine g_iconst hX dX3_begin_22 (0 : Int32) (by decide) ?_
  refine g_putI hX hf fs_SlimeNet_Slime_49_4 ⟨_, rfl, Or.inl rfl⟩ rfl dX3_begin_23 (fun A23 hf => ?_)
  refine g_iconst hX dX3_begin_26 (0 : Int32) (by decide) ?_
  refine g_istore_n hX dX3_begin_27 [(2, vi (0 : Int32)), (0, vr (some this)), (1, vr x1)] (by decide) rfl ?_
  exact g_pick (w_l_X3_begin_28 hM hf hr) [1, 2, 0] rfl

theorem m_X3_begin {l : Launch} {this : Nat} {x1 : Option Nat} {A : AH} {out : AH} (h : f_X3_begin this x1 A = some out) : MetF l yX3_begin (Cond.code yX3_begin cX3_begin 3 none) rm_X3_begin [vr (some this), vr x1] A (r_X3_begin A out) :=
  metF_of rfl rfl (Nat.le_of_ble_eq_true rfl) fun X hX hl hR hnm hr h1 h2 hno => w_f_X3_begin (X := X) ⟨hX, hR, h1, h2, fun _ => ⟨hnm, hno⟩⟩ h hr

/-! SlimeNet.<init>()V -/
def rm_X0_init : Room := { frames := 5, cells := 70, slots := 27093, locals := 104 }
def r_X0_init (_A : AH) (o : AH) : (Option AV × AH) ⊕ (Nat × AH) := .inl (none, o)
set_option maxRecDepth 100000 in
theorem w_f_X0_init_218 {X : Ctx} (hM : MX X yX0_init cX0_init 2 "SlimeNet" none rm_X0_init []) {this : Nat} {A : AH} {out : AH} (hf : f_X0_init_218 this A = some out) (hr : c_res X = r_X0_init A out) : G X 70 27093 218 [(0, vr (some this))] [] A := by
  have hX := hM.1
  unfold f_X0_init_218 at hf
  refine g_aload_n hX dX0_init_218 (lg_at 0 rfl) ?_
  refine g_getR hX hf fs_SlimeNet_34_1 rfl dX0_init_219 (fun v219 hf => ?_)
  refine g_aload_n hX dX0_init_222 (lg_at 0 rfl) ?_
  refine g_getR hX hf fs_SlimeNet_27_1 rfl dX0_init_223 (fun v223 hf => ?_)
  obtain ⟨k226, hk226, hf⟩ := ob_some hf
  obtain ⟨A226, hc226, hf⟩ := ob_some hf
  refine h_callV hM [vr v223] dX0_init_226 cs_SlimeNet_92_4 hk226 (m_X3_begin hc226) rfl rfl rfl rfl ?_
  refine g_aload_n hX dX0_init_229 (lg_at 0 rfl) ?_
  refine g_getR hX hf fs_SlimeNet_38_1 rfl dX0_init_230 (fun v230 hf => ?_)
  refine g_aload_n hX dX0_init_233 (lg_at 0 rfl) ?_
  refine g_getR hX hf fs_SlimeNet_27_1 rfl dX0_init_234 (fun v234 hf => ?_)
  obtain ⟨k237, hk237, hf⟩ := ob_some hf
  obtain ⟨A237, hc237, hf⟩ := ob_some hf
  refine h_callV hM [vr v234] dX0_init_237 cs_SlimeNet_92_4 hk237 (m_X3_begin hc237) rfl rfl rfl rfl ?_
  cases hf
  exact h_vret hM dX0_init_240 hr rfl rfl

set_option maxRecDepth 100000 in
theorem w_f_X0_init {X : Ctx} (hM : MX X yX0_init cX0_init 2 "SlimeNet" none rm_X0_init []) {this : Nat} {A : AH} {out : AH} (hf : f_X0_init this A = some out) (hr : c_res X = r_X0_init A out) : G X 0 0 0 [(0, vr (some this))] [] A := by
  have hX := hM.1
  unfold f_X0_init at hf
  refine g_aload_n hX dX0_init_0 (lg_at 0 rfl) ?_
  refine h_objInit hM dX0_init_1 (lw_LW q98) (lw_LW q99) (lw_LW q100) rfl rfl ?_
  refine g_aload_n hX dX0_init_4 (lg_at 0 rfl) ?_
  refine h_newF hM dX0_init_5 (by decide) rfl (lw_LW q101) (lw_LW q102) (lw_LW q73) rfl hf (fun A5 hf => ?_)
  refine g_dup hX dX0_init_8 rfl ?_
  obtain ⟨A9, hc9, hf⟩ := ob_some hf
  refine h_callI hM [] dX0_init_9 cs_SlimeNet_9_s (m_X1_init hc9) rfl rfl rfl rfl ?_
  refine g_putR hX hf fs_SlimeNet_10_1 ⟨_, rfl, Or.inr ⟨rfl, (hM.2.2.2.2 (by decide)).1.trans rfl, rfl⟩⟩ rfl dX0_init_12 (fun A12 hf => ?_)
  refine g_aload_n hX dX0_init_15 (lg_at 0 rfl) ?_
  refine g_sipush hX dX0_init_16 (700 : Int32) (by decide) ?_
  refine h_newa .byte hM dX0_init_19 rfl (Or.inr (Or.inl ⟨rfl, rfl⟩)) (lw_LW q200) hf rfl (fun A19 hf => ?_)
  refine g_putR hX hf fs_SlimeNet_16_1 ⟨_, rfl, Or.inr ⟨rfl, (hM.2.2.2.2 (by decide)).1.trans rfl, rfl⟩⟩ rfl dX0_init_21 (fun A21 hf => ?_)
  refine g_aload_n hX dX0_init_24 (lg_at 0 rfl) ?_
  refine g_iconst hX dX0_init_25 (-1 : Int32) (by decide) ?_
  refine g_putI hX hf fs_SlimeNet_20_1 ⟨_, rfl, Or.inl rfl⟩ rfl dX0_init_26 (fun A26 hf => ?_)
  refine g_aload_n hX dX0_init_29 (lg_at 0 rfl) ?_
  refine h_newF hM dX0_init_30 (by decide) rfl (lw_LW q168) (lw_LW q169) (lw_LW q74) rfl hf (fun A30 hf => ?_)
  refine g_dup hX dX0_init_33 rfl ?_
  obtain ⟨A34, hc34, hf⟩ := ob_some hf
  refine h_callIN hM [] dX0_init_34 cs_SlimeNet_26_s (m_X2_init hc34) rfl rfl rfl rfl ?_
  refine g_putR hX hf fs_SlimeNet_27_1 ⟨_, rfl, Or.inl rfl⟩ rfl dX0_init_37 (fun A37 hf => ?_)
  refine g_aload_n hX dX0_init_40 (lg_at 0 rfl) ?_
  refine h_newF hM dX0_init_41 (by decide) rfl (lw_LW q260) (lw_LW q261) (lw_LW q78) rfl hf (fun A41 hf => ?_)
  refine g_dup hX dX0_init_44 rfl ?_
  obtain ⟨A45, hc45, hf⟩ := ob_some hf
  refine h_callIN hM [] dX0_init_45 cs_SlimeNet_33_s (m_X3_init hc45) rfl rfl rfl rfl ?_
  refine g_putR hX hf fs_SlimeNet_34_1 ⟨_, rfl, Or.inr ⟨rfl, (hM.2.2.2.2 (by decide)).1.trans rfl, rfl⟩⟩ rfl dX0_init_48 (fun A48 hf => ?_)
  refine g_aload_n hX dX0_init_51 (lg_at 0 rfl) ?_
  refine h_newF hM dX0_init_52 (by decide) rfl (lw_LW q260) (lw_LW q261) (lw_LW q78) rfl hf (fun A52 hf => ?_)
  refine g_dup hX dX0_init_55 rfl ?_
  obtain ⟨A56, hc56, hf⟩ := ob_some hf
  refine h_callIN hM [] dX0_init_56 cs_SlimeNet_33_s (m_X3_init hc56) rfl rfl rfl rfl ?_
  refine g_putR hX hf fs_SlimeNet_38_1 ⟨_, rfl, Or.inr ⟨rfl, (hM.2.2.2.2 (by decide)).1.trans rfl, rfl⟩⟩ rfl dX0_init_59 (fun A59 hf => ?_)
  refine g_aload_n hX dX0_init_62 (lg_at 0 rfl) ?_
  refine g_iconst hX dX0_init_63 (4 : Int32) (by decide) ?_
  refine h_anew hM dX0_init_64 (Or.inr ⟨rfl, rfl⟩) (lw_LW q260) hf rfl (fun A64 hf => ?_)
  refine g_putR hX hf fs_SlimeNet_41_1 ⟨_, rfl, Or.inr ⟨rfl, (hM.2.2.2.2 (by decide)).1.trans rfl, rfl⟩⟩ rfl dX0_init_67 (fun A67 hf => ?_)
  refine g_aload_n hX dX0_init_70 (lg_at 0 rfl) ?_
  refine g_iconst hX dX0_init_71 (4 : Int32) (by decide) ?_
  refine h_newa .boolean hM dX0_init_72 rfl (Or.inr (Or.inr (Or.inl ⟨rfl, rfl⟩))) (lw_LW q418) hf rfl (fun A72 hf => ?_)
  refine g_putR hX hf fs_SlimeNet_45_1 ⟨_, rfl, Or.inr ⟨rfl, (hM.2.2.2.2 (by decide)).1.trans rfl, rfl⟩⟩ rfl dX0_init_74 (fun A74 hf => ?_)
  refine g_aload_n hX dX0_init_77 (lg_at 0 rfl) ?_
  refine g_iconst hX dX0_init_78 (-1 : Int32) (by decide) ?_
  refine g_putI hX hf fs_SlimeNet_49_1 ⟨_, rfl, Or.inl rfl⟩ rfl dX0_init_79 (fun A79 hf => ?_)
  refine g_aload_n hX dX0_init_82 (lg_at 0 rfl) ?_
  refine g_sipush hX dX0_init_83 (4020 : Int32) (by decide) ?_
  refine h_newa .int hM dX0_init_86 rfl (Or.inl ⟨rfl, rfl⟩) (lw_LW q259) hf rfl (fun A86 hf => ?_)
  refine g_putR hX hf fs_SlimeNet_52_1 ⟨_, rfl, Or.inr ⟨rfl, (hM.2.2.2.2 (by decide)).1.trans rfl, rfl⟩⟩ rfl dX0_init_88 (fun A88 hf => ?_)
  refine g_aload_n hX dX0_init_91 (lg_at 0 rfl) ?_
  refine g_sipush hX dX0_init_92 (1024 : Int32) (by decide) ?_
  refine h_newa .int hM dX0_init_95 rfl (Or.inl ⟨rfl, rfl⟩) (lw_LW q259) hf rfl (fun A95 hf => ?_)
  refine g_putR hX hf fs_SlimeNet_56_1 ⟨_, rfl, Or.inr ⟨rfl, (hM.2.2.2.2 (by decide)).1.trans rfl, rfl⟩⟩ rfl dX0_init_97 (fun A97 hf => ?_)
  refine g_aload_n hX dX0_init_100 (lg_at 0 rfl) ?_
  refine g_sipush hX dX0_init_101 (1024 : Int32) (by decide) ?_
  refine h_newa .int hM dX0_init_104 rfl (Or.inl ⟨rfl, rfl⟩) (lw_LW q259) hf rfl (fun A104 hf => ?_)
  refine g_putR hX hf fs_SlimeNet_59_1 ⟨_, rfl, Or.inr ⟨rfl, (hM.2.2.2.2 (by decide)).1.trans rfl, rfl⟩⟩ rfl dX0_init_106 (fun A106 hf => ?_)
  refine g_aload_n hX dX0_init_109 (lg_at 0 rfl) ?_
  refine g_sipush hX dX0_init_110 (1024 : Int32) (by decide) ?_
  refine h_newa .int hM dX0_init_113 rfl (Or.inl ⟨rfl, rfl⟩) (lw_LW q259) hf rfl (fun A113 hf => ?_)
  refine g_putR hX hf fs_SlimeNet_62_1 ⟨_, rfl, Or.inr ⟨rfl, (hM.2.2.2.2 (by decide)).1.trans rfl, rfl⟩⟩ rfl dX0_init_115 (fun A115 hf => ?_)
  refine g_aload_n hX dX0_init_118 (lg_at 0 rfl) ?_
  refine g_bipush hX dX0_init_119 (16 : Int32) (by decide) ?_
  refine h_newa .int hM dX0_init_121 rfl (Or.inl ⟨rfl, rfl⟩) (lw_LW q259) hf rfl (fun A121 hf => ?_)
  refine g_putR hX hf fs_SlimeNet_65_1 ⟨_, rfl, Or.inr ⟨rfl, (hM.2.2.2.2 (by decide)).1.trans rfl, rfl⟩⟩ rfl dX0_init_123 (fun A123 hf => ?_)
  refine g_aload_n hX dX0_init_126 (lg_at 0 rfl) ?_
  refine g_bipush hX dX0_init_127 (16 : Int32) (by decide) ?_
  refine h_newa .int hM dX0_init_129 rfl (Or.inl ⟨rfl, rfl⟩) (lw_LW q259) hf rfl (fun A129 hf => ?_)
  refine g_putR hX hf fs_SlimeNet_68_1 ⟨_, rfl, Or.inr ⟨rfl, (hM.2.2.2.2 (by decide)).1.trans rfl, rfl⟩⟩ rfl dX0_init_131 (fun A131 hf => ?_)
  refine g_aload_n hX dX0_init_134 (lg_at 0 rfl) ?_
  refine g_bipush hX dX0_init_135 (16 : Int32) (by decide) ?_
  refine h_newa .int hM dX0_init_137 rfl (Or.inl ⟨rfl, rfl⟩) (lw_LW q259) hf rfl (fun A137 hf => ?_)
  refine g_putR hX hf fs_SlimeNet_71_1 ⟨_, rfl, Or.inr ⟨rfl, (hM.2.2.2.2 (by decide)).1.trans rfl, rfl⟩⟩ rfl dX0_init_139 (fun A139 hf => ?_)
  refine g_aload_n hX dX0_init_142 (lg_at 0 rfl) ?_
  refine g_bipush hX dX0_init_143 (20 : Int32) (by decide) ?_
  refine h_newa .int hM dX0_init_145 rfl (Or.inl ⟨rfl, rfl⟩) (lw_LW q259) hf rfl (fun A145 hf => ?_)
  refine g_putR hX hf fs_SlimeNet_74_1 ⟨_, rfl, Or.inr ⟨rfl, (hM.2.2.2.2 (by decide)).1.trans rfl, rfl⟩⟩ rfl dX0_init_147 (fun A147 hf => ?_)
  refine g_aload_n hX dX0_init_150 (lg_at 0 rfl) ?_
  refine g_bipush hX dX0_init_151 (20 : Int32) (by decide) ?_
  refine h_newa .int hM dX0_init_153 rfl (Or.inl ⟨rfl, rfl⟩) (lw_LW q259) hf rfl (fun A153 hf => ?_)
  refine g_putR hX hf fs_SlimeNet_77_1 ⟨_, rfl, Or.inr ⟨rfl, (hM.2.2.2.2 (by decide)).1.trans rfl, rfl⟩⟩ rfl dX0_init_155 (fun A155 hf => ?_)
  refine g_aload_n hX dX0_init_158 (lg_at 0 rfl) ?_
  refine g_bipush hX dX0_init_159 (20 : Int32) (by decide) ?_
  refine h_newa .int hM dX0_init_161 rfl (Or.inl ⟨rfl, rfl⟩) (lw_LW q259) hf rfl (fun A161 hf => ?_)
  refine g_putR hX hf fs_SlimeNet_80_1 ⟨_, rfl, Or.inr ⟨rfl, (hM.2.2.2.2 (by decide)).1.trans rfl, rfl⟩⟩ rfl dX0_init_163 (fun A163 hf => ?_)
  refine g_aload_n hX dX0_init_166 (lg_at 0 rfl) ?_
  refine g_bipush hX dX0_init_167 (41 : Int32) (by decide) ?_
  refine h_newa .int hM dX0_init_169 rfl (Or.inl ⟨rfl, rfl⟩) (lw_LW q259) hf rfl (fun A169 hf => ?_)
  refine g_putR hX hf fs_SlimeNet_83_1 ⟨_, rfl, Or.inr ⟨rfl, (hM.2.2.2.2 (by decide)).1.trans rfl, rfl⟩⟩ rfl dX0_init_171 (fun A171 hf => ?_)
  refine g_aload_n hX dX0_init_174 (lg_at 0 rfl) ?_
  refine g_sipush hX dX0_init_175 (18081 : Int32) (by decide) ?_
  refine h_newa .int hM dX0_init_178 rfl (Or.inl ⟨rfl, rfl⟩) (lw_LW q259) hf rfl (fun A178 hf => ?_)
  refine g_putR hX hf fs_SlimeNet_86_1 ⟨_, rfl, Or.inr ⟨rfl, (hM.2.2.2.2 (by decide)).1.trans rfl, rfl⟩⟩ rfl dX0_init_180 (fun A180 hf => ?_)
  refine g_aload_n hX dX0_init_183 (lg_at 0 rfl) ?_
  refine g_sipush hX dX0_init_184 (441 : Int32) (by decide) ?_
  refine h_newa .int hM dX0_init_187 rfl (Or.inl ⟨rfl, rfl⟩) (lw_LW q259) hf rfl (fun A187 hf => ?_)
  refine g_putR hX hf fs_SlimeNet_89_1 ⟨_, rfl, Or.inr ⟨rfl, (hM.2.2.2.2 (by decide)).1.trans rfl, rfl⟩⟩ rfl dX0_init_189 (fun A189 hf => ?_)
  refine g_iconst hX dX0_init_192 (0 : Int32) (by decide) ?_
  refine g_istore_n hX dX0_init_193 [(1, vi (0 : Int32)), (0, vr (some this))] (by decide) rfl ?_
  refine g_iload_n hX dX0_init_194 (lg_at 0 rfl) ?_
  refine g_iconst hX dX0_init_195 (4 : Int32) (by decide) ?_
  refine g_icmp_ge hX dX0_init_196 218 hf (by decide) (fun c196 hf => ?_) (fun c196 hf => ?_)
  · exact g_wide (g_pick (w_f_X0_init_218 hM hf hr) [1] rfl) (Nat.le_of_ble_eq_true rfl) (Nat.le_of_ble_eq_true rfl)
  · refine g_aload_n hX dX0_init_199 (lg_at 1 rfl) ?_
    refine g_getR hX hf fs_SlimeNet_41_1 rfl dX0_init_200 (fun v200 hf => ?_)
    refine g_iload_n hX dX0_init_203 (lg_at 0 rfl) ?_
    refine h_newF hM dX0_init_204 (by decide) rfl (lw_LW q260) (lw_LW q261) (lw_LW q78) rfl hf (fun A204 hf => ?_)
    refine g_dup hX dX0_init_207 rfl ?_
    obtain ⟨A208, hc208, hf⟩ := ob_some hf
    refine h_callIN hM [] dX0_init_208 cs_SlimeNet_33_s (m_X3_init hc208) rfl rfl rfl rfl ?_
    refine g_aast hX (Or.inr ⟨rfl, rfl⟩) rfl (by decide) (Or.inr rfl) hf dX0_init_211 (fun A211 hf => ?_)
    refine g_iinc hX dX0_init_212 (1 : Int32) ((0 : Int32) + (1 : Int32)) [(1, vi ((0 : Int32) + (1 : Int32))), (0, vr (some this))] (by decide) rfl (lg_at 0 rfl) (by decide) rfl ?_
    refine g_goto hX dX0_init_215 194 (by decide) ?_
    refine g_iload_n hX dX0_init_194 (lg_at 0 rfl) ?_
    refine g_iconst hX dX0_init_195 (4 : Int32) (by decide) ?_
    refine g_icmp_ge hX dX0_init_196 218 hf (by decide) (fun c196 hf => ?_) (fun c196 hf => ?_)
    · exact g_wide (g_pick (w_f_X0_init_218 hM hf hr) [1] rfl) (Nat.le_of_ble_eq_true rfl) (Nat.le_of_ble_eq_true rfl)
    · refine g_aload_n hX dX0_init_199 (lg_at 1 rfl) ?_
      refine g_getR hX hf fs_SlimeNet_41_1 rfl dX0_init_200 (fun v200 hf => ?_)
      refine g_iload_n hX dX0_init_203 (lg_at 0 rfl) ?_
      refine h_newF hM dX0_init_204 (by decide) rfl (lw_LW q260) (lw_LW q261) (lw_LW q78) rfl hf (fun A204 hf => ?_)
      refine g_dup hX dX0_init_207 rfl ?_
      obtain ⟨A208, hc208, hf⟩ := ob_some hf
      refine h_callIN hM [] dX0_init_208 cs_SlimeNet_33_s (m_X3_init hc208) rfl rfl rfl rfl ?_
      refine g_aast hX (Or.inr ⟨rfl, rfl⟩) rfl (by decide) (Or.inr rfl) hf dX0_init_211 (fun A211 hf => ?_)
      refine g_iinc hX dX0_init_212 (1 : Int32) (((0 : Int32) + (1 : Int32)) + (1 : Int32)) [(1, vi (((0 : Int32) + (1 : Int32)) + (1 : Int32))), (0, vr (some this))] (by decide) rfl (lg_at 0 rfl) (by decide) rfl ?_
      refine g_goto hX dX0_init_215 194 (by decide) ?_
      refine g_iload_n hX dX0_init_194 (lg_at 0 rfl) ?_
      refine g_iconst hX dX0_init_195 (4 : Int32) (by decide) ?_
      refine g_icmp_ge hX dX0_init_196 218 hf (by decide) (fun c196 hf => ?_) (fun c196 hf => ?_)
      · exact g_wide (g_pick (w_f_X0_init_218 hM hf hr) [1] rfl) (Nat.le_of_ble_eq_true rfl) (Nat.le_of_ble_eq_true rfl)
      · refine g_aload_n hX dX0_init_199 (lg_at 1 rfl) ?_
        refine g_getR hX hf fs_SlimeNet_41_1 rfl dX0_init_200 (fun v200 hf => ?_)
        refine g_iload_n hX dX0_init_203 (lg_at 0 rfl) ?_
        refine h_newF hM dX0_init_204 (by decide) rfl (lw_LW q260) (lw_LW q261) (lw_LW q78) rfl hf (fun A204 hf => ?_)
        refine g_dup hX dX0_init_207 rfl ?_
        obtain ⟨A208, hc208, hf⟩ := ob_some hf
        refine h_callIN hM [] dX0_init_208 cs_SlimeNet_33_s (m_X3_init hc208) rfl rfl rfl rfl ?_
        refine g_aast hX (Or.inr ⟨rfl, rfl⟩) rfl (by decide) (Or.inr rfl) hf dX0_init_211 (fun A211 hf => ?_)
        refine g_iinc hX dX0_init_212 (1 : Int32) ((((0 : Int32) + (1 : Int32)) + (1 : Int32)) + (1 : Int32)) [(1, vi ((((0 : Int32) + (1 : Int32)) + (1 : Int32)) + (1 : Int32))), (0, vr (some this))] (by decide) rfl (lg_at 0 rfl) (by decide) rfl ?_
        refine g_goto hX dX0_init_215 194 (by decide) ?_
        refine g_iload_n hX dX0_init_194 (lg_at 0 rfl) ?_
        refine g_iconst hX dX0_init_195 (4 : Int32) (by decide) ?_
        refine g_icmp_ge hX dX0_init_196 218 hf (by decide) (fun c196 hf => ?_) (fun c196 hf => ?_)
        · exact g_wide (g_pick (w_f_X0_init_218 hM hf hr) [1] rfl) (Nat.le_of_ble_eq_true rfl) (Nat.le_of_ble_eq_true rfl)
        · refine g_aload_n hX dX0_init_199 (lg_at 1 rfl) ?_
          refine g_getR hX hf fs_SlimeNet_41_1 rfl dX0_init_200 (fun v200 hf => ?_)
          refine g_iload_n hX dX0_init_203 (lg_at 0 rfl) ?_
          refine h_newF hM dX0_init_204 (by decide) rfl (lw_LW q260) (lw_LW q261) (lw_LW q78) rfl hf (fun A204 hf => ?_)
          refine g_dup hX dX0_init_207 rfl ?_
          obtain ⟨A208, hc208, hf⟩ := ob_some hf
          refine h_callIN hM [] dX0_init_208 cs_SlimeNet_33_s (m_X3_init hc208) rfl rfl rfl rfl ?_
          refine g_aast hX (Or.inr ⟨rfl, rfl⟩) rfl (by decide) (Or.inr rfl) hf dX0_init_211 (fun A211 hf => ?_)
          refine g_iinc hX dX0_init_212 (1 : Int32) (((((0 : Int32) + (1 : Int32)) + (1 : Int32)) + (1 : Int32)) + (1 : Int32)) [(1, vi (((((0 : Int32) + (1 : Int32)) + (1 : Int32)) + (1 : Int32)) + (1 : Int32))), (0, vr (some this))] (by decide) rfl (lg_at 0 rfl) (by decide) rfl ?_
          refine g_goto hX dX0_init_215 194 (by decide) ?_
          refine g_iload_n hX dX0_init_194 (lg_at 0 rfl) ?_
          refine g_iconst hX dX0_init_195 (4 : Int32) (by decide) ?_
          refine g_icmp_ge hX dX0_init_196 218 hf (by decide) (fun c196 hf => ?_) (fun c196 hf => ?_)
          · exact g_pick (w_f_X0_init_218 hM hf hr) [1] rfl
          · refine g_aload_n hX dX0_init_199 (lg_at 1 rfl) ?_
            refine g_getR hX hf fs_SlimeNet_41_1 rfl dX0_init_200 (fun v200 hf => ?_)
            refine g_iload_n hX dX0_init_203 (lg_at 0 rfl) ?_
            cases hf

theorem m_X0_init {l : Launch} {this : Nat} {A : AH} {out : AH} (h : f_X0_init this A = some out) : MetF l yX0_init (Cond.code yX0_init cX0_init 2 none) rm_X0_init [vr (some this)] A (r_X0_init A out) :=
  metF_of rfl rfl (Nat.le_of_ble_eq_true rfl) fun X hX hl hR hnm hr h1 h2 hno => w_f_X0_init (X := X) ⟨hX, hR, h1, h2, fun _ => ⟨hnm, hno⟩⟩ h hr

/-! SlimeNetModel.findTree(I)V -/
def rm_X4_findTree : Room := { frames := 1, cells := 0, slots := 0, locals := 24 }
def r_X4_findTree (_A : AH) (o : AH) : (Option AV × AH) ⊕ (Nat × AH) := .inl (none, o)
def k_X4_findTree_19 (X : Ctx) (this : Nat) (x1 : Int32) (A : AH) : ((Int32 × Int32) ⊕ (Int32)) → Prop
  | .inl (x2, x3) => G X 0 0 19 [(0, vr (some this)), (1, vi x1), (2, vi x2), (3, vi x3)] [] A
  | .inr x2 => G X 0 0 62 [(0, vr (some this)), (1, vi x1), (2, vi x2)] [] A

def k_X4_findTree_84 (X : Ctx) (this : Nat) (x1 : Int32) : ((Int32 × Int32 × Int32 × AH) ⊕ ((AH) ⊕ (Int32 × Int32 × AH))) → Prop
  | .inl (x3, x4, x5, A) => G X 0 0 84 [(0, vr (some this)), (1, vi x1), (3, vi x3), (4, vi x4), (5, vi x5)] [] A
  | .inr (.inl A) => G X 0 0 175 [] [] A
  | .inr (.inr (x3, x4, A)) => G X 0 0 316 [(0, vr (some this)), (1, vi x1), (3, vi x3), (4, vi x4)] [] A

def k_X4_findTree_95 (X : Ctx) (this : Nat) (x1 : Int32) : ((Int32 × Int32 × Int32 × Int32 × AH) ⊕ ((AH) ⊕ (Int32 × Int32 × Int32 × AH))) → Prop
  | .inl (x3, x4, x5, x6, A) => G X 0 0 95 [(0, vr (some this)), (1, vi x1), (3, vi x3), (4, vi x4), (5, vi x5), (6, vi x6)] [] A
  | .inr (.inl A) => G X 0 0 175 [] [] A
  | .inr (.inr (x3, x4, x5, A)) => G X 0 0 313 [(0, vr (some this)), (1, vi x1), (3, vi x3), (4, vi x4), (5, vi x5)] [] A

set_option maxRecDepth 100000 in
theorem w_f_X4_findTree_56 {X : Ctx} (hM : MX X yX4_findTree cX4_findTree 11 "SlimeNetModel" none rm_X4_findTree []) {this : Nat} {x1 : Int32} {x2 : Int32} {x3 : Int32} {A : AH} {out : (Int32 × Int32) ⊕ (Int32)} (hf : f_X4_findTree_56 this x1 x2 x3 A = some out) (K : k_X4_findTree_19 X this x1 A out) : G X 0 0 56 [(0, vr (some this)), (1, vi x1), (2, vi x2), (3, vi x3)] [] A := by
  have hX := hM.1
  unfold f_X4_findTree_56 at hf
  refine g_iinc hX dX4_findTree_56 (1 : Int32) (x3 + (1 : Int32)) [(3, vi (x3 + (1 : Int32))), (0, vr (some this)), (1, vi x1), (2, vi x2)] (by decide) rfl (lg_at 3 rfl) (by decide) rfl ?_
  refine g_goto hX dX4_findTree_59 19 (by decide) ?_
  cases hf
  exact g_pick (show G X _ _ _ _ _ _ from K) [1, 2, 3, 0] rfl

set_option maxRecDepth 100000 in
theorem w_f_X4_findTree_307 {X : Ctx} (hM : MX X yX4_findTree cX4_findTree 11 "SlimeNetModel" none rm_X4_findTree []) {this : Nat} {x1 : Int32} {x3 : Int32} {x4 : Int32} {x5 : Int32} {x6 : Int32} {A : AH} {out : (Int32 × Int32 × Int32 × Int32 × AH) ⊕ ((AH) ⊕ (Int32 × Int32 × Int32 × AH))} (hf : f_X4_findTree_307 this x1 x3 x4 x5 x6 A = some out) (K : k_X4_findTree_95 X this x1 out) : G X 0 0 307 [(0, vr (some this)), (1, vi x1), (3, vi x3), (4, vi x4), (5, vi x5), (6, vi x6)] [] A := by
  have hX := hM.1
  unfold f_X4_findTree_307 at hf
  refine g_iinc hX dX4_findTree_307 (1 : Int32) (x6 + (1 : Int32)) [(6, vi (x6 + (1 : Int32))), (0, vr (some this)), (1, vi x1), (3, vi x3), (4, vi x4), (5, vi x5)] (by decide) rfl (lg_at 5 rfl) (by decide) rfl ?_
  refine g_goto hX dX4_findTree_310 95 (by decide) ?_
  cases hf
  exact g_pick (show G X _ _ _ _ _ _ from K) [1, 2, 3, 4, 5, 0] rfl

set_option maxRecDepth 100000 in
theorem w_f_X4_findTree_302 {X : Ctx} (hM : MX X yX4_findTree cX4_findTree 11 "SlimeNetModel" none rm_X4_findTree []) {this : Nat} {x1 : Int32} {x3 : Int32} {x4 : Int32} {x6 : Int32} {t0 : Int32} {t1 : Int32} {t2 : Int32} {t3 : Option Nat} {A : AH} {out : (Int32 × Int32 × Int32 × Int32 × AH) ⊕ ((AH) ⊕ (Int32 × Int32 × Int32 × AH))} (hf : f_X4_findTree_302 this x1 x3 x4 x6 t0 t1 t2 t3 A = some out) (K : k_X4_findTree_95 X this x1 out) : G X 0 0 302 [(0, vr (some this)), (1, vi x1), (3, vi x3), (4, vi x4), (6, vi x6)] [vi t0, vi t1, vi t2, vr t3] A := by
  have hX := hM.1
  unfold f_X4_findTree_302 at hf
  refine g_ior hX dX4_findTree_302 ?_
  refine g_iast hX hf dX4_findTree_303 (fun A303 hf => ?_)
  refine g_iconst hX dX4_findTree_304 (1 : Int32) (by decide) ?_
  refine g_istore hX dX4_findTree_305 [(5, vi (1 : Int32)), (0, vr (some this)), (1, vi x1), (3, vi x3), (4, vi x4), (6, vi x6)] (by decide) rfl ?_
  exact g_pick (w_f_X4_findTree_307 hM hf K) [1, 2, 3, 4, 0, 5] rfl

set_option maxRecDepth 100000 in
theorem w_f_X4_findTree_244 {X : Ctx} (hM : MX X yX4_findTree cX4_findTree 11 "SlimeNetModel" none rm_X4_findTree []) {this : Nat} {x1 : Int32} {x3 : Int32} {x4 : Int32} {x6 : Int32} {x7 : Int32} {x9 : Int32} {t0 : Int32} {A : AH} {out : (Int32 × Int32 × Int32 × Int32 × AH) ⊕ ((AH) ⊕ (Int32 × Int32 × Int32 × AH))} (hf : f_X4_findTree_244 this x1 x3 x4 x6 x7 x9 t0 A = some out) (K : k_X4_findTree_95 X this x1 out) : G X 0 0 244 [(0, vr (some this)), (1, vi x1), (3, vi x3), (4, vi x4), (6, vi x6), (7, vi x7), (9, vi x9)] [vi t0] A := by
  have hX := hM.1
  unfold f_X4_findTree_244 at hf
  refine g_istore hX dX4_findTree_244 [(10, vi t0), (0, vr (some this)), (1, vi x1), (3, vi x3), (4, vi x4), (6, vi x6), (7, vi x7), (9, vi x9)] (by decide) rfl ?_
  refine g_iload_n hX dX4_findTree_246 (lg_at 3 rfl) ?_
  refine g_iconst hX dX4_findTree_247 (1 : Int32) (by decide) ?_
  refine g_iload hX dX4_findTree_248 (lg_at 0 rfl) ?_
  refine g_ishl hX dX4_findTree_250 ?_
  refine g_ior hX dX4_findTree_251 ?_
  refine g_istore_n hX dX4_findTree_252 [(3, vi (x3 ||| ((1 : Int32) <<< (t0 &&& 31)))), (10, vi t0), (0, vr (some this)), (1, vi x1), (4, vi x4), (6, vi x6), (7, vi x7), (9, vi x9)] (by decide) rfl ?_
  refine g_aload_n hX dX4_findTree_253 (lg_at 2 rfl) ?_
  refine g_getR hX hf fs_SlimeNetModel_203_5 rfl dX4_findTree_254 (fun v254 hf => ?_)
  refine g_bipush hX dX4_findTree_257 (6 : Int32) (by decide) ?_
  refine g_iload_n hX dX4_findTree_259 (lg_at 3 rfl) ?_
  refine g_imul hX dX4_findTree_260 ?_
  refine g_iload hX dX4_findTree_261 (lg_at 1 rfl) ?_
  refine g_iadd hX dX4_findTree_263 ?_
  refine g_aload_n hX dX4_findTree_264 (lg_at 2 rfl) ?_
  refine g_getR hX hf fs_SlimeNetModel_203_5 rfl dX4_findTree_265 (fun v265 hf => ?_)
  refine g_bipush hX dX4_findTree_268 (6 : Int32) (by decide) ?_
  refine g_iload_n hX dX4_findTree_270 (lg_at 3 rfl) ?_
  refine g_imul hX dX4_findTree_271 ?_
  refine g_iload hX dX4_findTree_272 (lg_at 7 rfl) ?_
  refine g_iadd hX dX4_findTree_274 ?_
  refine g_iald hX hf dX4_findTree_275 (fun v275 hf => ?_)
  refine g_iconst hX dX4_findTree_276 (1 : Int32) (by decide) ?_
  refine g_iload hX dX4_findTree_277 (lg_at 5 rfl) ?_
  refine g_ishl hX dX4_findTree_279 ?_
  refine g_ior hX dX4_findTree_280 ?_
  refine g_iast hX hf dX4_findTree_281 (fun A281 hf => ?_)
  refine g_aload_n hX dX4_findTree_282 (lg_at 2 rfl) ?_
  refine g_getR hX hf fs_SlimeNetModel_206_5 rfl dX4_findTree_283 (fun v283 hf => ?_)
  refine g_iload_n hX dX4_findTree_286 (lg_at 3 rfl) ?_
  refine g_dup2 hX dX4_findTree_287 rfl rfl ?_
  refine g_iald hX hf dX4_findTree_288 (fun v288 hf => ?_)
  refine g_iload hX dX4_findTree_289 (lg_at 6 rfl) ?_
  refine g_if_eq hX dX4_findTree_291 301 hf (by decide) (fun c291 hf => ?_) (fun c291 hf => ?_)
  · refine g_iconst hX dX4_findTree_301 (0 : Int32) (by decide) ?_
    exact g_pick (w_f_X4_findTree_302 hM hf K) [2, 3, 0, 4, 5] rfl
  · refine g_iconst hX dX4_findTree_294 (1 : Int32) (by decide) ?_
    refine g_iload hX dX4_findTree_295 (lg_at 5 rfl) ?_
    refine g_ishl hX dX4_findTree_297 ?_
    refine g_goto hX dX4_findTree_298 302 (by decide) ?_
    exact g_pick (w_f_X4_findTree_302 hM hf K) [2, 3, 0, 4, 5] rfl

set_option maxRecDepth 100000 in
theorem w_f_X4_findTree_220 {X : Ctx} (hM : MX X yX4_findTree cX4_findTree 11 "SlimeNetModel" none rm_X4_findTree []) {this : Nat} {x1 : Int32} {x3 : Int32} {x4 : Int32} {x6 : Int32} {x7 : Int32} {t0 : Int32} {A : AH} {out : (Int32 × Int32 × Int32 × Int32 × AH) ⊕ ((AH) ⊕ (Int32 × Int32 × Int32 × AH))} (hf : f_X4_findTree_220 this x1 x3 x4 x6 x7 t0 A = some out) (K : k_X4_findTree_95 X this x1 out) : G X 0 0 220 [(0, vr (some this)), (1, vi x1), (3, vi x3), (4, vi x4), (6, vi x6), (7, vi x7)] [vi t0] A := by
  have hX := hM.1
  unfold f_X4_findTree_220 at hf
  refine g_istore hX dX4_findTree_220 [(9, vi t0), (0, vr (some this)), (1, vi x1), (3, vi x3), (4, vi x4), (6, vi x6), (7, vi x7)] (by decide) rfl ?_
  refine g_iload hX dX4_findTree_222 (lg_at 6 rfl) ?_
  refine g_if_eq hX dX4_findTree_224 237 hf (by decide) (fun c224 hf => ?_) (fun c224 hf => ?_)
  · refine g_aload_n hX dX4_findTree_237 (lg_at 1 rfl) ?_
    refine g_getR hX hf fs_SlimeNetModel_188_5 rfl dX4_findTree_238 (fun v238 hf => ?_)
    refine g_iload hX dX4_findTree_241 (lg_at 5 rfl) ?_
    refine g_iald hX hf dX4_findTree_243 (fun v243 hf => ?_)
    exact g_pick (w_f_X4_findTree_244 hM hf K) [1, 2, 3, 4, 5, 6, 0] rfl
  · refine g_aload_n hX dX4_findTree_227 (lg_at 1 rfl) ?_
    refine g_getR hX hf fs_SlimeNetModel_191_5 rfl dX4_findTree_228 (fun v228 hf => ?_)
    refine g_iload hX dX4_findTree_231 (lg_at 5 rfl) ?_
    refine g_iald hX hf dX4_findTree_233 (fun v233 hf => ?_)
    refine g_goto hX dX4_findTree_234 244 (by decide) ?_
    exact g_pick (w_f_X4_findTree_244 hM hf K) [1, 2, 3, 4, 5, 6, 0] rfl

set_option maxRecDepth 100000 in
theorem w_f_X4_findTree_189 {X : Ctx} (hM : MX X yX4_findTree cX4_findTree 11 "SlimeNetModel" none rm_X4_findTree []) {this : Nat} {x1 : Int32} {x3 : Int32} {x4 : Int32} {x6 : Int32} {x7 : Int32} {A : AH} {out : (Int32 × Int32 × Int32 × Int32 × AH) ⊕ ((AH) ⊕ (Int32 × Int32 × Int32 × AH))} (hf : f_X4_findTree_189 this x1 x3 x4 x6 x7 A = some out) (K : k_X4_findTree_95 X this x1 out) : G X 0 0 189 [(0, vr (some this)), (1, vi x1), (3, vi x3), (4, vi x4), (6, vi x6), (7, vi x7)] [] A := by
  have hX := hM.1
  unfold f_X4_findTree_189 at hf
  refine g_iload hX dX4_findTree_189 (lg_at 3 rfl) ?_
  refine g_iconst hX dX4_findTree_191 (1 : Int32) (by decide) ?_
  refine g_iload hX dX4_findTree_192 (lg_at 4 rfl) ?_
  refine g_ishl hX dX4_findTree_194 ?_
  refine g_ior hX dX4_findTree_195 ?_
  refine g_istore hX dX4_findTree_196 [(4, vi (x4 ||| ((1 : Int32) <<< (x6 &&& 31)))), (0, vr (some this)), (1, vi x1), (3, vi x3), (6, vi x6), (7, vi x7)] (by decide) rfl ?_
  refine g_iload hX dX4_findTree_198 (lg_at 5 rfl) ?_
  refine g_if_eq hX dX4_findTree_200 213 hf (by decide) (fun c200 hf => ?_) (fun c200 hf => ?_)
  · refine g_aload_n hX dX4_findTree_213 (lg_at 1 rfl) ?_
    refine g_getR hX hf fs_SlimeNetModel_191_5 rfl dX4_findTree_214 (fun v214 hf => ?_)
    refine g_iload hX dX4_findTree_217 (lg_at 4 rfl) ?_
    refine g_iald hX hf dX4_findTree_219 (fun v219 hf => ?_)
    exact g_pick (w_f_X4_findTree_220 hM hf K) [1, 2, 3, 0, 4, 5] rfl
  · refine g_aload_n hX dX4_findTree_203 (lg_at 1 rfl) ?_
    refine g_getR hX hf fs_SlimeNetModel_188_5 rfl dX4_findTree_204 (fun v204 hf => ?_)
    refine g_iload hX dX4_findTree_207 (lg_at 4 rfl) ?_
    refine g_iald hX hf dX4_findTree_209 (fun v209 hf => ?_)
    refine g_goto hX dX4_findTree_210 220 (by decide) ?_
    exact g_pick (w_f_X4_findTree_220 hM hf K) [1, 2, 3, 0, 4, 5] rfl

set_option maxRecDepth 100000 in
theorem w_f_X4_findTree_176 {X : Ctx} (hM : MX X yX4_findTree cX4_findTree 11 "SlimeNetModel" none rm_X4_findTree []) {this : Nat} {x1 : Int32} {x3 : Int32} {x4 : Int32} {x5 : Int32} {x6 : Int32} {x7 : Int32} {x8 : Int32} {A : AH} {out : (Int32 × Int32 × Int32 × Int32 × AH) ⊕ ((AH) ⊕ (Int32 × Int32 × Int32 × AH))} (hf : f_X4_findTree_176 this x1 x3 x4 x5 x6 x7 x8 A = some out) (K : k_X4_findTree_95 X this x1 out) : G X 0 0 176 [(0, vr (some this)), (1, vi x1), (3, vi x3), (4, vi x4), (5, vi x5), (6, vi x6), (7, vi x7), (8, vi x8)] [] A := by
  have hX := hM.1
  unfold f_X4_findTree_176 at hf
  refine g_iload hX dX4_findTree_176 (lg_at 6 rfl) ?_
  refine g_if_ne hX dX4_findTree_178 189 hf (by decide) (fun c178 hf => ?_) (fun c178 hf => ?_)
  · exact g_pick (w_f_X4_findTree_189 hM hf K) [0, 1, 2, 3, 5, 6] rfl
  · refine g_iload hX dX4_findTree_181 (lg_at 7 rfl) ?_
    refine g_if_ne hX dX4_findTree_183 189 hf (by decide) (fun c183 hf => ?_) (fun c183 hf => ?_)
    · exact g_pick (w_f_X4_findTree_189 hM hf K) [0, 1, 2, 3, 5, 6] rfl
    · refine g_goto hX dX4_findTree_186 307 (by decide) ?_
      exact g_pick (w_f_X4_findTree_307 hM hf K) [0, 1, 2, 3, 4, 5] rfl

set_option maxRecDepth 100000 in
theorem w_f_X4_findTree_163 {X : Ctx} (hM : MX X yX4_findTree cX4_findTree 11 "SlimeNetModel" none rm_X4_findTree []) {this : Nat} {x1 : Int32} {x3 : Int32} {x4 : Int32} {x5 : Int32} {x6 : Int32} {x7 : Int32} {t0 : Int32} {A : AH} {out : (Int32 × Int32 × Int32 × Int32 × AH) ⊕ ((AH) ⊕ (Int32 × Int32 × Int32 × AH))} (hf : f_X4_findTree_163 this x1 x3 x4 x5 x6 x7 t0 A = some out) (K : k_X4_findTree_95 X this x1 out) : G X 0 0 163 [(0, vr (some this)), (1, vi x1), (3, vi x3), (4, vi x4), (5, vi x5), (6, vi x6), (7, vi x7)] [vi t0] A := by
  have hX := hM.1
  unfold f_X4_findTree_163 at hf
  refine g_istore hX dX4_findTree_163 [(8, vi t0), (0, vr (some this)), (1, vi x1), (3, vi x3), (4, vi x4), (5, vi x5), (6, vi x6), (7, vi x7)] (by decide) rfl ?_
  refine g_iload hX dX4_findTree_165 (lg_at 7 rfl) ?_
  refine g_if_eq hX dX4_findTree_167 176 hf (by decide) (fun c167 hf => ?_) (fun c167 hf => ?_)
  · exact g_pick (w_f_X4_findTree_176 hM hf K) [1, 2, 3, 4, 5, 6, 7, 0] rfl
  · refine g_iload hX dX4_findTree_170 (lg_at 0 rfl) ?_
    refine g_if_eq hX dX4_findTree_172 176 hf (by decide) (fun c172 hf => ?_) (fun c172 hf => ?_)
    · exact g_pick (w_f_X4_findTree_176 hM hf K) [1, 2, 3, 4, 5, 6, 7, 0] rfl
    · cases hf
      exact g_pick (show G X _ _ _ _ _ _ from K) [] rfl

set_option maxRecDepth 100000 in
theorem w_f_X4_findTree_141 {X : Ctx} (hM : MX X yX4_findTree cX4_findTree 11 "SlimeNetModel" none rm_X4_findTree []) {this : Nat} {x1 : Int32} {x3 : Int32} {x4 : Int32} {x5 : Int32} {x6 : Int32} {t0 : Int32} {A : AH} {out : (Int32 × Int32 × Int32 × Int32 × AH) ⊕ ((AH) ⊕ (Int32 × Int32 × Int32 × AH))} (hf : f_X4_findTree_141 this x1 x3 x4 x5 x6 t0 A = some out) (K : k_X4_findTree_95 X this x1 out) : G X 0 0 141 [(0, vr (some this)), (1, vi x1), (3, vi x3), (4, vi x4), (5, vi x5), (6, vi x6)] [vi t0] A := by
  have hX := hM.1
  unfold f_X4_findTree_141 at hf
  refine g_istore hX dX4_findTree_141 [(7, vi t0), (0, vr (some this)), (1, vi x1), (3, vi x3), (4, vi x4), (5, vi x5), (6, vi x6)] (by decide) rfl ?_
  refine g_iload_n hX dX4_findTree_143 (lg_at 3 rfl) ?_
  refine g_aload_n hX dX4_findTree_144 (lg_at 1 rfl) ?_
  refine g_getR hX hf fs_SlimeNetModel_191_5 rfl dX4_findTree_145 (fun v145 hf => ?_)
  refine g_iload hX dX4_findTree_148 (lg_at 6 rfl) ?_
  refine g_iald hX hf dX4_findTree_150 (fun v150 hf => ?_)
  refine g_ishr hX dX4_findTree_151 ?_
  refine g_iconst hX dX4_findTree_152 (1 : Int32) (by decide) ?_
  refine g_iand hX dX4_findTree_153 ?_
  refine g_iconst hX dX4_findTree_154 (1 : Int32) (by decide) ?_
  refine g_icmp_ne hX dX4_findTree_155 162 hf (by decide) (fun c155 hf => ?_) (fun c155 hf => ?_)
  · refine g_iconst hX dX4_findTree_162 (0 : Int32) (by decide) ?_
    exact g_pick (w_f_X4_findTree_163 hM hf K) [1, 2, 3, 4, 5, 6, 0] rfl
  · refine g_iconst hX dX4_findTree_158 (1 : Int32) (by decide) ?_
    refine g_goto hX dX4_findTree_159 163 (by decide) ?_
    exact g_pick (w_f_X4_findTree_163 hM hf K) [1, 2, 3, 4, 5, 6, 0] rfl

set_option maxRecDepth 100000 in
theorem w_s_X4_findTree_95 {X : Ctx} (hM : MX X yX4_findTree cX4_findTree 11 "SlimeNetModel" none rm_X4_findTree []) {this : Nat} {x1 : Int32} {st : Int32 × Int32 × Int32 × Int32 × AH} {out : (Int32 × Int32 × Int32 × Int32 × AH) ⊕ ((AH) ⊕ (Int32 × Int32 × Int32 × AH))} (hf : s_X4_findTree_95 this x1 st = some out) (K : k_X4_findTree_95 X this x1 out) : k_X4_findTree_95 X this x1 (.inl st) := by
  have hX := hM.1
  obtain ⟨x3, x4, x5, x6, A⟩ := st
  unfold s_X4_findTree_95 at hf
  dsimp only at hf
  show G X 0 0 95 [(0, vr (some this)), (1, vi x1), (3, vi x3), (4, vi x4), (5, vi x5), (6, vi x6)] [] A
  refine g_iload hX dX4_findTree_95 (lg_at 5 rfl) ?_
  refine g_aload_n hX dX4_findTree_97 (lg_at 0 rfl) ?_
  refine g_getI hX hf fs_SlimeNetModel_297_5 rfl dX4_findTree_98 (fun v98 hf => ?_)
  refine g_icmp_ge hX dX4_findTree_101 313 hf (by decide) (fun c101 hf => ?_) (fun c101 hf => ?_)
  · cases hf
    exact g_pick (show G X _ _ _ _ _ _ from K) [0, 1, 2, 3, 4] rfl
  · refine g_iload_n hX dX4_findTree_104 (lg_at 1 rfl) ?_
    refine g_iload hX dX4_findTree_105 (lg_at 3 rfl) ?_
    refine g_iconst hX dX4_findTree_107 (-1 : Int32) (by decide) ?_
    refine g_ixor hX dX4_findTree_108 ?_
    refine g_iand hX dX4_findTree_109 ?_
    refine g_iconst hX dX4_findTree_110 (1 : Int32) (by decide) ?_
    refine g_iload hX dX4_findTree_111 (lg_at 5 rfl) ?_
    refine g_ishl hX dX4_findTree_113 ?_
    refine g_iand hX dX4_findTree_114 ?_
    refine g_if_ne hX dX4_findTree_115 121 hf (by decide) (fun c115 hf => ?_) (fun c115 hf => ?_)
    · refine g_iload_n hX dX4_findTree_121 (lg_at 2 rfl) ?_
      refine g_aload_n hX dX4_findTree_122 (lg_at 0 rfl) ?_
      refine g_getR hX hf fs_SlimeNetModel_188_5 rfl dX4_findTree_123 (fun v123 hf => ?_)
      refine g_iload hX dX4_findTree_126 (lg_at 5 rfl) ?_
      refine g_iald hX hf dX4_findTree_128 (fun v128 hf => ?_)
      refine g_ishr hX dX4_findTree_129 ?_
      refine g_iconst hX dX4_findTree_130 (1 : Int32) (by decide) ?_
      refine g_iand hX dX4_findTree_131 ?_
      refine g_iconst hX dX4_findTree_132 (1 : Int32) (by decide) ?_
      refine g_icmp_ne hX dX4_findTree_133 140 hf (by decide) (fun c133 hf => ?_) (fun c133 hf => ?_)
      · refine g_iconst hX dX4_findTree_140 (0 : Int32) (by decide) ?_
        exact g_pick (w_f_X4_findTree_141 hM hf K) [0, 1, 2, 3, 4, 5] rfl
      · refine g_iconst hX dX4_findTree_136 (1 : Int32) (by decide) ?_
        refine g_goto hX dX4_findTree_137 141 (by decide) ?_
        exact g_pick (w_f_X4_findTree_141 hM hf K) [0, 1, 2, 3, 4, 5] rfl
    · refine g_goto hX dX4_findTree_118 307 (by decide) ?_
      exact g_pick (w_f_X4_findTree_307 hM hf K) [0, 1, 2, 3, 4, 5] rfl

set_option maxRecDepth 100000 in
theorem w_l_X4_findTree_95 {X : Ctx} (hM : MX X yX4_findTree cX4_findTree 11 "SlimeNetModel" none rm_X4_findTree []) {this : Nat} {x1 : Int32} {x3 : Int32} {x4 : Int32} {x5 : Int32} {x6 : Int32} {A : AH} {out : (Int32 × Int32 × Int32 × AH) ⊕ ((AH) ⊕ (Int32 × Int32 × AH))} (hf : l_X4_findTree_95 this x1 x3 x4 x5 x6 A = some out) (K : k_X4_findTree_84 X this x1 out) : G X 0 0 95 [(0, vr (some this)), (1, vi x1), (3, vi x3), (4, vi x4), (5, vi x5), (6, vi x6)] [] A := by
  have hX := hM.1
  unfold l_X4_findTree_95 at hf
  obtain ⟨e, hw, hf⟩ := ob_some hf
  refine (whl_ind (k_X4_findTree_95 X this x1) (fun st o hs K => w_s_X4_findTree_95 hM hs K) hw ?_ : k_X4_findTree_95 X this x1 (.inl (x3, x4, x5, x6, A)))
  rcases e with A | ⟨x3, x4, x5, A⟩
  · dsimp only at hf
    show G X 0 0 175 [] [] A
    cases hf
    exact g_pick (show G X _ _ _ _ _ _ from K) [] rfl
  · dsimp only at hf
    show G X 0 0 313 [(0, vr (some this)), (1, vi x1), (3, vi x3), (4, vi x4), (5, vi x5)] [] A
    refine g_goto hX dX4_findTree_313 84 (by decide) ?_
    cases hf
    exact g_pick (show G X _ _ _ _ _ _ from K) [0, 1, 2, 3, 4] rfl

set_option maxRecDepth 100000 in
theorem w_f_X4_findTree_329 {X : Ctx} (hM : MX X yX4_findTree cX4_findTree 11 "SlimeNetModel" none rm_X4_findTree []) {A : AH} {out : AH} (hf : f_X4_findTree_329 A = some out) (hr : c_res X = r_X4_findTree A out) : G X 0 0 329 [] [] A := by
  have hX := hM.1
  unfold f_X4_findTree_329 at hf
  cases hf
  exact h_vret hM dX4_findTree_329 hr rfl rfl

set_option maxRecDepth 100000 in
theorem w_s_X4_findTree_84 {X : Ctx} (hM : MX X yX4_findTree cX4_findTree 11 "SlimeNetModel" none rm_X4_findTree []) {this : Nat} {x1 : Int32} {st : Int32 × Int32 × Int32 × AH} {out : (Int32 × Int32 × Int32 × AH) ⊕ ((AH) ⊕ (Int32 × Int32 × AH))} (hf : s_X4_findTree_84 this x1 st = some out) (K : k_X4_findTree_84 X this x1 out) : k_X4_findTree_84 X this x1 (.inl st) := by
  have hX := hM.1
  obtain ⟨x3, x4, x5, A⟩ := st
  unfold s_X4_findTree_84 at hf
  dsimp only at hf
  show G X 0 0 84 [(0, vr (some this)), (1, vi x1), (3, vi x3), (4, vi x4), (5, vi x5)] [] A
  refine g_iload hX dX4_findTree_84 (lg_at 4 rfl) ?_
  refine g_if_eq hX dX4_findTree_86 316 hf (by decide) (fun c86 hf => ?_) (fun c86 hf => ?_)
  · cases hf
    exact g_pick (show G X _ _ _ _ _ _ from K) [0, 1, 2, 3] rfl
  · refine g_iconst hX dX4_findTree_89 (0 : Int32) (by decide) ?_
    refine g_istore hX dX4_findTree_90 [(5, vi (0 : Int32)), (0, vr (some this)), (1, vi x1), (3, vi x3), (4, vi x4)] (by decide) rfl ?_
    refine g_iconst hX dX4_findTree_92 (0 : Int32) (by decide) ?_
    refine g_istore hX dX4_findTree_93 [(6, vi (0 : Int32)), (5, vi (0 : Int32)), (0, vr (some this)), (1, vi x1), (3, vi x3), (4, vi x4)] (by decide) rfl ?_
    exact g_pick (w_l_X4_findTree_95 hM hf K) [2, 3, 4, 5, 1, 0] rfl

set_option maxRecDepth 100000 in
theorem w_l_X4_findTree_84 {X : Ctx} (hM : MX X yX4_findTree cX4_findTree 11 "SlimeNetModel" none rm_X4_findTree []) {this : Nat} {x1 : Int32} {x3 : Int32} {x4 : Int32} {x5 : Int32} {A : AH} {out : AH} (hf : l_X4_findTree_84 this x1 x3 x4 x5 A = some out) (hr : c_res X = r_X4_findTree A out) : G X 0 0 84 [(0, vr (some this)), (1, vi x1), (3, vi x3), (4, vi x4), (5, vi x5)] [] A := by
  have hX := hM.1
  unfold l_X4_findTree_84 at hf
  obtain ⟨e, hw, hf⟩ := ob_some hf
  refine (whl_ind (k_X4_findTree_84 X this x1) (fun st o hs K => w_s_X4_findTree_84 hM hs K) hw ?_ : k_X4_findTree_84 X this x1 (.inl (x3, x4, x5, A)))
  rcases e with A | ⟨x3, x4, A⟩
  · dsimp only at hf
    show G X 0 0 175 [] [] A
    cases hf
    exact h_vret hM dX4_findTree_175 hr rfl rfl
  · dsimp only at hf
    show G X 0 0 316 [(0, vr (some this)), (1, vi x1), (3, vi x3), (4, vi x4)] [] A
    refine g_iload hX dX4_findTree_316 (lg_at 3 rfl) ?_
    refine g_iload_n hX dX4_findTree_318 (lg_at 1 rfl) ?_
    refine g_icmp_ne hX dX4_findTree_319 329 hf (by decide) (fun c319 hf => ?_) (fun c319 hf => ?_)
    · exact g_pick (w_f_X4_findTree_329 hM hf hr) [] rfl
    · refine g_aload_n hX dX4_findTree_322 (lg_at 0 rfl) ?_
      refine g_getR hX hf fs_SlimeNetModel_200_5 rfl dX4_findTree_323 (fun v323 hf => ?_)
      refine g_iload_n hX dX4_findTree_326 (lg_at 1 rfl) ?_
      refine g_iload_n hX dX4_findTree_327 (lg_at 2 rfl) ?_
      refine g_iast hX hf dX4_findTree_328 (fun A328 hf => ?_)
      exact g_pick (w_f_X4_findTree_329 hM hf hr) [] rfl

set_option maxRecDepth 100000 in
theorem w_s_X4_findTree_19 {X : Ctx} (hM : MX X yX4_findTree cX4_findTree 11 "SlimeNetModel" none rm_X4_findTree []) {this : Nat} {x1 : Int32} {A : AH} {st : Int32 × Int32} {out : (Int32 × Int32) ⊕ (Int32)} (hf : s_X4_findTree_19 this x1 A st = some out) (K : k_X4_findTree_19 X this x1 A out) : k_X4_findTree_19 X this x1 A (.inl st) := by
  have hX := hM.1
  obtain ⟨x2, x3⟩ := st
  unfold s_X4_findTree_19 at hf
  dsimp only at hf
  show G X 0 0 19 [(0, vr (some this)), (1, vi x1), (2, vi x2), (3, vi x3)] [] A
  refine g_iload_n hX dX4_findTree_19 (lg_at 3 rfl) ?_
  refine g_aload_n hX dX4_findTree_20 (lg_at 0 rfl) ?_
  refine g_getI hX hf fs_SlimeNetModel_297_5 rfl dX4_findTree_21 (fun v21 hf => ?_)
  refine g_icmp_ge hX dX4_findTree_24 62 hf (by decide) (fun c24 hf => ?_) (fun c24 hf => ?_)
  · cases hf
    exact g_pick (show G X _ _ _ _ _ _ from K) [0, 1, 2] rfl
  · refine g_iload_n hX dX4_findTree_27 (lg_at 1 rfl) ?_
    refine g_iload_n hX dX4_findTree_28 (lg_at 3 rfl) ?_
    refine g_ishr hX dX4_findTree_29 ?_
    refine g_iconst hX dX4_findTree_30 (1 : Int32) (by decide) ?_
    refine g_iand hX dX4_findTree_31 ?_
    refine g_iconst hX dX4_findTree_32 (1 : Int32) (by decide) ?_
    refine g_icmp_ne hX dX4_findTree_33 56 hf (by decide) (fun c33 hf => ?_) (fun c33 hf => ?_)
    · exact g_pick (w_f_X4_findTree_56 hM hf K) [0, 1, 2, 3] rfl
    · refine g_iload_n hX dX4_findTree_36 (lg_at 2 rfl) ?_
      refine g_aload_n hX dX4_findTree_37 (lg_at 0 rfl) ?_
      refine g_getR hX hf fs_SlimeNetModel_188_5 rfl dX4_findTree_38 (fun v38 hf => ?_)
      refine g_iload_n hX dX4_findTree_41 (lg_at 3 rfl) ?_
      refine g_iald hX hf dX4_findTree_42 (fun v42 hf => ?_)
      refine g_aload_n hX dX4_findTree_43 (lg_at 0 rfl) ?_
      refine g_getR hX hf fs_SlimeNetModel_191_5 rfl dX4_findTree_44 (fun v44 hf => ?_)
      refine g_iload_n hX dX4_findTree_47 (lg_at 3 rfl) ?_
      refine g_iald hX hf dX4_findTree_48 (fun v48 hf => ?_)
      refine g_mmin hM dX4_findTree_49 (lw_LW q1038) (lw_LW q717) (lw_LW q80) (lw_LW q718) rfl rfl ?_
      refine g_mmin hM dX4_findTree_52 (lw_LW q1038) (lw_LW q717) (lw_LW q80) (lw_LW q718) rfl rfl ?_
      refine g_istore_n hX dX4_findTree_55 [(2, vi (mnI x2 (mnI v42 v48))), (0, vr (some this)), (1, vi x1), (3, vi x3)] (by decide) rfl ?_
      exact g_pick (w_f_X4_findTree_56 hM hf K) [1, 2, 0, 3] rfl

set_option maxRecDepth 100000 in
theorem w_l_X4_findTree_19 {X : Ctx} (hM : MX X yX4_findTree cX4_findTree 11 "SlimeNetModel" none rm_X4_findTree []) {this : Nat} {x1 : Int32} {x2 : Int32} {x3 : Int32} {A : AH} {out : AH} (hf : l_X4_findTree_19 this x1 x2 x3 A = some out) (hr : c_res X = r_X4_findTree A out) : G X 0 0 19 [(0, vr (some this)), (1, vi x1), (2, vi x2), (3, vi x3)] [] A := by
  have hX := hM.1
  unfold l_X4_findTree_19 at hf
  obtain ⟨e, hw, hf⟩ := ob_some hf
  refine (whl_ind (k_X4_findTree_19 X this x1 A) (fun st o hs K => w_s_X4_findTree_19 hM hs K) hw ?_ : k_X4_findTree_19 X this x1 A (.inl (x2, x3)))
  revert hf hw; generalize e = x2; intro hw hf
  dsimp only at hf
  show G X 0 0 62 [(0, vr (some this)), (1, vi x1), (2, vi x2)] [] A
  refine g_iconst hX dX4_findTree_62 (1 : Int32) (by decide) ?_
  refine g_iload_n hX dX4_findTree_63 (lg_at 2 rfl) ?_
  refine g_ishl hX dX4_findTree_64 ?_
  refine g_istore_n hX dX4_findTree_65 [(3, vi ((1 : Int32) <<< (x2 &&& 31))), (0, vr (some this)), (1, vi x1), (2, vi x2)] (by decide) rfl ?_
  refine g_iconst hX dX4_findTree_66 (0 : Int32) (by decide) ?_
  refine g_istore hX dX4_findTree_67 [(4, vi (0 : Int32)), (3, vi ((1 : Int32) <<< (x2 &&& 31))), (0, vr (some this)), (1, vi x1), (2, vi x2)] (by decide) rfl ?_
  refine g_aload_n hX dX4_findTree_69 (lg_at 2 rfl) ?_
  refine g_getR hX hf fs_SlimeNetModel_203_5 rfl dX4_findTree_70 (fun v70 hf => ?_)
  refine g_bipush hX dX4_findTree_73 (6 : Int32) (by decide) ?_
  refine g_iload_n hX dX4_findTree_75 (lg_at 3 rfl) ?_
  refine g_imul hX dX4_findTree_76 ?_
  refine g_iload_n hX dX4_findTree_77 (lg_at 4 rfl) ?_
  refine g_iadd hX dX4_findTree_78 ?_
  refine g_iconst hX dX4_findTree_79 (0 : Int32) (by decide) ?_
  refine g_iast hX hf dX4_findTree_80 (fun A80 hf => ?_)
  refine g_iconst hX dX4_findTree_81 (1 : Int32) (by decide) ?_
  refine g_istore hX dX4_findTree_82 [(5, vi (1 : Int32)), (4, vi (0 : Int32)), (3, vi ((1 : Int32) <<< (x2 &&& 31))), (0, vr (some this)), (1, vi x1), (2, vi x2)] (by decide) rfl ?_
  exact g_pick (w_l_X4_findTree_84 hM hf hr) [3, 4, 2, 1, 0] rfl

set_option maxRecDepth 100000 in
theorem w_f_X4_findTree {X : Ctx} (hM : MX X yX4_findTree cX4_findTree 11 "SlimeNetModel" none rm_X4_findTree []) {this : Nat} {x1 : Int32} {A : AH} {out : AH} (hf : f_X4_findTree this x1 A = some out) (hr : c_res X = r_X4_findTree A out) : G X 0 0 0 [(0, vr (some this)), (1, vi x1)] [] A := by
  have hX := hM.1
  unfold f_X4_findTree at hf
  refine g_aload_n hX dX4_findTree_0 (lg_at 0 rfl) ?_
  refine g_getR hX hf fs_SlimeNetModel_200_5 rfl dX4_findTree_1 (fun v1 hf => ?_)
  refine g_iload_n hX dX4_findTree_4 (lg_at 1 rfl) ?_
  refine g_iconst hX dX4_findTree_5 (0 : Int32) (by decide) ?_
  refine g_iast hX hf dX4_findTree_6 (fun A6 hf => ?_)
  refine g_aload_n hX dX4_findTree_7 (lg_at 0 rfl) ?_
  refine g_getR hX hf fs_SlimeNetModel_206_5 rfl dX4_findTree_8 (fun v8 hf => ?_)
  refine g_iload_n hX dX4_findTree_11 (lg_at 1 rfl) ?_
  refine g_iconst hX dX4_findTree_12 (0 : Int32) (by decide) ?_
  refine g_iast hX hf dX4_findTree_13 (fun A13 hf => ?_)
  refine g_bipush hX dX4_findTree_14 (6 : Int32) (by decide) ?_
  refine g_istore_n hX dX4_findTree_16 [(2, vi (6 : Int32)), (0, vr (some this)), (1, vi x1)] (by decide) rfl ?_
  refine g_iconst hX dX4_findTree_17 (0 : Int32) (by decide) ?_
  refine g_istore_n hX dX4_findTree_18 [(3, vi (0 : Int32)), (2, vi (6 : Int32)), (0, vr (some this)), (1, vi x1)] (by decide) rfl ?_
  exact g_pick (w_l_X4_findTree_19 hM hf hr) [2, 3, 1, 0] rfl

theorem m_X4_findTree {l : Launch} {this : Nat} {x1 : Int32} {A : AH} {out : AH} (h : f_X4_findTree this x1 A = some out) : MetF l yX4_findTree (Cond.code yX4_findTree cX4_findTree 11 none) rm_X4_findTree [vr (some this), vi x1] A (r_X4_findTree A out) :=
  metF_of rfl rfl (Nat.le_of_ble_eq_true rfl) fun X hX hl hR hnm hr h1 h2 hno => w_f_X4_findTree (X := X) ⟨hX, hR, h1, h2, fun _ => ⟨hnm, hno⟩⟩ h hr

/-! SlimeNetModel.findTrees()V -/
def rm_X4_findTrees : Room := { frames := 2, cells := 0, slots := 0, locals := 54 }
def r_X4_findTrees (_A : AH) (o : AH) : (Option AV × AH) ⊕ (Nat × AH) := .inl (none, o)
def k_X4_findTrees_2 (X : Ctx) (this : Nat) : ((Int32 × AH) ⊕ (AH)) → Prop
  | .inl (x1, A) => G X 0 0 2 [(0, vr (some this)), (1, vi x1)] [] A
  | .inr A => G X 0 0 23 [] [] A

set_option maxRecDepth 100000 in
theorem w_s_X4_findTrees_2 {X : Ctx} (hM : MX X yX4_findTrees cX4_findTrees 2 "SlimeNetModel" none rm_X4_findTrees []) {this : Nat} {st : Int32 × AH} {out : (Int32 × AH) ⊕ (AH)} (hf : s_X4_findTrees_2 this st = some out) (K : k_X4_findTrees_2 X this out) : k_X4_findTrees_2 X this (.inl st) := by
  have hX := hM.1
  obtain ⟨x1, A⟩ := st
  unfold s_X4_findTrees_2 at hf
  dsimp only at hf
  show G X 0 0 2 [(0, vr (some this)), (1, vi x1)] [] A
  refine g_iload_n hX dX4_findTrees_2 (lg_at 1 rfl) ?_
  refine g_iconst hX dX4_findTrees_3 (1 : Int32) (by decide) ?_
  refine g_aload_n hX dX4_findTrees_4 (lg_at 0 rfl) ?_
  refine g_getI hX hf fs_SlimeNetModel_297_5 rfl dX4_findTrees_5 (fun v5 hf => ?_)
  refine g_ishl hX dX4_findTrees_8 ?_
  refine g_icmp_ge hX dX4_findTrees_9 23 hf (by decide) (fun c9 hf => ?_) (fun c9 hf => ?_)
  · cases hf
    exact g_pick (show G X _ _ _ _ _ _ from K) [] rfl
  · refine g_aload_n hX dX4_findTrees_12 (lg_at 0 rfl) ?_
    refine g_iload_n hX dX4_findTrees_13 (lg_at 1 rfl) ?_
    obtain ⟨k14, hk14, hf⟩ := ob_some hf
    obtain ⟨A14, hc14, hf⟩ := ob_some hf
    refine h_callV hM [vi x1] dX4_findTrees_14 cs_SlimeNetModel_339_5 hk14 (m_X4_findTree hc14) rfl rfl rfl rfl ?_
    refine g_iinc hX dX4_findTrees_17 (1 : Int32) (x1 + (1 : Int32)) [(1, vi (x1 + (1 : Int32))), (0, vr (some this))] (by decide) rfl (lg_at 1 rfl) (by decide) rfl ?_
    refine g_goto hX dX4_findTrees_20 2 (by decide) ?_
    cases hf
    exact g_pick (show G X _ _ _ _ _ _ from K) [1, 0] rfl

set_option maxRecDepth 100000 in
theorem w_l_X4_findTrees_2 {X : Ctx} (hM : MX X yX4_findTrees cX4_findTrees 2 "SlimeNetModel" none rm_X4_findTrees []) {this : Nat} {x1 : Int32} {A : AH} {out : AH} (hf : l_X4_findTrees_2 this x1 A = some out) (hr : c_res X = r_X4_findTrees A out) : G X 0 0 2 [(0, vr (some this)), (1, vi x1)] [] A := by
  have hX := hM.1
  unfold l_X4_findTrees_2 at hf
  obtain ⟨e, hw, hf⟩ := ob_some hf
  refine (whl_ind (k_X4_findTrees_2 X this) (fun st o hs K => w_s_X4_findTrees_2 hM hs K) hw ?_ : k_X4_findTrees_2 X this (.inl (x1, A)))
  revert hf hw; generalize e = A; intro hw hf
  dsimp only at hf
  show G X 0 0 23 [] [] A
  cases hf
  exact h_vret hM dX4_findTrees_23 hr rfl rfl

set_option maxRecDepth 100000 in
theorem w_f_X4_findTrees {X : Ctx} (hM : MX X yX4_findTrees cX4_findTrees 2 "SlimeNetModel" none rm_X4_findTrees []) {this : Nat} {A : AH} {out : AH} (hf : f_X4_findTrees this A = some out) (hr : c_res X = r_X4_findTrees A out) : G X 0 0 0 [(0, vr (some this))] [] A := by
  have hX := hM.1
  unfold f_X4_findTrees at hf
  refine g_iconst hX dX4_findTrees_0 (1 : Int32) (by decide) ?_
  refine g_istore_n hX dX4_findTrees_1 [(1, vi (1 : Int32)), (0, vr (some this))] (by decide) rfl ?_
  exact g_pick (w_l_X4_findTrees_2 hM hf hr) [1, 0] rfl

theorem m_X4_findTrees {l : Launch} {this : Nat} {A : AH} {out : AH} (h : f_X4_findTrees this A = some out) : MetF l yX4_findTrees (Cond.code yX4_findTrees cX4_findTrees 2 none) rm_X4_findTrees [vr (some this)] A (r_X4_findTrees A out) :=
  metF_of rfl rfl (Nat.le_of_ble_eq_true rfl) fun X hX hl hR hnm hr h1 h2 hno => w_f_X4_findTrees (X := X) ⟨hX, hR, h1, h2, fun _ => ⟨hnm, hno⟩⟩ h hr

/-! SlimeNetModel.<init>()V -/
def rm_X4_init : Room := { frames := 3, cells := 36, slots := 32599, locals := 75 }
def r_X4_init (_A : AH) (o : AH) : (Option AV × AH) ⊕ (Nat × AH) := .inl (none, o)
set_option maxRecDepth 100000 in
theorem w_f_X4_init {X : Ctx} (hM : MX X yX4_init cX4_init 1 "SlimeNetModel" none rm_X4_init []) {this : Nat} {A : AH} {out : AH} (hf : f_X4_init this A = some out) (hr : c_res X = r_X4_init A out) : G X 0 0 0 [(0, vr (some this))] [] A := by
  have hX := hM.1
  unfold f_X4_init at hf
  refine g_aload_n hX dX4_init_0 (lg_at 0 rfl) ?_
  refine h_objInit hM dX4_init_1 (lw_LW q1029) (lw_LW q99) (lw_LW q100) rfl rfl ?_
  refine g_aload_n hX dX4_init_4 (lg_at 0 rfl) ?_
  refine g_sipush hX dX4_init_5 (700 : Int32) (by decide) ?_
  refine h_newa .byte hM dX4_init_8 rfl (Or.inr (Or.inl ⟨rfl, rfl⟩)) (lw_LW q200) hf rfl (fun A8 hf => ?_)
  refine g_putR hX hf fs_SlimeNetModel_16_5 ⟨_, rfl, Or.inr ⟨rfl, (hM.2.2.2.2 (by decide)).1.trans rfl, rfl⟩⟩ rfl dX4_init_10 (fun A10 hf => ?_)
  refine g_aload_n hX dX4_init_13 (lg_at 0 rfl) ?_
  refine g_iconst hX dX4_init_14 (-1 : Int32) (by decide) ?_
  refine g_putI hX hf fs_SlimeNetModel_10_5 ⟨_, rfl, Or.inl rfl⟩ rfl dX4_init_15 (fun A15 hf => ?_)
  refine g_aload_n hX dX4_init_18 (lg_at 0 rfl) ?_
  refine g_iconst hX dX4_init_19 (5 : Int32) (by decide) ?_
  refine g_putI hX hf fs_SlimeNetModel_177_5 ⟨_, rfl, Or.inl rfl⟩ rfl dX4_init_20 (fun A20 hf => ?_)
  refine g_aload_n hX dX4_init_23 (lg_at 0 rfl) ?_
  refine g_iconst hX dX4_init_24 (2 : Int32) (by decide) ?_
  refine g_putI hX hf fs_SlimeNetModel_180_5 ⟨_, rfl, Or.inl rfl⟩ rfl dX4_init_25 (fun A25 hf => ?_)
  refine g_aload_n hX dX4_init_28 (lg_at 0 rfl) ?_
  refine g_iconst hX dX4_init_29 (3 : Int32) (by decide) ?_
  refine g_putI hX hf fs_SlimeNetModel_183_5 ⟨_, rfl, Or.inl rfl⟩ rfl dX4_init_30 (fun A30 hf => ?_)
  refine g_aload_n hX dX4_init_33 (lg_at 0 rfl) ?_
  refine g_iconst hX dX4_init_34 (5 : Int32) (by decide) ?_
  refine g_putI hX hf fs_SlimeNetModel_186_5 ⟨_, rfl, Or.inl rfl⟩ rfl dX4_init_35 (fun A35 hf => ?_)
  refine g_aload_n hX dX4_init_38 (lg_at 0 rfl) ?_
  refine g_bipush hX dX4_init_39 (6 : Int32) (by decide) ?_
  refine h_newa .long hM dX4_init_41 rfl (Or.inr (Or.inr (Or.inr ⟨rfl, rfl⟩))) (lw_LW q201) hf rfl (fun A41 hf => ?_)
  refine g_putR hX hf fs_SlimeNetModel_66_5 ⟨_, rfl, Or.inr ⟨rfl, (hM.2.2.2.2 (by decide)).1.trans rfl, rfl⟩⟩ rfl dX4_init_43 (fun A43 hf => ?_)
  refine g_aload_n hX dX4_init_46 (lg_at 0 rfl) ?_
  refine g_bipush hX dX4_init_47 (10 : Int32) (by decide) ?_
  refine h_newa .int hM dX4_init_49 rfl (Or.inl ⟨rfl, rfl⟩) (lw_LW q259) hf rfl (fun A49 hf => ?_)
  refine g_putR hX hf fs_SlimeNetModel_188_5 ⟨_, rfl, Or.inr ⟨rfl, (hM.2.2.2.2 (by decide)).1.trans rfl, rfl⟩⟩ rfl dX4_init_51 (fun A51 hf => ?_)
  refine g_aload_n hX dX4_init_54 (lg_at 0 rfl) ?_
  refine g_bipush hX dX4_init_55 (10 : Int32) (by decide) ?_
  refine h_newa .int hM dX4_init_57 rfl (Or.inl ⟨rfl, rfl⟩) (lw_LW q259) hf rfl (fun A57 hf => ?_)
  refine g_putR hX hf fs_SlimeNetModel_191_5 ⟨_, rfl, Or.inr ⟨rfl, (hM.2.2.2.2 (by decide)).1.trans rfl, rfl⟩⟩ rfl dX4_init_59 (fun A59 hf => ?_)
  refine g_aload_n hX dX4_init_62 (lg_at 0 rfl) ?_
  refine g_bipush hX dX4_init_63 (10 : Int32) (by decide) ?_
  refine h_newa .int hM dX4_init_65 rfl (Or.inl ⟨rfl, rfl⟩) (lw_LW q259) hf rfl (fun A65 hf => ?_)
  refine g_putR hX hf fs_SlimeNetModel_194_5 ⟨_, rfl, Or.inr ⟨rfl, (hM.2.2.2.2 (by decide)).1.trans rfl, rfl⟩⟩ rfl dX4_init_67 (fun A67 hf => ?_)
  refine g_aload_n hX dX4_init_70 (lg_at 0 rfl) ?_
  refine g_bipush hX dX4_init_71 (6 : Int32) (by decide) ?_
  refine h_newa .int hM dX4_init_73 rfl (Or.inl ⟨rfl, rfl⟩) (lw_LW q259) hf rfl (fun A73 hf => ?_)
  refine g_putR hX hf fs_SlimeNetModel_197_5 ⟨_, rfl, Or.inr ⟨rfl, (hM.2.2.2.2 (by decide)).1.trans rfl, rfl⟩⟩ rfl dX4_init_75 (fun A75 hf => ?_)
  refine g_aload_n hX dX4_init_78 (lg_at 0 rfl) ?_
  refine g_bipush hX dX4_init_79 (10 : Int32) (by decide) ?_
  refine h_newa .int hM dX4_init_81 rfl (Or.inl ⟨rfl, rfl⟩) (lw_LW q259) hf rfl (fun A81 hf => ?_)
  refine g_putR hX hf fs_SlimeNetModel_80_5 ⟨_, rfl, Or.inr ⟨rfl, (hM.2.2.2.2 (by decide)).1.trans rfl, rfl⟩⟩ rfl dX4_init_83 (fun A83 hf => ?_)
  refine g_aload_n hX dX4_init_86 (lg_at 0 rfl) ?_
  refine g_bipush hX dX4_init_87 (10 : Int32) (by decide) ?_
  refine h_newa .int hM dX4_init_89 rfl (Or.inl ⟨rfl, rfl⟩) (lw_LW q259) hf rfl (fun A89 hf => ?_)
  refine g_putR hX hf fs_SlimeNetModel_84_5 ⟨_, rfl, Or.inr ⟨rfl, (hM.2.2.2.2 (by decide)).1.trans rfl, rfl⟩⟩ rfl dX4_init_91 (fun A91 hf => ?_)
  refine g_aload_n hX dX4_init_94 (lg_at 0 rfl) ?_
  refine g_bipush hX dX4_init_95 (10 : Int32) (by decide) ?_
  refine h_newa .int hM dX4_init_97 rfl (Or.inl ⟨rfl, rfl⟩) (lw_LW q259) hf rfl (fun A97 hf => ?_)
  refine g_putR hX hf fs_SlimeNetModel_98_5 ⟨_, rfl, Or.inr ⟨rfl, (hM.2.2.2.2 (by decide)).1.trans rfl, rfl⟩⟩ rfl dX4_init_99 (fun A99 hf => ?_)
  refine g_aload_n hX dX4_init_102 (lg_at 0 rfl) ?_
  refine g_bipush hX dX4_init_103 (6 : Int32) (by decide) ?_
  refine h_newa .int hM dX4_init_105 rfl (Or.inl ⟨rfl, rfl⟩) (lw_LW q259) hf rfl (fun A105 hf => ?_)
  refine g_putR hX hf fs_SlimeNetModel_104_5 ⟨_, rfl, Or.inr ⟨rfl, (hM.2.2.2.2 (by decide)).1.trans rfl, rfl⟩⟩ rfl dX4_init_107 (fun A107 hf => ?_)
  refine g_aload_n hX dX4_init_110 (lg_at 0 rfl) ?_
  refine g_sipush hX dX4_init_111 (1024 : Int32) (by decide) ?_
  refine h_newa .int hM dX4_init_114 rfl (Or.inl ⟨rfl, rfl⟩) (lw_LW q259) hf rfl (fun A114 hf => ?_)
  refine g_putR hX hf fs_SlimeNetModel_200_5 ⟨_, rfl, Or.inr ⟨rfl, (hM.2.2.2.2 (by decide)).1.trans rfl, rfl⟩⟩ rfl dX4_init_116 (fun A116 hf => ?_)
  refine g_aload_n hX dX4_init_119 (lg_at 0 rfl) ?_
  refine g_sipush hX dX4_init_120 (6144 : Int32) (by decide) ?_
  refine h_newa .int hM dX4_init_123 rfl (Or.inl ⟨rfl, rfl⟩) (lw_LW q259) hf rfl (fun A123 hf => ?_)
  refine g_putR hX hf fs_SlimeNetModel_203_5 ⟨_, rfl, Or.inr ⟨rfl, (hM.2.2.2.2 (by decide)).1.trans rfl, rfl⟩⟩ rfl dX4_init_125 (fun A125 hf => ?_)
  refine g_aload_n hX dX4_init_128 (lg_at 0 rfl) ?_
  refine g_sipush hX dX4_init_129 (1024 : Int32) (by decide) ?_
  refine h_newa .int hM dX4_init_132 rfl (Or.inl ⟨rfl, rfl⟩) (lw_LW q259) hf rfl (fun A132 hf => ?_)
  refine g_putR hX hf fs_SlimeNetModel_206_5 ⟨_, rfl, Or.inr ⟨rfl, (hM.2.2.2.2 (by decide)).1.trans rfl, rfl⟩⟩ rfl dX4_init_134 (fun A134 hf => ?_)
  refine g_aload_n hX dX4_init_137 (lg_at 0 rfl) ?_
  refine g_bipush hX dX4_init_138 (10 : Int32) (by decide) ?_
  refine h_newa .int hM dX4_init_140 rfl (Or.inl ⟨rfl, rfl⟩) (lw_LW q259) hf rfl (fun A140 hf => ?_)
  refine g_putR hX hf fs_SlimeNetModel_209_5 ⟨_, rfl, Or.inr ⟨rfl, (hM.2.2.2.2 (by decide)).1.trans rfl, rfl⟩⟩ rfl dX4_init_142 (fun A142 hf => ?_)
  refine g_aload_n hX dX4_init_145 (lg_at 0 rfl) ?_
  refine g_bipush hX dX4_init_146 (10 : Int32) (by decide) ?_
  refine h_newa .long hM dX4_init_148 rfl (Or.inr (Or.inr (Or.inr ⟨rfl, rfl⟩))) (lw_LW q201) hf rfl (fun A148 hf => ?_)
  refine g_putR hX hf fs_SlimeNetModel_212_5 ⟨_, rfl, Or.inr ⟨rfl, (hM.2.2.2.2 (by decide)).1.trans rfl, rfl⟩⟩ rfl dX4_init_150 (fun A150 hf => ?_)
  refine g_aload_n hX dX4_init_153 (lg_at 0 rfl) ?_
  refine g_bipush hX dX4_init_154 (10 : Int32) (by decide) ?_
  refine h_newa .int hM dX4_init_156 rfl (Or.inl ⟨rfl, rfl⟩) (lw_LW q259) hf rfl (fun A156 hf => ?_)
  refine g_putR hX hf fs_SlimeNetModel_215_5 ⟨_, rfl, Or.inr ⟨rfl, (hM.2.2.2.2 (by decide)).1.trans rfl, rfl⟩⟩ rfl dX4_init_158 (fun A158 hf => ?_)
  refine g_aload_n hX dX4_init_161 (lg_at 0 rfl) ?_
  refine g_bipush hX dX4_init_162 (10 : Int32) (by decide) ?_
  refine h_newa .int hM dX4_init_164 rfl (Or.inl ⟨rfl, rfl⟩) (lw_LW q259) hf rfl (fun A164 hf => ?_)
  refine g_putR hX hf fs_SlimeNetModel_217_5 ⟨_, rfl, Or.inr ⟨rfl, (hM.2.2.2.2 (by decide)).1.trans rfl, rfl⟩⟩ rfl dX4_init_166 (fun A166 hf => ?_)
  refine g_aload_n hX dX4_init_169 (lg_at 0 rfl) ?_
  refine g_sipush hX dX4_init_170 (2010 : Int32) (by decide) ?_
  refine h_newa .int hM dX4_init_173 rfl (Or.inl ⟨rfl, rfl⟩) (lw_LW q259) hf rfl (fun A173 hf => ?_)
  refine g_putR hX hf fs_SlimeNetModel_220_5 ⟨_, rfl, Or.inr ⟨rfl, (hM.2.2.2.2 (by decide)).1.trans rfl, rfl⟩⟩ rfl dX4_init_175 (fun A175 hf => ?_)
  refine g_aload_n hX dX4_init_178 (lg_at 0 rfl) ?_
  refine g_sipush hX dX4_init_179 (2010 : Int32) (by decide) ?_
  refine h_newa .int hM dX4_init_182 rfl (Or.inl ⟨rfl, rfl⟩) (lw_LW q259) hf rfl (fun A182 hf => ?_)
  refine g_putR hX hf fs_SlimeNetModel_223_5 ⟨_, rfl, Or.inr ⟨rfl, (hM.2.2.2.2 (by decide)).1.trans rfl, rfl⟩⟩ rfl dX4_init_184 (fun A184 hf => ?_)
  refine g_aload_n hX dX4_init_187 (lg_at 0 rfl) ?_
  refine g_iconst hX dX4_init_188 (-1 : Int32) (by decide) ?_
  refine g_putI hX hf fs_SlimeNetModel_226_5 ⟨_, rfl, Or.inl rfl⟩ rfl dX4_init_189 (fun A189 hf => ?_)
  refine g_aload_n hX dX4_init_192 (lg_at 0 rfl) ?_
  refine g_bipush hX dX4_init_193 (40 : Int32) (by decide) ?_
  refine h_newa .int hM dX4_init_195 rfl (Or.inl ⟨rfl, rfl⟩) (lw_LW q259) hf rfl (fun A195 hf => ?_)
  refine g_putR hX hf fs_SlimeNetModel_229_5 ⟨_, rfl, Or.inr ⟨rfl, (hM.2.2.2.2 (by decide)).1.trans rfl, rfl⟩⟩ rfl dX4_init_197 (fun A197 hf => ?_)
  refine g_aload_n hX dX4_init_200 (lg_at 0 rfl) ?_
  refine g_bipush hX dX4_init_201 (40 : Int32) (by decide) ?_
  refine h_newa .int hM dX4_init_203 rfl (Or.inl ⟨rfl, rfl⟩) (lw_LW q259) hf rfl (fun A203 hf => ?_)
  refine g_putR hX hf fs_SlimeNetModel_232_5 ⟨_, rfl, Or.inr ⟨rfl, (hM.2.2.2.2 (by decide)).1.trans rfl, rfl⟩⟩ rfl dX4_init_205 (fun A205 hf => ?_)
  refine g_aload_n hX dX4_init_208 (lg_at 0 rfl) ?_
  refine g_iconst hX dX4_init_209 (4 : Int32) (by decide) ?_
  refine h_newa .int hM dX4_init_210 rfl (Or.inl ⟨rfl, rfl⟩) (lw_LW q259) hf rfl (fun A210 hf => ?_)
  refine g_putR hX hf fs_SlimeNetModel_235_5 ⟨_, rfl, Or.inr ⟨rfl, (hM.2.2.2.2 (by decide)).1.trans rfl, rfl⟩⟩ rfl dX4_init_212 (fun A212 hf => ?_)
  refine g_aload_n hX dX4_init_215 (lg_at 0 rfl) ?_
  refine g_iconst hX dX4_init_216 (4 : Int32) (by decide) ?_
  refine h_newa .boolean hM dX4_init_217 rfl (Or.inr (Or.inr (Or.inl ⟨rfl, rfl⟩))) (lw_LW q418) hf rfl (fun A217 hf => ?_)
  refine g_putR hX hf fs_SlimeNetModel_238_5 ⟨_, rfl, Or.inr ⟨rfl, (hM.2.2.2.2 (by decide)).1.trans rfl, rfl⟩⟩ rfl dX4_init_219 (fun A219 hf => ?_)
  refine g_aload_n hX dX4_init_222 (lg_at 0 rfl) ?_
  refine g_bipush hX dX4_init_223 (6 : Int32) (by decide) ?_
  refine h_newa .int hM dX4_init_225 rfl (Or.inl ⟨rfl, rfl⟩) (lw_LW q259) hf rfl (fun A225 hf => ?_)
  refine g_putR hX hf fs_SlimeNetModel_242_5 ⟨_, rfl, Or.inr ⟨rfl, (hM.2.2.2.2 (by decide)).1.trans rfl, rfl⟩⟩ rfl dX4_init_227 (fun A227 hf => ?_)
  refine g_aload_n hX dX4_init_230 (lg_at 0 rfl) ?_
  refine g_bipush hX dX4_init_231 (121 : Int32) (by decide) ?_
  refine h_newa .int hM dX4_init_233 rfl (Or.inl ⟨rfl, rfl⟩) (lw_LW q259) hf rfl (fun A233 hf => ?_)
  refine g_putR hX hf fs_SlimeNetModel_245_5 ⟨_, rfl, Or.inr ⟨rfl, (hM.2.2.2.2 (by decide)).1.trans rfl, rfl⟩⟩ rfl dX4_init_235 (fun A235 hf => ?_)
  refine g_aload_n hX dX4_init_238 (lg_at 0 rfl) ?_
  refine g_bipush hX dX4_init_239 (121 : Int32) (by decide) ?_
  refine h_newa .int hM dX4_init_241 rfl (Or.inl ⟨rfl, rfl⟩) (lw_LW q259) hf rfl (fun A241 hf => ?_)
  refine g_putR hX hf fs_SlimeNetModel_248_5 ⟨_, rfl, Or.inr ⟨rfl, (hM.2.2.2.2 (by decide)).1.trans rfl, rfl⟩⟩ rfl dX4_init_243 (fun A243 hf => ?_)
  refine g_aload_n hX dX4_init_246 (lg_at 0 rfl) ?_
  refine g_sipush hX dX4_init_247 (18081 : Int32) (by decide) ?_
  refine h_newa .int hM dX4_init_250 rfl (Or.inl ⟨rfl, rfl⟩) (lw_LW q259) hf rfl (fun A250 hf => ?_)
  refine g_putR hX hf fs_SlimeNetModel_251_5 ⟨_, rfl, Or.inr ⟨rfl, (hM.2.2.2.2 (by decide)).1.trans rfl, rfl⟩⟩ rfl dX4_init_252 (fun A252 hf => ?_)
  refine g_aload_n hX dX4_init_255 (lg_at 0 rfl) ?_
  refine g_bipush hX dX4_init_256 (10 : Int32) (by decide) ?_
  refine h_newa .int hM dX4_init_258 rfl (Or.inl ⟨rfl, rfl⟩) (lw_LW q259) hf rfl (fun A258 hf => ?_)
  refine g_putR hX hf fs_SlimeNetModel_254_5 ⟨_, rfl, Or.inr ⟨rfl, (hM.2.2.2.2 (by decide)).1.trans rfl, rfl⟩⟩ rfl dX4_init_260 (fun A260 hf => ?_)
  refine g_aload_n hX dX4_init_263 (lg_at 0 rfl) ?_
  refine g_bipush hX dX4_init_264 (10 : Int32) (by decide) ?_
  refine h_newa .int hM dX4_init_266 rfl (Or.inl ⟨rfl, rfl⟩) (lw_LW q259) hf rfl (fun A266 hf => ?_)
  refine g_putR hX hf fs_SlimeNetModel_257_5 ⟨_, rfl, Or.inr ⟨rfl, (hM.2.2.2.2 (by decide)).1.trans rfl, rfl⟩⟩ rfl dX4_init_268 (fun A268 hf => ?_)
  refine g_aload_n hX dX4_init_271 (lg_at 0 rfl) ?_
  refine g_bipush hX dX4_init_272 (16 : Int32) (by decide) ?_
  refine h_newa .int hM dX4_init_274 rfl (Or.inl ⟨rfl, rfl⟩) (lw_LW q259) hf rfl (fun A274 hf => ?_)
  refine g_putR hX hf fs_SlimeNetModel_260_5 ⟨_, rfl, Or.inr ⟨rfl, (hM.2.2.2.2 (by decide)).1.trans rfl, rfl⟩⟩ rfl dX4_init_276 (fun A276 hf => ?_)
  refine g_aload_n hX dX4_init_279 (lg_at 0 rfl) ?_
  refine g_bipush hX dX4_init_280 (16 : Int32) (by decide) ?_
  refine h_newa .int hM dX4_init_282 rfl (Or.inl ⟨rfl, rfl⟩) (lw_LW q259) hf rfl (fun A282 hf => ?_)
  refine g_putR hX hf fs_SlimeNetModel_263_5 ⟨_, rfl, Or.inr ⟨rfl, (hM.2.2.2.2 (by decide)).1.trans rfl, rfl⟩⟩ rfl dX4_init_284 (fun A284 hf => ?_)
  refine g_aload_n hX dX4_init_287 (lg_at 0 rfl) ?_
  refine g_bipush hX dX4_init_288 (16 : Int32) (by decide) ?_
  refine h_newa .int hM dX4_init_290 rfl (Or.inl ⟨rfl, rfl⟩) (lw_LW q259) hf rfl (fun A290 hf => ?_)
  refine g_putR hX hf fs_SlimeNetModel_266_5 ⟨_, rfl, Or.inr ⟨rfl, (hM.2.2.2.2 (by decide)).1.trans rfl, rfl⟩⟩ rfl dX4_init_292 (fun A292 hf => ?_)
  refine g_aload_n hX dX4_init_295 (lg_at 0 rfl) ?_
  refine g_bipush hX dX4_init_296 (20 : Int32) (by decide) ?_
  refine h_newa .int hM dX4_init_298 rfl (Or.inl ⟨rfl, rfl⟩) (lw_LW q259) hf rfl (fun A298 hf => ?_)
  refine g_putR hX hf fs_SlimeNetModel_269_5 ⟨_, rfl, Or.inr ⟨rfl, (hM.2.2.2.2 (by decide)).1.trans rfl, rfl⟩⟩ rfl dX4_init_300 (fun A300 hf => ?_)
  refine g_aload_n hX dX4_init_303 (lg_at 0 rfl) ?_
  refine g_bipush hX dX4_init_304 (20 : Int32) (by decide) ?_
  refine h_newa .int hM dX4_init_306 rfl (Or.inl ⟨rfl, rfl⟩) (lw_LW q259) hf rfl (fun A306 hf => ?_)
  refine g_putR hX hf fs_SlimeNetModel_272_5 ⟨_, rfl, Or.inr ⟨rfl, (hM.2.2.2.2 (by decide)).1.trans rfl, rfl⟩⟩ rfl dX4_init_308 (fun A308 hf => ?_)
  refine g_aload_n hX dX4_init_311 (lg_at 0 rfl) ?_
  refine g_bipush hX dX4_init_312 (20 : Int32) (by decide) ?_
  refine h_newa .int hM dX4_init_314 rfl (Or.inl ⟨rfl, rfl⟩) (lw_LW q259) hf rfl (fun A314 hf => ?_)
  refine g_putR hX hf fs_SlimeNetModel_275_5 ⟨_, rfl, Or.inr ⟨rfl, (hM.2.2.2.2 (by decide)).1.trans rfl, rfl⟩⟩ rfl dX4_init_316 (fun A316 hf => ?_)
  refine g_aload_n hX dX4_init_319 (lg_at 0 rfl) ?_
  refine g_sipush hX dX4_init_320 (1024 : Int32) (by decide) ?_
  refine h_newa .int hM dX4_init_323 rfl (Or.inl ⟨rfl, rfl⟩) (lw_LW q259) hf rfl (fun A323 hf => ?_)
  refine g_putR hX hf fs_SlimeNetModel_278_5 ⟨_, rfl, Or.inr ⟨rfl, (hM.2.2.2.2 (by decide)).1.trans rfl, rfl⟩⟩ rfl dX4_init_325 (fun A325 hf => ?_)
  refine g_aload_n hX dX4_init_328 (lg_at 0 rfl) ?_
  obtain ⟨k329, hk329, hf⟩ := ob_some hf
  obtain ⟨A329, hc329, hf⟩ := ob_some hf
  refine h_callV hM [] dX4_init_329 cs_SlimeNetModel_281_5 hk329 (m_X4_findTrees hc329) rfl rfl rfl rfl ?_
  cases hf
  exact h_vret hM dX4_init_332 hr rfl rfl

theorem m_X4_init {l : Launch} {this : Nat} {A : AH} {out : AH} (h : f_X4_init this A = some out) : MetF l yX4_init (Cond.code yX4_init cX4_init 1 none) rm_X4_init [vr (some this)] A (r_X4_init A out) :=
  metF_of rfl rfl (Nat.le_of_ble_eq_true rfl) fun X hX hl hR hnm hr h1 h2 hno => w_f_X4_init (X := X) ⟨hX, hR, h1, h2, fun _ => ⟨hnm, hno⟩⟩ h hr

/-! SlimeNet.four(I)V -/
def rm_X0_four : Room := { frames := 1, cells := 0, slots := 0, locals := 24 }
def r_X0_four (_A : AH) (o : AH) : (Option AV × AH) ⊕ (Nat × AH) := .inl (none, o)
def k_X0_four_3 (X : Ctx) (this : Nat) (x1 : Int32) : ((Int32 × AH) ⊕ (AH)) → Prop
  | .inl (x2, A) => G X 0 0 3 [(0, vr (some this)), (1, vi x1), (2, vi x2)] [] A
  | .inr A => G X 0 0 36 [] [] A

set_option maxRecDepth 100000 in
theorem w_s_X0_four_3 {X : Ctx} (hM : MX X yX0_four cX0_four 3 "SlimeNet" none rm_X0_four []) {this : Nat} {x1 : Int32} {st : Int32 × AH} {out : (Int32 × AH) ⊕ (AH)} (hf : s_X0_four_3 this x1 st = some out) (K : k_X0_four_3 X this x1 out) : k_X0_four_3 X this x1 (.inl st) := by
  have hX := hM.1
  obtain ⟨x2, A⟩ := st
  unfold s_X0_four_3 at hf
  dsimp only at hf
  show G X 0 0 3 [(0, vr (some this)), (1, vi x1), (2, vi x2)] [] A
  refine g_iload_n hX dX0_four_3 (lg_at 2 rfl) ?_
  refine g_if_lt hX dX0_four_4 36 hf (by decide) (fun c4 hf => ?_) (fun c4 hf => ?_)
  · cases hf
    exact g_pick (show G X _ _ _ _ _ _ from K) [] rfl
  · refine g_aload_n hX dX0_four_7 (lg_at 0 rfl) ?_
    refine g_getR hX hf fs_SlimeNet_16_1 rfl dX0_four_8 (fun v8 hf => ?_)
    refine g_aload_n hX dX0_four_11 (lg_at 0 rfl) ?_
    refine g_getI hX hf fs_SlimeNet_96_1 rfl dX0_four_12 (fun v12 hf => ?_)
    refine g_iload_n hX dX0_four_15 (lg_at 1 rfl) ?_
    refine g_iload_n hX dX0_four_16 (lg_at 2 rfl) ?_
    refine g_ishr hX dX0_four_17 ?_
    refine g_i2b hX dX0_four_18 ?_
    refine g_bast hX hf dX0_four_19 (fun A19 hf => ?_)
    refine g_aload_n hX dX0_four_20 (lg_at 0 rfl) ?_
    refine g_dup hX dX0_four_21 rfl ?_
    refine g_getI hX hf fs_SlimeNet_96_1 rfl dX0_four_22 (fun v22 hf => ?_)
    refine g_iconst hX dX0_four_25 (1 : Int32) (by decide) ?_
    refine g_iadd hX dX0_four_26 ?_
    refine g_putI hX hf fs_SlimeNet_96_1 ⟨_, rfl, Or.inl rfl⟩ rfl dX0_four_27 (fun A27 hf => ?_)
    refine g_iinc hX dX0_four_30 (-8 : Int32) (x2 + (-8 : Int32)) [(2, vi (x2 + (-8 : Int32))), (0, vr (some this)), (1, vi x1)] (by decide) rfl (lg_at 2 rfl) (by decide) rfl ?_
    refine g_goto hX dX0_four_33 3 (by decide) ?_
    cases hf
    exact g_pick (show G X _ _ _ _ _ _ from K) [1, 2, 0] rfl

set_option maxRecDepth 100000 in
theorem w_l_X0_four_3 {X : Ctx} (hM : MX X yX0_four cX0_four 3 "SlimeNet" none rm_X0_four []) {this : Nat} {x1 : Int32} {x2 : Int32} {A : AH} {out : AH} (hf : l_X0_four_3 this x1 x2 A = some out) (hr : c_res X = r_X0_four A out) : G X 0 0 3 [(0, vr (some this)), (1, vi x1), (2, vi x2)] [] A := by
  have hX := hM.1
  unfold l_X0_four_3 at hf
  obtain ⟨e, hw, hf⟩ := ob_some hf
  refine (whl_ind (k_X0_four_3 X this x1) (fun st o hs K => w_s_X0_four_3 hM hs K) hw ?_ : k_X0_four_3 X this x1 (.inl (x2, A)))
  revert hf hw; generalize e = A; intro hw hf
  dsimp only at hf
  show G X 0 0 36 [] [] A
  cases hf
  exact h_vret hM dX0_four_36 hr rfl rfl

set_option maxRecDepth 100000 in
theorem w_f_X0_four {X : Ctx} (hM : MX X yX0_four cX0_four 3 "SlimeNet" none rm_X0_four []) {this : Nat} {x1 : Int32} {A : AH} {out : AH} (hf : f_X0_four this x1 A = some out) (hr : c_res X = r_X0_four A out) : G X 0 0 0 [(0, vr (some this)), (1, vi x1)] [] A := by
  have hX := hM.1
  unfold f_X0_four at hf
  refine g_bipush hX dX0_four_0 (24 : Int32) (by decide) ?_
  refine g_istore_n hX dX0_four_2 [(2, vi (24 : Int32)), (0, vr (some this)), (1, vi x1)] (by decide) rfl ?_
  exact g_pick (w_l_X0_four_3 hM hf hr) [1, 2, 0] rfl

theorem m_X0_four {l : Launch} {this : Nat} {x1 : Int32} {A : AH} {out : AH} (h : f_X0_four this x1 A = some out) : MetF l yX0_four (Cond.code yX0_four cX0_four 3 none) rm_X0_four [vr (some this), vi x1] A (r_X0_four A out) :=
  metF_of rfl rfl (Nat.le_of_ble_eq_true rfl) fun X hX hl hR hnm hr h1 h2 hno => w_f_X0_four (X := X) ⟨hX, hR, h1, h2, fun _ => ⟨hnm, hno⟩⟩ h hr

/-! SlimeNet.feed(IIIII)I -/
def rm_X0_feed : Room := { frames := 2, cells := 0, slots := 0, locals := 46 }
def r_X0_feed (_A : AH) (o : Int32 × AH) : (Option AV × AH) ⊕ (Nat × AH) := .inl (some (vi o.1), o.2)
set_option maxRecDepth 100000 in
theorem w_f_X0_feed {X : Ctx} (hM : MX X yX0_feed cX0_feed 6 "SlimeNet" (some Jvm.ClassFile.FieldType.int) rm_X0_feed []) {this : Nat} {x1 : Int32} {x2 : Int32} {x3 : Int32} {x4 : Int32} {x5 : Int32} {A : AH} {out : Int32 × AH} (hf : f_X0_feed this x1 x2 x3 x4 x5 A = some out) (hr : c_res X = r_X0_feed A out) : G X 0 0 0 [(0, vr (some this)), (1, vi x1), (2, vi x2), (3, vi x3), (4, vi x4), (5, vi x5)] [] A := by
  have hX := hM.1
  unfold f_X0_feed at hf
  refine g_aload_n hX dX0_feed_0 (lg_at 0 rfl) ?_
  refine g_getI hX hf fs_SlimeNet_96_1 rfl dX0_feed_1 (fun v1 hf => ?_)
  refine g_bipush hX dX0_feed_4 (20 : Int32) (by decide) ?_
  refine g_iadd hX dX0_feed_6 ?_
  refine g_sipush hX dX0_feed_7 (700 : Int32) (by decide) ?_
  refine g_icmp_le hX dX0_feed_10 16 hf (by decide) (fun c10 hf => ?_) (fun c10 hf => ?_)
  · refine g_aload_n hX dX0_feed_16 (lg_at 0 rfl) ?_
    refine g_iload_n hX dX0_feed_17 (lg_at 1 rfl) ?_
    obtain ⟨k18, hk18, hf⟩ := ob_some hf
    obtain ⟨A18, hc18, hf⟩ := ob_some hf
    refine h_callV hM [vi x1] dX0_feed_18 cs_SlimeNet_99_1 hk18 (m_X0_four hc18) rfl rfl rfl rfl ?_
    refine g_aload_n hX dX0_feed_21 (lg_at 0 rfl) ?_
    refine g_iload_n hX dX0_feed_22 (lg_at 2 rfl) ?_
    obtain ⟨k23, hk23, hf⟩ := ob_some hf
    obtain ⟨A23, hc23, hf⟩ := ob_some hf
    refine h_callV hM [vi x2] dX0_feed_23 cs_SlimeNet_99_1 hk23 (m_X0_four hc23) rfl rfl rfl rfl ?_
    refine g_aload_n hX dX0_feed_26 (lg_at 0 rfl) ?_
    refine g_iload_n hX dX0_feed_27 (lg_at 3 rfl) ?_
    obtain ⟨k28, hk28, hf⟩ := ob_some hf
    obtain ⟨A28, hc28, hf⟩ := ob_some hf
    refine h_callV hM [vi x3] dX0_feed_28 cs_SlimeNet_99_1 hk28 (m_X0_four hc28) rfl rfl rfl rfl ?_
    refine g_aload_n hX dX0_feed_31 (lg_at 0 rfl) ?_
    refine g_iload hX dX0_feed_32 (lg_at 4 rfl) ?_
    obtain ⟨k34, hk34, hf⟩ := ob_some hf
    obtain ⟨A34, hc34, hf⟩ := ob_some hf
    refine h_callV hM [vi x4] dX0_feed_34 cs_SlimeNet_99_1 hk34 (m_X0_four hc34) rfl rfl rfl rfl ?_
    refine g_aload_n hX dX0_feed_37 (lg_at 0 rfl) ?_
    refine g_iload hX dX0_feed_38 (lg_at 5 rfl) ?_
    obtain ⟨k40, hk40, hf⟩ := ob_some hf
    obtain ⟨A40, hc40, hf⟩ := ob_some hf
    refine h_callV hM [vi x5] dX0_feed_40 cs_SlimeNet_99_1 hk40 (m_X0_four hc40) rfl rfl rfl rfl ?_
    refine g_aload_n hX dX0_feed_43 (lg_at 0 rfl) ?_
    refine g_getI hX hf fs_SlimeNet_96_1 rfl dX0_feed_44 (fun v44 hf => ?_)
    cases hf
    exact h_iret hM dX0_feed_47 hr rfl rfl
  · refine g_bipush hX dX0_feed_13 (-3 : Int32) (by decide) ?_
    cases hf
    exact h_iret hM dX0_feed_15 hr rfl rfl

theorem m_X0_feed {l : Launch} {this : Nat} {x1 : Int32} {x2 : Int32} {x3 : Int32} {x4 : Int32} {x5 : Int32} {A : AH} {out : Int32 × AH} (h : f_X0_feed this x1 x2 x3 x4 x5 A = some out) : MetF l yX0_feed (Cond.code yX0_feed cX0_feed 6 (some Jvm.ClassFile.FieldType.int)) rm_X0_feed [vr (some this), vi x1, vi x2, vi x3, vi x4, vi x5] A (r_X0_feed A out) :=
  metF_of rfl rfl (Nat.le_of_ble_eq_true rfl) fun X hX hl hR hnm hr h1 h2 hno => w_f_X0_feed (X := X) ⟨hX, hR, h1, h2, fun _ => ⟨hnm, hno⟩⟩ h hr

/-! SlimeNetModel.putFour(I)V -/
def rm_X4_putFour : Room := { frames := 1, cells := 0, slots := 0, locals := 24 }
def r_X4_putFour (_A : AH) (o : AH) : (Option AV × AH) ⊕ (Nat × AH) := .inl (none, o)
def k_X4_putFour_3 (X : Ctx) (this : Nat) (x1 : Int32) : ((Int32 × AH) ⊕ (AH)) → Prop
  | .inl (x2, A) => G X 0 0 3 [(0, vr (some this)), (1, vi x1), (2, vi x2)] [] A
  | .inr A => G X 0 0 36 [] [] A

set_option maxRecDepth 100000 in
theorem w_s_X4_putFour_3 {X : Ctx} (hM : MX X yX4_putFour cX4_putFour 3 "SlimeNetModel" none rm_X4_putFour []) {this : Nat} {x1 : Int32} {st : Int32 × AH} {out : (Int32 × AH) ⊕ (AH)} (hf : s_X4_putFour_3 this x1 st = some out) (K : k_X4_putFour_3 X this x1 out) : k_X4_putFour_3 X this x1 (.inl st) := by
  have hX := hM.1
  obtain ⟨x2, A⟩ := st
  unfold s_X4_putFour_3 at hf
  dsimp only at hf
  show G X 0 0 3 [(0, vr (some this)), (1, vi x1), (2, vi x2)] [] A
  refine g_iload_n hX dX4_putFour_3 (lg_at 2 rfl) ?_
  refine g_if_lt hX dX4_putFour_4 36 hf (by decide) (fun c4 hf => ?_) (fun c4 hf => ?_)
  · cases hf
    exact g_pick (show G X _ _ _ _ _ _ from K) [] rfl
  · refine g_aload_n hX dX4_putFour_7 (lg_at 0 rfl) ?_
    refine g_getR hX hf fs_SlimeNetModel_16_5 rfl dX4_putFour_8 (fun v8 hf => ?_)
    refine g_aload_n hX dX4_putFour_11 (lg_at 0 rfl) ?_
    refine g_getI hX hf fs_SlimeNetModel_284_5 rfl dX4_putFour_12 (fun v12 hf => ?_)
    refine g_iload_n hX dX4_putFour_15 (lg_at 1 rfl) ?_
    refine g_iload_n hX dX4_putFour_16 (lg_at 2 rfl) ?_
    refine g_ishr hX dX4_putFour_17 ?_
    refine g_i2b hX dX4_putFour_18 ?_
    refine g_bast hX hf dX4_putFour_19 (fun A19 hf => ?_)
    refine g_aload_n hX dX4_putFour_20 (lg_at 0 rfl) ?_
    refine g_dup hX dX4_putFour_21 rfl ?_
    refine g_getI hX hf fs_SlimeNetModel_284_5 rfl dX4_putFour_22 (fun v22 hf => ?_)
    refine g_iconst hX dX4_putFour_25 (1 : Int32) (by decide) ?_
    refine g_iadd hX dX4_putFour_26 ?_
    refine g_putI hX hf fs_SlimeNetModel_284_5 ⟨_, rfl, Or.inl rfl⟩ rfl dX4_putFour_27 (fun A27 hf => ?_)
    refine g_iinc hX dX4_putFour_30 (-8 : Int32) (x2 + (-8 : Int32)) [(2, vi (x2 + (-8 : Int32))), (0, vr (some this)), (1, vi x1)] (by decide) rfl (lg_at 2 rfl) (by decide) rfl ?_
    refine g_goto hX dX4_putFour_33 3 (by decide) ?_
    cases hf
    exact g_pick (show G X _ _ _ _ _ _ from K) [1, 2, 0] rfl

set_option maxRecDepth 100000 in
theorem w_l_X4_putFour_3 {X : Ctx} (hM : MX X yX4_putFour cX4_putFour 3 "SlimeNetModel" none rm_X4_putFour []) {this : Nat} {x1 : Int32} {x2 : Int32} {A : AH} {out : AH} (hf : l_X4_putFour_3 this x1 x2 A = some out) (hr : c_res X = r_X4_putFour A out) : G X 0 0 3 [(0, vr (some this)), (1, vi x1), (2, vi x2)] [] A := by
  have hX := hM.1
  unfold l_X4_putFour_3 at hf
  obtain ⟨e, hw, hf⟩ := ob_some hf
  refine (whl_ind (k_X4_putFour_3 X this x1) (fun st o hs K => w_s_X4_putFour_3 hM hs K) hw ?_ : k_X4_putFour_3 X this x1 (.inl (x2, A)))
  revert hf hw; generalize e = A; intro hw hf
  dsimp only at hf
  show G X 0 0 36 [] [] A
  cases hf
  exact h_vret hM dX4_putFour_36 hr rfl rfl

set_option maxRecDepth 100000 in
theorem w_f_X4_putFour {X : Ctx} (hM : MX X yX4_putFour cX4_putFour 3 "SlimeNetModel" none rm_X4_putFour []) {this : Nat} {x1 : Int32} {A : AH} {out : AH} (hf : f_X4_putFour this x1 A = some out) (hr : c_res X = r_X4_putFour A out) : G X 0 0 0 [(0, vr (some this)), (1, vi x1)] [] A := by
  have hX := hM.1
  unfold f_X4_putFour at hf
  refine g_bipush hX dX4_putFour_0 (24 : Int32) (by decide) ?_
  refine g_istore_n hX dX4_putFour_2 [(2, vi (24 : Int32)), (0, vr (some this)), (1, vi x1)] (by decide) rfl ?_
  exact g_pick (w_l_X4_putFour_3 hM hf hr) [1, 2, 0] rfl

theorem m_X4_putFour {l : Launch} {this : Nat} {x1 : Int32} {A : AH} {out : AH} (h : f_X4_putFour this x1 A = some out) : MetF l yX4_putFour (Cond.code yX4_putFour cX4_putFour 3 none) rm_X4_putFour [vr (some this), vi x1] A (r_X4_putFour A out) :=
  metF_of rfl rfl (Nat.le_of_ble_eq_true rfl) fun X hX hl hR hnm hr h1 h2 hno => w_f_X4_putFour (X := X) ⟨hX, hR, h1, h2, fun _ => ⟨hnm, hno⟩⟩ h hr

/-! SlimeNetModel.feed(IIIII)I -/
def rm_X4_feed : Room := { frames := 2, cells := 0, slots := 0, locals := 46 }
def r_X4_feed (_A : AH) (o : Int32 × AH) : (Option AV × AH) ⊕ (Nat × AH) := .inl (some (vi o.1), o.2)
set_option maxRecDepth 100000 in
theorem w_f_X4_feed {X : Ctx} (hM : MX X yX4_feed cX4_feed 6 "SlimeNetModel" (some Jvm.ClassFile.FieldType.int) rm_X4_feed []) {this : Nat} {x1 : Int32} {x2 : Int32} {x3 : Int32} {x4 : Int32} {x5 : Int32} {A : AH} {out : Int32 × AH} (hf : f_X4_feed this x1 x2 x3 x4 x5 A = some out) (hr : c_res X = r_X4_feed A out) : G X 0 0 0 [(0, vr (some this)), (1, vi x1), (2, vi x2), (3, vi x3), (4, vi x4), (5, vi x5)] [] A := by
  have hX := hM.1
  unfold f_X4_feed at hf
  refine g_aload_n hX dX4_feed_0 (lg_at 0 rfl) ?_
  refine g_getI hX hf fs_SlimeNetModel_284_5 rfl dX4_feed_1 (fun v1 hf => ?_)
  refine g_bipush hX dX4_feed_4 (20 : Int32) (by decide) ?_
  refine g_iadd hX dX4_feed_6 ?_
  refine g_sipush hX dX4_feed_7 (700 : Int32) (by decide) ?_
  refine g_icmp_le hX dX4_feed_10 16 hf (by decide) (fun c10 hf => ?_) (fun c10 hf => ?_)
  · refine g_aload_n hX dX4_feed_16 (lg_at 0 rfl) ?_
    refine g_iload_n hX dX4_feed_17 (lg_at 1 rfl) ?_
    obtain ⟨k18, hk18, hf⟩ := ob_some hf
    obtain ⟨A18, hc18, hf⟩ := ob_some hf
    refine h_callV hM [vi x1] dX4_feed_18 cs_SlimeNetModel_287_5 hk18 (m_X4_putFour hc18) rfl rfl rfl rfl ?_
    refine g_aload_n hX dX4_feed_21 (lg_at 0 rfl) ?_
    refine g_iload_n hX dX4_feed_22 (lg_at 2 rfl) ?_
    obtain ⟨k23, hk23, hf⟩ := ob_some hf
    obtain ⟨A23, hc23, hf⟩ := ob_some hf
    refine h_callV hM [vi x2] dX4_feed_23 cs_SlimeNetModel_287_5 hk23 (m_X4_putFour hc23) rfl rfl rfl rfl ?_
    refine g_aload_n hX dX4_feed_26 (lg_at 0 rfl) ?_
    refine g_iload_n hX dX4_feed_27 (lg_at 3 rfl) ?_
    obtain ⟨k28, hk28, hf⟩ := ob_some hf
    obtain ⟨A28, hc28, hf⟩ := ob_some hf
    refine h_callV hM [vi x3] dX4_feed_28 cs_SlimeNetModel_287_5 hk28 (m_X4_putFour hc28) rfl rfl rfl rfl ?_
    refine g_aload_n hX dX4_feed_31 (lg_at 0 rfl) ?_
    refine g_iload hX dX4_feed_32 (lg_at 4 rfl) ?_
    obtain ⟨k34, hk34, hf⟩ := ob_some hf
    obtain ⟨A34, hc34, hf⟩ := ob_some hf
    refine h_callV hM [vi x4] dX4_feed_34 cs_SlimeNetModel_287_5 hk34 (m_X4_putFour hc34) rfl rfl rfl rfl ?_
    refine g_aload_n hX dX4_feed_37 (lg_at 0 rfl) ?_
    refine g_iload hX dX4_feed_38 (lg_at 5 rfl) ?_
    obtain ⟨k40, hk40, hf⟩ := ob_some hf
    obtain ⟨A40, hc40, hf⟩ := ob_some hf
    refine h_callV hM [vi x5] dX4_feed_40 cs_SlimeNetModel_287_5 hk40 (m_X4_putFour hc40) rfl rfl rfl rfl ?_
    refine g_aload_n hX dX4_feed_43 (lg_at 0 rfl) ?_
    refine g_getI hX hf fs_SlimeNetModel_284_5 rfl dX4_feed_44 (fun v44 hf => ?_)
    cases hf
    exact h_iret hM dX4_feed_47 hr rfl rfl
  · refine g_bipush hX dX4_feed_13 (-3 : Int32) (by decide) ?_
    cases hf
    exact h_iret hM dX4_feed_15 hr rfl rfl

theorem m_X4_feed {l : Launch} {this : Nat} {x1 : Int32} {x2 : Int32} {x3 : Int32} {x4 : Int32} {x5 : Int32} {A : AH} {out : Int32 × AH} (h : f_X4_feed this x1 x2 x3 x4 x5 A = some out) : MetF l yX4_feed (Cond.code yX4_feed cX4_feed 6 (some Jvm.ClassFile.FieldType.int)) rm_X4_feed [vr (some this), vi x1, vi x2, vi x3, vi x4, vi x5] A (r_X4_feed A out) :=
  metF_of rfl rfl (Nat.le_of_ble_eq_true rfl) fun X hX hl hR hnm hr h1 h2 hno => w_f_X4_feed (X := X) ⟨hX, hR, h1, h2, fun _ => ⟨hnm, hno⟩⟩ h hr

/-! SlimeNet.end(I)I -/
def rm_X0_end : Room := { frames := 1, cells := 0, slots := 0, locals := 24 }
def r_X0_end (_A : AH) (o : Int32 × AH) : (Option AV × AH) ⊕ (Nat × AH) := .inl (some (vi o.1), o.2)
set_option maxRecDepth 100000 in
theorem w_f_X0_end_12 {X : Ctx} (hM : MX X yX0_end cX0_end 2 "SlimeNet" (some Jvm.ClassFile.FieldType.int) rm_X0_end []) {A : AH} {out : Int32 × AH} (hf : f_X0_end_12 A = some out) (hr : c_res X = r_X0_end A out) : G X 0 0 12 [] [] A := by
  have hX := hM.1
  unfold f_X0_end_12 at hf
  refine g_iconst hX dX0_end_12 (-1 : Int32) (by decide) ?_
  cases hf
  exact h_iret hM dX0_end_13 hr rfl rfl

set_option maxRecDepth 100000 in
theorem w_f_X0_end {X : Ctx} (hM : MX X yX0_end cX0_end 2 "SlimeNet" (some Jvm.ClassFile.FieldType.int) rm_X0_end []) {this : Nat} {x1 : Int32} {A : AH} {out : Int32 × AH} (hf : f_X0_end this x1 A = some out) (hr : c_res X = r_X0_end A out) : G X 0 0 0 [(0, vr (some this)), (1, vi x1)] [] A := by
  have hX := hM.1
  unfold f_X0_end at hf
  refine g_iload_n hX dX0_end_0 (lg_at 1 rfl) ?_
  refine g_if_lt hX dX0_end_1 12 hf (by decide) (fun c1 hf => ?_) (fun c1 hf => ?_)
  · exact g_pick (w_f_X0_end_12 hM hf hr) [] rfl
  · refine g_iload_n hX dX0_end_4 (lg_at 1 rfl) ?_
    refine g_aload_n hX dX0_end_5 (lg_at 0 rfl) ?_
    refine g_getI hX hf fs_SlimeNet_96_1 rfl dX0_end_6 (fun v6 hf => ?_)
    refine g_icmp_le hX dX0_end_9 14 hf (by decide) (fun c9 hf => ?_) (fun c9 hf => ?_)
    · refine g_aload_n hX dX0_end_14 (lg_at 0 rfl) ?_
      refine g_iload_n hX dX0_end_15 (lg_at 1 rfl) ?_
      refine g_putI hX hf fs_SlimeNet_96_1 ⟨_, rfl, Or.inl rfl⟩ rfl dX0_end_16 (fun A16 hf => ?_)
      refine g_iload_n hX dX0_end_19 (lg_at 1 rfl) ?_
      cases hf
      exact h_iret hM dX0_end_20 hr rfl rfl
    · exact g_pick (w_f_X0_end_12 hM hf hr) [] rfl

theorem m_X0_end {l : Launch} {this : Nat} {x1 : Int32} {A : AH} {out : Int32 × AH} (h : f_X0_end this x1 A = some out) : MetF l yX0_end (Cond.code yX0_end cX0_end 2 (some Jvm.ClassFile.FieldType.int)) rm_X0_end [vr (some this), vi x1] A (r_X0_end A out) :=
  metF_of rfl rfl (Nat.le_of_ble_eq_true rfl) fun X hX hl hR hnm hr h1 h2 hno => w_f_X0_end (X := X) ⟨hX, hR, h1, h2, fun _ => ⟨hnm, hno⟩⟩ h hr

/-! SlimeNetModel.in(JJJ)Z -/
def rm_X4_in : Room := { frames := 1, cells := 0, slots := 0, locals := 24 }
def r_X4_in (A : AH) (o : Int32) : (Option AV × AH) ⊕ (Nat × AH) := .inl (some (vi o), A)
set_option maxRecDepth 100000 in
theorem w_f_X4_in_18 {X : Ctx} (hM : MX X yX4_in cX4_in 6 "SlimeNetModel" (some Jvm.ClassFile.FieldType.boolean) rm_X4_in []) {t0 : Int32} {A : AH} {out : Int32} (hf : f_X4_in_18 t0 = some out) (hr : c_res X = r_X4_in A out) : G X 0 0 18 [] [vi t0] A := by
  have hX := hM.1
  unfold f_X4_in_18 at hf
  obtain ⟨w18, hz18, hf⟩ := ob_some hf
  cases hf
  exact h_zret hM dX4_in_18 hr rfl (ckZ_nar hz18).2 rfl

set_option maxRecDepth 100000 in
theorem w_f_X4_in_17 {X : Ctx} (hM : MX X yX4_in cX4_in 6 "SlimeNetModel" (some Jvm.ClassFile.FieldType.boolean) rm_X4_in []) {A : AH} {out : Int32} (hf : f_X4_in_17 = some out) (hr : c_res X = r_X4_in A out) : G X 0 0 17 [] [] A := by
  have hX := hM.1
  unfold f_X4_in_17 at hf
  refine g_iconst hX dX4_in_17 (0 : Int32) (by decide) ?_
  exact g_pick (w_f_X4_in_18 hM hf hr) [] rfl

set_option maxRecDepth 100000 in
theorem w_f_X4_in {X : Ctx} (hM : MX X yX4_in cX4_in 6 "SlimeNetModel" (some Jvm.ClassFile.FieldType.boolean) rm_X4_in []) {x0 : Int64} {x2 : Int64} {x4 : Int64} {A : AH} {out : Int32} (hf : f_X4_in x0 x2 x4 = some out) (hr : c_res X = r_X4_in A out) : G X 0 0 0 [(0, vl x0), (2, vl x2), (4, vl x4)] [] A := by
  have hX := hM.1
  unfold f_X4_in at hf
  refine g_lload_n hX dX4_in_0 (lg_at 0 rfl) ?_
  refine g_lload_n hX dX4_in_1 (lg_at 1 rfl) ?_
  refine g_lcmp hX dX4_in_2 ?_
  refine g_if_lt hX dX4_in_3 17 hf (by decide) (fun c3 hf => ?_) (fun c3 hf => ?_)
  · exact g_pick (w_f_X4_in_17 hM hf hr) [] rfl
  · refine g_lload_n hX dX4_in_6 (lg_at 0 rfl) ?_
    refine g_lload hX dX4_in_7 (lg_at 2 rfl) ?_
    refine g_lcmp hX dX4_in_9 ?_
    refine g_if_gt hX dX4_in_10 17 hf (by decide) (fun c10 hf => ?_) (fun c10 hf => ?_)
    · exact g_pick (w_f_X4_in_17 hM hf hr) [] rfl
    · refine g_iconst hX dX4_in_13 (1 : Int32) (by decide) ?_
      refine g_goto hX dX4_in_14 18 (by decide) ?_
      exact g_pick (w_f_X4_in_18 hM hf hr) [] rfl

theorem m_X4_in {l : Launch} {x0 : Int64} {x2 : Int64} {x4 : Int64} {A : AH} {out : Int32} (h : f_X4_in x0 x2 x4 = some out) : MetF l yX4_in (Cond.code yX4_in cX4_in 6 (some Jvm.ClassFile.FieldType.boolean)) rm_X4_in [vl x0, vl x2, vl x4] A (r_X4_in A out) :=
  metF_of rfl rfl (Nat.le_of_ble_eq_true rfl) fun X hX hl hR hnm hr h1 h2 hno => w_f_X4_in (X := X) ⟨hX, hR, h1, h2, fun _ => ⟨hnm, hno⟩⟩ h hr

/-! SlimeNetModel.end(I)I -/
def rm_X4_end : Room := { frames := 2, cells := 0, slots := 0, locals := 49 }
def r_X4_end (_A : AH) (o : Int32 × AH) : (Option AV × AH) ⊕ (Nat × AH) := .inl (some (vi o.1), o.2)
set_option maxRecDepth 100000 in
theorem w_f_X4_end {X : Ctx} (hM : MX X yX4_end cX4_end 2 "SlimeNetModel" (some Jvm.ClassFile.FieldType.int) rm_X4_end []) {this : Nat} {x1 : Int32} {A : AH} {out : Int32 × AH} (hf : f_X4_end this x1 A = some out) (hr : c_res X = r_X4_end A out) : G X 0 0 0 [(0, vr (some this)), (1, vi x1)] [] A := by
  have hX := hM.1
  unfold f_X4_end at hf
  refine g_iload_n hX dX4_end_0 (lg_at 1 rfl) ?_
  refine g_i2l hX dX4_end_1 ?_
  refine g_lconst hX dX4_end_2 (0 : Int64) (by decide) ?_
  refine g_aload_n hX dX4_end_3 (lg_at 0 rfl) ?_
  refine g_getI hX hf fs_SlimeNetModel_284_5 rfl dX4_end_4 (fun v4 hf => ?_)
  refine g_i2l hX dX4_end_7 ?_
  obtain ⟨v8, hc8, hf⟩ := ob_some hf
  refine h_callS hM [vl (Int32.toInt64 x1), vl (0 : Int64), vl (Int32.toInt64 v4)] dX4_end_8 cs_SlimeNetModel_52_s (m_X4_in hc8) rfl rfl rfl rfl ?_
  refine g_if_ne hX dX4_end_11 16 hf (by decide) (fun c11 hf => ?_) (fun c11 hf => ?_)
  · refine g_aload_n hX dX4_end_16 (lg_at 0 rfl) ?_
    refine g_iload_n hX dX4_end_17 (lg_at 1 rfl) ?_
    refine g_putI hX hf fs_SlimeNetModel_284_5 ⟨_, rfl, Or.inl rfl⟩ rfl dX4_end_18 (fun A18 hf => ?_)
    refine g_iload_n hX dX4_end_21 (lg_at 1 rfl) ?_
    cases hf
    exact h_iret hM dX4_end_22 hr rfl rfl
  · refine g_iconst hX dX4_end_14 (-1 : Int32) (by decide) ?_
    cases hf
    exact h_iret hM dX4_end_15 hr rfl rfl

theorem m_X4_end {l : Launch} {this : Nat} {x1 : Int32} {A : AH} {out : Int32 × AH} (h : f_X4_end this x1 A = some out) : MetF l yX4_end (Cond.code yX4_end cX4_end 2 (some Jvm.ClassFile.FieldType.int)) rm_X4_end [vr (some this), vi x1] A (r_X4_end A out) :=
  metF_of rfl rfl (Nat.le_of_ble_eq_true rfl) fun X hX hl hR hnm hr h1 h2 hno => w_f_X4_end (X := X) ⟨hX, hR, h1, h2, fun _ => ⟨hnm, hno⟩⟩ h hr

/-! SlimeNet$Reader.see(I)I -/
def rm_X5_see : Room := { frames := 1, cells := 0, slots := 0, locals := 24 }
def r_X5_see (A : AH) (o : Int32) : (Option AV × AH) ⊕ (Nat × AH) := .inl (some (vi o), A)
set_option maxRecDepth 100000 in
theorem w_f_X5_see_25 {X : Ctx} (hM : MX X yX5_see cX5_see 2 "SlimeNet$Reader" (some Jvm.ClassFile.FieldType.int) rm_X5_see []) {t0 : Int32} {A : AH} {out : Int32} (hf : f_X5_see_25 t0 A = some out) (hr : c_res X = r_X5_see A out) : G X 0 0 25 [] [vi t0] A := by
  have hX := hM.1
  unfold f_X5_see_25 at hf
  cases hf
  exact h_iret hM dX5_see_25 hr rfl rfl

set_option maxRecDepth 100000 in
theorem w_f_X5_see {X : Ctx} (hM : MX X yX5_see cX5_see 2 "SlimeNet$Reader" (some Jvm.ClassFile.FieldType.int) rm_X5_see []) {this : Nat} {x1 : Int32} {A : AH} {out : Int32} (hf : f_X5_see this x1 A = some out) (hr : c_res X = r_X5_see A out) : G X 0 0 0 [(0, vr (some this)), (1, vi x1)] [] A := by
  have hX := hM.1
  unfold f_X5_see at hf
  refine g_iload_n hX dX5_see_0 (lg_at 1 rfl) ?_
  refine g_aload_n hX dX5_see_1 (lg_at 0 rfl) ?_
  refine g_getI hX hf fs_SlimeNet_Reader_15_6 rfl dX5_see_2 (fun v2 hf => ?_)
  refine g_icmp_ge hX dX5_see_5 24 hf (by decide) (fun c5 hf => ?_) (fun c5 hf => ?_)
  · refine g_iconst hX dX5_see_24 (0 : Int32) (by decide) ?_
    exact g_pick (w_f_X5_see_25 hM hf hr) [] rfl
  · refine g_aload_n hX dX5_see_8 (lg_at 0 rfl) ?_
    refine g_getR hX hf fs_SlimeNet_Reader_3_6 rfl dX5_see_9 (fun v9 hf => ?_)
    refine g_getR hX hf fs_SlimeNet_Reader_22_1 rfl dX5_see_12 (fun v12 hf => ?_)
    refine g_iload_n hX dX5_see_15 (lg_at 1 rfl) ?_
    refine g_bald hX hf dX5_see_16 (fun v16 hf => ?_)
    refine g_sipush hX dX5_see_17 (255 : Int32) (by decide) ?_
    refine g_iand hX dX5_see_20 ?_
    refine g_goto hX dX5_see_21 25 (by decide) ?_
    exact g_pick (w_f_X5_see_25 hM hf hr) [] rfl

theorem m_X5_see {l : Launch} {this : Nat} {x1 : Int32} {A : AH} {out : Int32} (h : f_X5_see this x1 A = some out) : MetF l yX5_see (Cond.code yX5_see cX5_see 2 (some Jvm.ClassFile.FieldType.int)) rm_X5_see [vr (some this), vi x1] A (r_X5_see A out) :=
  metF_of rfl rfl (Nat.le_of_ble_eq_true rfl) fun X hX hl hR hnm hr h1 h2 hno => w_f_X5_see (X := X) ⟨hX, hR, h1, h2, fun _ => ⟨hnm, hno⟩⟩ h hr

/-! SlimeNet$Reader.isSmall(I)Z -/
def rm_X5_isSmall : Room := { frames := 1, cells := 0, slots := 0, locals := 24 }
def r_X5_isSmall (A : AH) (o : Int32) : (Option AV × AH) ⊕ (Nat × AH) := .inl (some (vi o), A)
set_option maxRecDepth 100000 in
theorem w_f_X5_isSmall_17 {X : Ctx} (hM : MX X yX5_isSmall cX5_isSmall 2 "SlimeNet$Reader" (some Jvm.ClassFile.FieldType.boolean) rm_X5_isSmall []) {t0 : Int32} {A : AH} {out : Int32} (hf : f_X5_isSmall_17 t0 = some out) (hr : c_res X = r_X5_isSmall A out) : G X 0 0 17 [] [vi t0] A := by
  have hX := hM.1
  unfold f_X5_isSmall_17 at hf
  obtain ⟨w17, hz17, hf⟩ := ob_some hf
  cases hf
  exact h_zret hM dX5_isSmall_17 hr rfl (ckZ_nar hz17).2 rfl

set_option maxRecDepth 100000 in
theorem w_f_X5_isSmall_16 {X : Ctx} (hM : MX X yX5_isSmall cX5_isSmall 2 "SlimeNet$Reader" (some Jvm.ClassFile.FieldType.boolean) rm_X5_isSmall []) {A : AH} {out : Int32} (hf : f_X5_isSmall_16 = some out) (hr : c_res X = r_X5_isSmall A out) : G X 0 0 16 [] [] A := by
  have hX := hM.1
  unfold f_X5_isSmall_16 at hf
  refine g_iconst hX dX5_isSmall_16 (0 : Int32) (by decide) ?_
  exact g_pick (w_f_X5_isSmall_17 hM hf hr) [] rfl

set_option maxRecDepth 100000 in
theorem w_f_X5_isSmall {X : Ctx} (hM : MX X yX5_isSmall cX5_isSmall 2 "SlimeNet$Reader" (some Jvm.ClassFile.FieldType.boolean) rm_X5_isSmall []) {this : Nat} {x1 : Int32} {A : AH} {out : Int32} (hf : f_X5_isSmall this x1 = some out) (hr : c_res X = r_X5_isSmall A out) : G X 0 0 0 [(0, vr (some this)), (1, vi x1)] [] A := by
  have hX := hM.1
  unfold f_X5_isSmall at hf
  refine g_iload_n hX dX5_isSmall_0 (lg_at 1 rfl) ?_
  refine g_bipush hX dX5_isSmall_1 (97 : Int32) (by decide) ?_
  refine g_icmp_lt hX dX5_isSmall_3 16 hf (by decide) (fun c3 hf => ?_) (fun c3 hf => ?_)
  · exact g_pick (w_f_X5_isSmall_16 hM hf hr) [] rfl
  · refine g_iload_n hX dX5_isSmall_6 (lg_at 1 rfl) ?_
    refine g_bipush hX dX5_isSmall_7 (122 : Int32) (by decide) ?_
    refine g_icmp_gt hX dX5_isSmall_9 16 hf (by decide) (fun c9 hf => ?_) (fun c9 hf => ?_)
    · exact g_pick (w_f_X5_isSmall_16 hM hf hr) [] rfl
    · refine g_iconst hX dX5_isSmall_12 (1 : Int32) (by decide) ?_
      refine g_goto hX dX5_isSmall_13 17 (by decide) ?_
      exact g_pick (w_f_X5_isSmall_17 hM hf hr) [] rfl

theorem m_X5_isSmall {l : Launch} {this : Nat} {x1 : Int32} {A : AH} {out : Int32} (h : f_X5_isSmall this x1 = some out) : MetF l yX5_isSmall (Cond.code yX5_isSmall cX5_isSmall 2 (some Jvm.ClassFile.FieldType.boolean)) rm_X5_isSmall [vr (some this), vi x1] A (r_X5_isSmall A out) :=
  metF_of rfl rfl (Nat.le_of_ble_eq_true rfl) fun X hX hl hR hnm hr h1 h2 hno => w_f_X5_isSmall (X := X) ⟨hX, hR, h1, h2, fun _ => ⟨hnm, hno⟩⟩ h hr

/-! SlimeNet$Reader.isDigit(I)Z -/
def rm_X5_isDigit : Room := { frames := 1, cells := 0, slots := 0, locals := 24 }
def r_X5_isDigit (A : AH) (o : Int32) : (Option AV × AH) ⊕ (Nat × AH) := .inl (some (vi o), A)
set_option maxRecDepth 100000 in
theorem w_f_X5_isDigit_17 {X : Ctx} (hM : MX X yX5_isDigit cX5_isDigit 2 "SlimeNet$Reader" (some Jvm.ClassFile.FieldType.boolean) rm_X5_isDigit []) {t0 : Int32} {A : AH} {out : Int32} (hf : f_X5_isDigit_17 t0 = some out) (hr : c_res X = r_X5_isDigit A out) : G X 0 0 17 [] [vi t0] A := by
  have hX := hM.1
  unfold f_X5_isDigit_17 at hf
  obtain ⟨w17, hz17, hf⟩ := ob_some hf
  cases hf
  exact h_zret hM dX5_isDigit_17 hr rfl (ckZ_nar hz17).2 rfl

set_option maxRecDepth 100000 in
theorem w_f_X5_isDigit_16 {X : Ctx} (hM : MX X yX5_isDigit cX5_isDigit 2 "SlimeNet$Reader" (some Jvm.ClassFile.FieldType.boolean) rm_X5_isDigit []) {A : AH} {out : Int32} (hf : f_X5_isDigit_16 = some out) (hr : c_res X = r_X5_isDigit A out) : G X 0 0 16 [] [] A := by
  have hX := hM.1
  unfold f_X5_isDigit_16 at hf
  refine g_iconst hX dX5_isDigit_16 (0 : Int32) (by decide) ?_
  exact g_pick (w_f_X5_isDigit_17 hM hf hr) [] rfl

set_option maxRecDepth 100000 in
theorem w_f_X5_isDigit {X : Ctx} (hM : MX X yX5_isDigit cX5_isDigit 2 "SlimeNet$Reader" (some Jvm.ClassFile.FieldType.boolean) rm_X5_isDigit []) {this : Nat} {x1 : Int32} {A : AH} {out : Int32} (hf : f_X5_isDigit this x1 = some out) (hr : c_res X = r_X5_isDigit A out) : G X 0 0 0 [(0, vr (some this)), (1, vi x1)] [] A := by
  have hX := hM.1
  unfold f_X5_isDigit at hf
  refine g_iload_n hX dX5_isDigit_0 (lg_at 1 rfl) ?_
  refine g_bipush hX dX5_isDigit_1 (48 : Int32) (by decide) ?_
  refine g_icmp_lt hX dX5_isDigit_3 16 hf (by decide) (fun c3 hf => ?_) (fun c3 hf => ?_)
  · exact g_pick (w_f_X5_isDigit_16 hM hf hr) [] rfl
  · refine g_iload_n hX dX5_isDigit_6 (lg_at 1 rfl) ?_
    refine g_bipush hX dX5_isDigit_7 (57 : Int32) (by decide) ?_
    refine g_icmp_gt hX dX5_isDigit_9 16 hf (by decide) (fun c9 hf => ?_) (fun c9 hf => ?_)
    · exact g_pick (w_f_X5_isDigit_16 hM hf hr) [] rfl
    · refine g_iconst hX dX5_isDigit_12 (1 : Int32) (by decide) ?_
      refine g_goto hX dX5_isDigit_13 17 (by decide) ?_
      exact g_pick (w_f_X5_isDigit_17 hM hf hr) [] rfl

theorem m_X5_isDigit {l : Launch} {this : Nat} {x1 : Int32} {A : AH} {out : Int32} (h : f_X5_isDigit this x1 = some out) : MetF l yX5_isDigit (Cond.code yX5_isDigit cX5_isDigit 2 (some Jvm.ClassFile.FieldType.boolean)) rm_X5_isDigit [vr (some this), vi x1] A (r_X5_isDigit A out) :=
  metF_of rfl rfl (Nat.le_of_ble_eq_true rfl) fun X hX hl hR hnm hr h1 h2 hno => w_f_X5_isDigit (X := X) ⟨hX, hR, h1, h2, fun _ => ⟨hnm, hno⟩⟩ h hr

/-! SlimeNet$Reader.goOn()V -/
def rm_X5_goOn : Room := { frames := 2, cells := 0, slots := 0, locals := 45 }
def r_X5_goOn (_A : AH) (o : AH) : (Option AV × AH) ⊕ (Nat × AH) := .inl (none, o)
def k_X5_goOn_5 (X : Ctx) (this : Nat) (A : AH) : ((Int32) ⊕ (Int32)) → Prop
  | .inl x1 => G X 0 0 5 [(0, vr (some this)), (1, vi x1)] [] A
  | .inr x1 => G X 0 0 31 [(0, vr (some this)), (1, vi x1)] [] A

def k_X5_goOn_147 (X : Ctx) (this : Nat) (x1 : Int32) : ((AH) ⊕ (AH)) → Prop
  | .inl A => G X 0 0 147 [(0, vr (some this)), (1, vi x1)] [] A
  | .inr A => G X 0 0 215 [(0, vr (some this)), (1, vi x1)] [] A

def k_X5_goOn_78 (X : Ctx) (this : Nat) (x1 : Int32) : ((AH) ⊕ (AH)) → Prop
  | .inl A => G X 0 0 78 [(0, vr (some this)), (1, vi x1)] [] A
  | .inr A => G X 0 0 106 [(0, vr (some this)), (1, vi x1)] [] A

set_option maxRecDepth 100000 in
theorem w_f_X5_goOn_25 {X : Ctx} (hM : MX X yX5_goOn cX5_goOn 3 "SlimeNet$Reader" none rm_X5_goOn []) {this : Nat} {x1 : Int32} {A : AH} {out : (Int32) ⊕ (Int32)} (hf : f_X5_goOn_25 this x1 A = some out) (K : k_X5_goOn_5 X this A out) : G X 0 0 25 [(0, vr (some this)), (1, vi x1)] [] A := by
  have hX := hM.1
  unfold f_X5_goOn_25 at hf
  refine g_iinc hX dX5_goOn_25 (1 : Int32) (x1 + (1 : Int32)) [(1, vi (x1 + (1 : Int32))), (0, vr (some this))] (by decide) rfl (lg_at 1 rfl) (by decide) rfl ?_
  refine g_goto hX dX5_goOn_28 5 (by decide) ?_
  cases hf
  exact g_pick (show G X _ _ _ _ _ _ from K) [1, 0] rfl

set_option maxRecDepth 100000 in
theorem w_f_X5_goOn_252 {X : Ctx} (hM : MX X yX5_goOn cX5_goOn 3 "SlimeNet$Reader" none rm_X5_goOn []) {A : AH} {out : AH} (hf : f_X5_goOn_252 A = some out) (hr : c_res X = r_X5_goOn A out) : G X 0 0 252 [] [] A := by
  have hX := hM.1
  unfold f_X5_goOn_252 at hf
  cases hf
  exact h_vret hM dX5_goOn_252 hr rfl rfl

set_option maxRecDepth 100000 in
theorem w_f_X5_goOn_249 {X : Ctx} (hM : MX X yX5_goOn cX5_goOn 3 "SlimeNet$Reader" none rm_X5_goOn []) {t0 : Int32} {t1 : Option Nat} {A : AH} {out : AH} (hf : f_X5_goOn_249 t0 t1 A = some out) (hr : c_res X = r_X5_goOn A out) : G X 0 0 249 [] [vi t0, vr t1] A := by
  have hX := hM.1
  unfold f_X5_goOn_249 at hf
  refine g_putI hX hf fs_SlimeNet_Reader_36_6 ⟨_, rfl, Or.inl rfl⟩ rfl dX5_goOn_249 (fun A249 hf => ?_)
  exact g_pick (w_f_X5_goOn_252 hM hf hr) [] rfl

set_option maxRecDepth 100000 in
theorem w_f_X5_goOn_199 {X : Ctx} (hM : MX X yX5_goOn cX5_goOn 3 "SlimeNet$Reader" none rm_X5_goOn []) {this : Nat} {x1 : Int32} {t0 : Int32} {t1 : Option Nat} {A : AH} {out : (AH) ⊕ (AH)} (hf : f_X5_goOn_199 this x1 t0 t1 A = some out) (K : k_X5_goOn_147 X this x1 out) : G X 0 0 199 [(0, vr (some this)), (1, vi x1)] [vi t0, vr t1] A := by
  have hX := hM.1
  unfold f_X5_goOn_199 at hf
  refine g_putI hX hf fs_SlimeNet_Reader_46_6 ⟨_, rfl, Or.inl rfl⟩ rfl dX5_goOn_199 (fun A199 hf => ?_)
  refine g_aload_n hX dX5_goOn_202 (lg_at 0 rfl) ?_
  refine g_dup hX dX5_goOn_203 rfl ?_
  refine g_getI hX hf fs_SlimeNet_Reader_26_6 rfl dX5_goOn_204 (fun v204 hf => ?_)
  refine g_iconst hX dX5_goOn_207 (1 : Int32) (by decide) ?_
  refine g_iadd hX dX5_goOn_208 ?_
  refine g_putI hX hf fs_SlimeNet_Reader_26_6 ⟨_, rfl, Or.inl rfl⟩ rfl dX5_goOn_209 (fun A209 hf => ?_)
  refine g_goto hX dX5_goOn_212 147 (by decide) ?_
  cases hf
  exact g_pick (show G X _ _ _ _ _ _ from K) [0, 1] rfl

set_option maxRecDepth 100000 in
theorem w_f_X5_goOn_231 {X : Ctx} (hM : MX X yX5_goOn cX5_goOn 3 "SlimeNet$Reader" none rm_X5_goOn []) {t0 : Int32} {t1 : Option Nat} {A : AH} {out : AH} (hf : f_X5_goOn_231 t0 t1 A = some out) (hr : c_res X = r_X5_goOn A out) : G X 0 0 231 [] [vi t0, vr t1] A := by
  have hX := hM.1
  unfold f_X5_goOn_231 at hf
  refine g_putI hX hf fs_SlimeNet_Reader_36_6 ⟨_, rfl, Or.inl rfl⟩ rfl dX5_goOn_231 (fun A231 hf => ?_)
  refine g_goto hX dX5_goOn_234 252 (by decide) ?_
  exact g_pick (w_f_X5_goOn_252 hM hf hr) [] rfl

set_option maxRecDepth 100000 in
theorem w_s_X5_goOn_147 {X : Ctx} (hM : MX X yX5_goOn cX5_goOn 3 "SlimeNet$Reader" none rm_X5_goOn []) {this : Nat} {x1 : Int32} {st : AH} {out : (AH) ⊕ (AH)} (hf : s_X5_goOn_147 this x1 st = some out) (K : k_X5_goOn_147 X this x1 out) : k_X5_goOn_147 X this x1 (.inl st) := by
  have hX := hM.1
  revert hf; generalize st = A; intro hf
  unfold s_X5_goOn_147 at hf
  dsimp only at hf
  show G X 0 0 147 [(0, vr (some this)), (1, vi x1)] [] A
  refine g_aload_n hX dX5_goOn_147 (lg_at 0 rfl) ?_
  refine g_aload_n hX dX5_goOn_148 (lg_at 0 rfl) ?_
  refine g_aload_n hX dX5_goOn_149 (lg_at 0 rfl) ?_
  refine g_getI hX hf fs_SlimeNet_Reader_26_6 rfl dX5_goOn_150 (fun v150 hf => ?_)
  obtain ⟨k153, hk153, hf⟩ := ob_some hf
  obtain ⟨v153, hc153, hf⟩ := ob_some hf
  refine h_callU hM [vi v150] dX5_goOn_153 cs_SlimeNet_Reader_29_6 hk153 (m_X5_see hc153) rfl rfl rfl rfl ?_
  obtain ⟨k156, hk156, hf⟩ := ob_some hf
  obtain ⟨v156, hc156, hf⟩ := ob_some hf
  refine h_callU hM [vi v153] dX5_goOn_156 cs_SlimeNet_Reader_43_6 hk156 (m_X5_isDigit hc156) rfl rfl rfl rfl ?_
  refine g_if_eq hX dX5_goOn_159 215 hf (by decide) (fun c159 hf => ?_) (fun c159 hf => ?_)
  · cases hf
    exact g_pick (show G X _ _ _ _ _ _ from K) [0, 1] rfl
  · refine g_aload_n hX dX5_goOn_162 (lg_at 0 rfl) ?_
    refine g_aload_n hX dX5_goOn_163 (lg_at 0 rfl) ?_
    refine g_getI hX hf fs_SlimeNet_Reader_26_6 rfl dX5_goOn_164 (fun v164 hf => ?_)
    refine g_iload_n hX dX5_goOn_167 (lg_at 1 rfl) ?_
    refine g_isub hX dX5_goOn_168 ?_
    refine g_iconst hX dX5_goOn_169 (4 : Int32) (by decide) ?_
    refine g_icmp_ge hX dX5_goOn_170 195 hf (by decide) (fun c170 hf => ?_) (fun c170 hf => ?_)
    · refine g_aload_n hX dX5_goOn_195 (lg_at 0 rfl) ?_
      refine g_getI hX hf fs_SlimeNet_Reader_46_6 rfl dX5_goOn_196 (fun v196 hf => ?_)
      exact g_pick (w_f_X5_goOn_199 hM hf K) [0, 1] rfl
    · refine g_bipush hX dX5_goOn_173 (10 : Int32) (by decide) ?_
      refine g_aload_n hX dX5_goOn_175 (lg_at 0 rfl) ?_
      refine g_getI hX hf fs_SlimeNet_Reader_46_6 rfl dX5_goOn_176 (fun v176 hf => ?_)
      refine g_imul hX dX5_goOn_179 ?_
      refine g_aload_n hX dX5_goOn_180 (lg_at 0 rfl) ?_
      refine g_aload_n hX dX5_goOn_181 (lg_at 0 rfl) ?_
      refine g_getI hX hf fs_SlimeNet_Reader_26_6 rfl dX5_goOn_182 (fun v182 hf => ?_)
      obtain ⟨k185, hk185, hf⟩ := ob_some hf
      obtain ⟨v185, hc185, hf⟩ := ob_some hf
      refine h_callU hM [vi v182] dX5_goOn_185 cs_SlimeNet_Reader_29_6 hk185 (m_X5_see hc185) rfl rfl rfl rfl ?_
      refine g_iadd hX dX5_goOn_188 ?_
      refine g_bipush hX dX5_goOn_189 (48 : Int32) (by decide) ?_
      refine g_isub hX dX5_goOn_191 ?_
      refine g_goto hX dX5_goOn_192 199 (by decide) ?_
      exact g_pick (w_f_X5_goOn_199 hM hf K) [0, 1] rfl

set_option maxRecDepth 100000 in
theorem w_l_X5_goOn_147 {X : Ctx} (hM : MX X yX5_goOn cX5_goOn 3 "SlimeNet$Reader" none rm_X5_goOn []) {this : Nat} {x1 : Int32} {A : AH} {out : AH} (hf : l_X5_goOn_147 this x1 A = some out) (hr : c_res X = r_X5_goOn A out) : G X 0 0 147 [(0, vr (some this)), (1, vi x1)] [] A := by
  have hX := hM.1
  unfold l_X5_goOn_147 at hf
  obtain ⟨e, hw, hf⟩ := ob_some hf
  refine (whl_ind (k_X5_goOn_147 X this x1) (fun st o hs K => w_s_X5_goOn_147 hM hs K) hw ?_ : k_X5_goOn_147 X this x1 (.inl A))
  revert hf hw; generalize e = A; intro hw hf
  dsimp only at hf
  show G X 0 0 215 [(0, vr (some this)), (1, vi x1)] [] A
  refine g_aload_n hX dX5_goOn_215 (lg_at 0 rfl) ?_
  refine g_aload_n hX dX5_goOn_216 (lg_at 0 rfl) ?_
  refine g_getI hX hf fs_SlimeNet_Reader_26_6 rfl dX5_goOn_217 (fun v217 hf => ?_)
  refine g_iload_n hX dX5_goOn_220 (lg_at 1 rfl) ?_
  refine g_isub hX dX5_goOn_221 ?_
  refine g_iconst hX dX5_goOn_222 (4 : Int32) (by decide) ?_
  refine g_icmp_le hX dX5_goOn_223 230 hf (by decide) (fun c223 hf => ?_) (fun c223 hf => ?_)
  · refine g_iconst hX dX5_goOn_230 (2 : Int32) (by decide) ?_
    exact g_pick (w_f_X5_goOn_231 hM hf hr) [] rfl
  · refine g_iconst hX dX5_goOn_226 (4 : Int32) (by decide) ?_
    refine g_goto hX dX5_goOn_227 231 (by decide) ?_
    exact g_pick (w_f_X5_goOn_231 hM hf hr) [] rfl

set_option maxRecDepth 100000 in
theorem w_f_X5_goOn_123 {X : Ctx} (hM : MX X yX5_goOn cX5_goOn 3 "SlimeNet$Reader" none rm_X5_goOn []) {t0 : Int32} {t1 : Option Nat} {A : AH} {out : AH} (hf : f_X5_goOn_123 t0 t1 A = some out) (hr : c_res X = r_X5_goOn A out) : G X 0 0 123 [] [vi t0, vr t1] A := by
  have hX := hM.1
  unfold f_X5_goOn_123 at hf
  refine g_putI hX hf fs_SlimeNet_Reader_36_6 ⟨_, rfl, Or.inl rfl⟩ rfl dX5_goOn_123 (fun A123 hf => ?_)
  refine g_goto hX dX5_goOn_126 252 (by decide) ?_
  exact g_pick (w_f_X5_goOn_252 hM hf hr) [] rfl

set_option maxRecDepth 100000 in
theorem w_s_X5_goOn_78 {X : Ctx} (hM : MX X yX5_goOn cX5_goOn 3 "SlimeNet$Reader" none rm_X5_goOn []) {this : Nat} {x1 : Int32} {st : AH} {out : (AH) ⊕ (AH)} (hf : s_X5_goOn_78 this x1 st = some out) (K : k_X5_goOn_78 X this x1 out) : k_X5_goOn_78 X this x1 (.inl st) := by
  have hX := hM.1
  revert hf; generalize st = A; intro hf
  unfold s_X5_goOn_78 at hf
  dsimp only at hf
  show G X 0 0 78 [(0, vr (some this)), (1, vi x1)] [] A
  refine g_aload_n hX dX5_goOn_78 (lg_at 0 rfl) ?_
  refine g_aload_n hX dX5_goOn_79 (lg_at 0 rfl) ?_
  refine g_aload_n hX dX5_goOn_80 (lg_at 0 rfl) ?_
  refine g_getI hX hf fs_SlimeNet_Reader_26_6 rfl dX5_goOn_81 (fun v81 hf => ?_)
  obtain ⟨k84, hk84, hf⟩ := ob_some hf
  obtain ⟨v84, hc84, hf⟩ := ob_some hf
  refine h_callU hM [vi v81] dX5_goOn_84 cs_SlimeNet_Reader_29_6 hk84 (m_X5_see hc84) rfl rfl rfl rfl ?_
  obtain ⟨k87, hk87, hf⟩ := ob_some hf
  obtain ⟨v87, hc87, hf⟩ := ob_some hf
  refine h_callU hM [vi v84] dX5_goOn_87 cs_SlimeNet_Reader_39_6 hk87 (m_X5_isSmall hc87) rfl rfl rfl rfl ?_
  refine g_if_eq hX dX5_goOn_90 106 hf (by decide) (fun c90 hf => ?_) (fun c90 hf => ?_)
  · cases hf
    exact g_pick (show G X _ _ _ _ _ _ from K) [0, 1] rfl
  · refine g_aload_n hX dX5_goOn_93 (lg_at 0 rfl) ?_
    refine g_dup hX dX5_goOn_94 rfl ?_
    refine g_getI hX hf fs_SlimeNet_Reader_26_6 rfl dX5_goOn_95 (fun v95 hf => ?_)
    refine g_iconst hX dX5_goOn_98 (1 : Int32) (by decide) ?_
    refine g_iadd hX dX5_goOn_99 ?_
    refine g_putI hX hf fs_SlimeNet_Reader_26_6 ⟨_, rfl, Or.inl rfl⟩ rfl dX5_goOn_100 (fun A100 hf => ?_)
    refine g_goto hX dX5_goOn_103 78 (by decide) ?_
    cases hf
    exact g_pick (show G X _ _ _ _ _ _ from K) [0, 1] rfl

set_option maxRecDepth 100000 in
theorem w_l_X5_goOn_78 {X : Ctx} (hM : MX X yX5_goOn cX5_goOn 3 "SlimeNet$Reader" none rm_X5_goOn []) {this : Nat} {x1 : Int32} {A : AH} {out : AH} (hf : l_X5_goOn_78 this x1 A = some out) (hr : c_res X = r_X5_goOn A out) : G X 0 0 78 [(0, vr (some this)), (1, vi x1)] [] A := by
  have hX := hM.1
  unfold l_X5_goOn_78 at hf
  obtain ⟨e, hw, hf⟩ := ob_some hf
  refine (whl_ind (k_X5_goOn_78 X this x1) (fun st o hs K => w_s_X5_goOn_78 hM hs K) hw ?_ : k_X5_goOn_78 X this x1 (.inl A))
  revert hf hw; generalize e = A; intro hw hf
  dsimp only at hf
  show G X 0 0 106 [(0, vr (some this)), (1, vi x1)] [] A
  refine g_aload_n hX dX5_goOn_106 (lg_at 0 rfl) ?_
  refine g_aload_n hX dX5_goOn_107 (lg_at 0 rfl) ?_
  refine g_getI hX hf fs_SlimeNet_Reader_26_6 rfl dX5_goOn_108 (fun v108 hf => ?_)
  refine g_iload_n hX dX5_goOn_111 (lg_at 1 rfl) ?_
  refine g_isub hX dX5_goOn_112 ?_
  refine g_bipush hX dX5_goOn_113 (8 : Int32) (by decide) ?_
  refine g_icmp_le hX dX5_goOn_115 122 hf (by decide) (fun c115 hf => ?_) (fun c115 hf => ?_)
  · refine g_iconst hX dX5_goOn_122 (1 : Int32) (by decide) ?_
    exact g_pick (w_f_X5_goOn_123 hM hf hr) [] rfl
  · refine g_iconst hX dX5_goOn_118 (4 : Int32) (by decide) ?_
    refine g_goto hX dX5_goOn_119 123 (by decide) ?_
    exact g_pick (w_f_X5_goOn_123 hM hf hr) [] rfl

set_option maxRecDepth 100000 in
theorem w_s_X5_goOn_5 {X : Ctx} (hM : MX X yX5_goOn cX5_goOn 3 "SlimeNet$Reader" none rm_X5_goOn []) {this : Nat} {A : AH} {st : Int32} {out : (Int32) ⊕ (Int32)} (hf : s_X5_goOn_5 this A st = some out) (K : k_X5_goOn_5 X this A out) : k_X5_goOn_5 X this A (.inl st) := by
  have hX := hM.1
  revert hf; generalize st = x1; intro hf
  unfold s_X5_goOn_5 at hf
  dsimp only at hf
  show G X 0 0 5 [(0, vr (some this)), (1, vi x1)] [] A
  refine g_aload_n hX dX5_goOn_5 (lg_at 0 rfl) ?_
  refine g_iload_n hX dX5_goOn_6 (lg_at 1 rfl) ?_
  obtain ⟨k7, hk7, hf⟩ := ob_some hf
  obtain ⟨v7, hc7, hf⟩ := ob_some hf
  refine h_callU hM [vi x1] dX5_goOn_7 cs_SlimeNet_Reader_29_6 hk7 (m_X5_see hc7) rfl rfl rfl rfl ?_
  refine g_bipush hX dX5_goOn_10 (32 : Int32) (by decide) ?_
  refine g_icmp_eq hX dX5_goOn_12 25 hf (by decide) (fun c12 hf => ?_) (fun c12 hf => ?_)
  · exact g_pick (w_f_X5_goOn_25 hM hf K) [0, 1] rfl
  · refine g_aload_n hX dX5_goOn_15 (lg_at 0 rfl) ?_
    refine g_iload_n hX dX5_goOn_16 (lg_at 1 rfl) ?_
    obtain ⟨k17, hk17, hf⟩ := ob_some hf
    obtain ⟨v17, hc17, hf⟩ := ob_some hf
    refine h_callU hM [vi x1] dX5_goOn_17 cs_SlimeNet_Reader_29_6 hk17 (m_X5_see hc17) rfl rfl rfl rfl ?_
    refine g_bipush hX dX5_goOn_20 (10 : Int32) (by decide) ?_
    refine g_icmp_ne hX dX5_goOn_22 31 hf (by decide) (fun c22 hf => ?_) (fun c22 hf => ?_)
    · cases hf
      exact g_pick (show G X _ _ _ _ _ _ from K) [0, 1] rfl
    · exact g_pick (w_f_X5_goOn_25 hM hf K) [0, 1] rfl

set_option maxRecDepth 100000 in
theorem w_l_X5_goOn_5 {X : Ctx} (hM : MX X yX5_goOn cX5_goOn 3 "SlimeNet$Reader" none rm_X5_goOn []) {this : Nat} {x1 : Int32} {A : AH} {out : AH} (hf : l_X5_goOn_5 this x1 A = some out) (hr : c_res X = r_X5_goOn A out) : G X 0 0 5 [(0, vr (some this)), (1, vi x1)] [] A := by
  have hX := hM.1
  unfold l_X5_goOn_5 at hf
  obtain ⟨e, hw, hf⟩ := ob_some hf
  refine (whl_ind (k_X5_goOn_5 X this A) (fun st o hs K => w_s_X5_goOn_5 hM hs K) hw ?_ : k_X5_goOn_5 X this A (.inl x1))
  revert hf hw; generalize e = x1; intro hw hf
  dsimp only at hf
  show G X 0 0 31 [(0, vr (some this)), (1, vi x1)] [] A
  refine g_aload_n hX dX5_goOn_31 (lg_at 0 rfl) ?_
  refine g_iload_n hX dX5_goOn_32 (lg_at 1 rfl) ?_
  refine g_putI hX hf fs_SlimeNet_Reader_33_6 ⟨_, rfl, Or.inl rfl⟩ rfl dX5_goOn_33 (fun A33 hf => ?_)
  refine g_aload_n hX dX5_goOn_36 (lg_at 0 rfl) ?_
  refine g_iload_n hX dX5_goOn_37 (lg_at 1 rfl) ?_
  refine g_iconst hX dX5_goOn_38 (1 : Int32) (by decide) ?_
  refine g_iadd hX dX5_goOn_39 ?_
  refine g_putI hX hf fs_SlimeNet_Reader_26_6 ⟨_, rfl, Or.inl rfl⟩ rfl dX5_goOn_40 (fun A40 hf => ?_)
  refine g_aload_n hX dX5_goOn_43 (lg_at 0 rfl) ?_
  refine g_iload_n hX dX5_goOn_44 (lg_at 1 rfl) ?_
  obtain ⟨k45, hk45, hf⟩ := ob_some hf
  obtain ⟨v45, hc45, hf⟩ := ob_some hf
  refine h_callU hM [vi x1] dX5_goOn_45 cs_SlimeNet_Reader_29_6 hk45 (m_X5_see hc45) rfl rfl rfl rfl ?_
  refine g_istore_n hX dX5_goOn_48 [(2, vi v45), (0, vr (some this)), (1, vi x1)] (by decide) rfl ?_
  refine g_iload_n hX dX5_goOn_49 (lg_at 2 rfl) ?_
  refine g_aload_n hX dX5_goOn_50 (lg_at 1 rfl) ?_
  refine g_getI hX hf fs_SlimeNet_Reader_15_6 rfl dX5_goOn_51 (fun v51 hf => ?_)
  refine g_icmp_lt hX dX5_goOn_54 70 hf (by decide) (fun c54 hf => ?_) (fun c54 hf => ?_)
  · refine g_aload_n hX dX5_goOn_70 (lg_at 1 rfl) ?_
    refine g_iload_n hX dX5_goOn_71 (lg_at 0 rfl) ?_
    obtain ⟨k72, hk72, hf⟩ := ob_some hf
    obtain ⟨v72, hc72, hf⟩ := ob_some hf
    refine h_callU hM [vi v45] dX5_goOn_72 cs_SlimeNet_Reader_39_6 hk72 (m_X5_isSmall hc72) rfl rfl rfl rfl ?_
    refine g_if_eq hX dX5_goOn_75 129 hf (by decide) (fun c75 hf => ?_) (fun c75 hf => ?_)
    · refine g_aload_n hX dX5_goOn_129 (lg_at 1 rfl) ?_
      refine g_iload_n hX dX5_goOn_130 (lg_at 0 rfl) ?_
      obtain ⟨k131, hk131, hf⟩ := ob_some hf
      obtain ⟨v131, hc131, hf⟩ := ob_some hf
      refine h_callU hM [vi v45] dX5_goOn_131 cs_SlimeNet_Reader_43_6 hk131 (m_X5_isDigit hc131) rfl rfl rfl rfl ?_
      refine g_if_eq hX dX5_goOn_134 237 hf (by decide) (fun c134 hf => ?_) (fun c134 hf => ?_)
      · refine g_aload_n hX dX5_goOn_237 (lg_at 1 rfl) ?_
        refine g_iload_n hX dX5_goOn_238 (lg_at 0 rfl) ?_
        refine g_bipush hX dX5_goOn_239 (59 : Int32) (by decide) ?_
        refine g_icmp_ne hX dX5_goOn_241 248 hf (by decide) (fun c241 hf => ?_) (fun c241 hf => ?_)
        · refine g_iconst hX dX5_goOn_248 (4 : Int32) (by decide) ?_
          exact g_pick (w_f_X5_goOn_249 hM hf hr) [] rfl
        · refine g_iconst hX dX5_goOn_244 (3 : Int32) (by decide) ?_
          refine g_goto hX dX5_goOn_245 249 (by decide) ?_
          exact g_pick (w_f_X5_goOn_249 hM hf hr) [] rfl
      · refine g_aload_n hX dX5_goOn_137 (lg_at 1 rfl) ?_
        refine g_iconst hX dX5_goOn_138 (0 : Int32) (by decide) ?_
        refine g_putI hX hf fs_SlimeNet_Reader_46_6 ⟨_, rfl, Or.inl rfl⟩ rfl dX5_goOn_139 (fun A139 hf => ?_)
        refine g_aload_n hX dX5_goOn_142 (lg_at 1 rfl) ?_
        refine g_iload_n hX dX5_goOn_143 (lg_at 2 rfl) ?_
        refine g_putI hX hf fs_SlimeNet_Reader_26_6 ⟨_, rfl, Or.inl rfl⟩ rfl dX5_goOn_144 (fun A144 hf => ?_)
        exact g_pick (w_l_X5_goOn_147 hM hf hr) [1, 2] rfl
    · exact g_pick (w_l_X5_goOn_78 hM hf hr) [1, 2] rfl
  · refine g_aload_n hX dX5_goOn_57 (lg_at 1 rfl) ?_
    refine g_iconst hX dX5_goOn_58 (0 : Int32) (by decide) ?_
    refine g_putI hX hf fs_SlimeNet_Reader_36_6 ⟨_, rfl, Or.inl rfl⟩ rfl dX5_goOn_59 (fun A59 hf => ?_)
    refine g_aload_n hX dX5_goOn_62 (lg_at 1 rfl) ?_
    refine g_iload_n hX dX5_goOn_63 (lg_at 2 rfl) ?_
    refine g_putI hX hf fs_SlimeNet_Reader_26_6 ⟨_, rfl, Or.inl rfl⟩ rfl dX5_goOn_64 (fun A64 hf => ?_)
    refine g_goto hX dX5_goOn_67 252 (by decide) ?_
    exact g_pick (w_f_X5_goOn_252 hM hf hr) [] rfl

set_option maxRecDepth 100000 in
theorem w_f_X5_goOn {X : Ctx} (hM : MX X yX5_goOn cX5_goOn 3 "SlimeNet$Reader" none rm_X5_goOn []) {this : Nat} {A : AH} {out : AH} (hf : f_X5_goOn this A = some out) (hr : c_res X = r_X5_goOn A out) : G X 0 0 0 [(0, vr (some this))] [] A := by
  have hX := hM.1
  unfold f_X5_goOn at hf
  refine g_aload_n hX dX5_goOn_0 (lg_at 0 rfl) ?_
  refine g_getI hX hf fs_SlimeNet_Reader_26_6 rfl dX5_goOn_1 (fun v1 hf => ?_)
  refine g_istore_n hX dX5_goOn_4 [(1, vi v1), (0, vr (some this))] (by decide) rfl ?_
  exact g_pick (w_l_X5_goOn_5 hM hf hr) [1, 0] rfl

theorem m_X5_goOn {l : Launch} {this : Nat} {A : AH} {out : AH} (h : f_X5_goOn this A = some out) : MetF l yX5_goOn (Cond.code yX5_goOn cX5_goOn 3 none) rm_X5_goOn [vr (some this)] A (r_X5_goOn A out) :=
  metF_of rfl rfl (Nat.le_of_ble_eq_true rfl) fun X hX hl hR hnm hr h1 h2 hno => w_f_X5_goOn (X := X) ⟨hX, hR, h1, h2, fun _ => ⟨hnm, hno⟩⟩ h hr

/-! SlimeNet$Reader.<init>(LSlimeNet;I)V -/
def rm_X5_init : Room := { frames := 3, cells := 0, slots := 0, locals := 67 }
def r_X5_init (_A : AH) (o : AH) : (Option AV × AH) ⊕ (Nat × AH) := .inl (none, o)
set_option maxRecDepth 100000 in
theorem w_f_X5_init {X : Ctx} (hM : MX X yX5_init cX5_init 3 "SlimeNet$Reader" none rm_X5_init []) {this : Nat} {x1 : Option Nat} {x2 : Int32} {A : AH} {out : AH} (hf : f_X5_init this x1 x2 A = some out) (hr : c_res X = r_X5_init A out) : G X 0 0 0 [(0, vr (some this)), (1, vr x1), (2, vi x2)] [] A := by
  have hX := hM.1
  unfold f_X5_init at hf
  refine g_aload_n hX dX5_init_0 (lg_at 0 rfl) ?_
  refine g_aload_n hX dX5_init_1 (lg_at 1 rfl) ?_
  refine g_putR hX hf fs_SlimeNet_Reader_3_6 ⟨_, rfl, Or.inr ⟨rfl, (hM.2.2.2.2 (by decide)).1.trans rfl, rfl⟩⟩ rfl dX5_init_2 (fun A2 hf => ?_)
  refine g_aload_n hX dX5_init_5 (lg_at 0 rfl) ?_
  refine h_objInit hM dX5_init_6 (lw_LW q443) (lw_LW q99) (lw_LW q100) rfl rfl ?_
  refine g_aload_n hX dX5_init_9 (lg_at 0 rfl) ?_
  refine g_iload_n hX dX5_init_10 (lg_at 2 rfl) ?_
  refine g_putI hX hf fs_SlimeNet_Reader_15_6 ⟨_, rfl, Or.inr ⟨rfl, (hM.2.2.2.2 (by decide)).1.trans rfl, rfl⟩⟩ rfl dX5_init_11 (fun A11 hf => ?_)
  refine g_aload_n hX dX5_init_14 (lg_at 0 rfl) ?_
  obtain ⟨k15, hk15, hf⟩ := ob_some hf
  obtain ⟨A15, hc15, hf⟩ := ob_some hf
  refine h_callU hM [] dX5_init_15 cs_SlimeNet_Reader_19_6 hk15 (m_X5_goOn hc15) rfl rfl rfl rfl ?_
  cases hf
  exact h_vret hM dX5_init_18 hr rfl rfl

theorem m_X5_init {l : Launch} {this : Nat} {x1 : Option Nat} {x2 : Int32} {A : AH} {out : AH} (h : f_X5_init this x1 x2 A = some out) : MetF l yX5_init (Cond.code yX5_init cX5_init 3 none) rm_X5_init [vr (some this), vr x1, vi x2] A (r_X5_init A out) :=
  metF_of rfl rfl (Nat.le_of_ble_eq_true rfl) fun X hX hl hR hnm hr h1 h2 hno => w_f_X5_init (X := X) ⟨hX, hR, h1, h2, fun _ => ⟨hnm, hno⟩⟩ h hr

/-! SlimeNet$PlateReader.<init>(LSlimeNet;I)V -/
def rm_X6_init : Room := { frames := 5, cells := 5, slots := 32, locals := 104 }
def r_X6_init (_A : AH) (o : AH) : (Option AV × AH) ⊕ (Nat × AH) := .inl (none, o)
set_option maxRecDepth 100000 in
theorem w_f_X6_init {X : Ctx} (hM : MX X yX6_init cX6_init 3 "SlimeNet$PlateReader" none rm_X6_init []) {this : Nat} {x1 : Option Nat} {x2 : Int32} {A : AH} {out : AH} (hf : f_X6_init this x1 x2 A = some out) (hr : c_res X = r_X6_init A out) : G X 0 0 0 [(0, vr (some this)), (1, vr x1), (2, vi x2)] [] A := by
  have hX := hM.1
  unfold f_X6_init at hf
  refine g_aload_n hX dX6_init_0 (lg_at 0 rfl) ?_
  refine g_aload_n hX dX6_init_1 (lg_at 1 rfl) ?_
  refine g_put8 hX ((hM.2.2.2.2 (by decide)).1.trans rfl) hf (lw_LW q466) dX6_init_2 (fun A2 hA1 hf => ?_)
  rw [← blind8 hA1] at hf
  refine g_aload_n hX dX6_init_5 (lg_at 0 rfl) ?_
  refine g_aload_n hX dX6_init_6 (lg_at 1 rfl) ?_
  refine g_iload_n hX dX6_init_7 (lg_at 2 rfl) ?_
  obtain ⟨A8, hc8, hf⟩ := ob_some hf
  refine h_callI hM [vr x1, vi x2] dX6_init_8 cs_SlimeNet_PlateReader_9_s (m_X5_init hc8) rfl rfl rfl rfl ?_
  refine g_aload_n hX dX6_init_11 (lg_at 0 rfl) ?_
  refine h_newF hM dX6_init_12 (by decide) rfl (lw_LW q462) (lw_LW q169) (lw_LW q74) rfl hf (fun A12 hf => ?_)
  refine g_dup hX dX6_init_15 rfl ?_
  obtain ⟨A16, hc16, hf⟩ := ob_some hf
  refine h_callIN hM [] dX6_init_16 cs_SlimeNet_PlateReader_17_s (m_X2_init hc16) rfl rfl rfl rfl ?_
  refine g_putR hX hf fs_SlimeNet_PlateReader_20_6 ⟨_, rfl, Or.inr ⟨rfl, (hM.2.2.2.2 (by decide)).1.trans rfl, rfl⟩⟩ rfl dX6_init_19 (fun A19 hf => ?_)
  cases hf
  exact h_vret hM dX6_init_22 hr rfl rfl

theorem m_X6_init {l : Launch} {this : Nat} {x1 : Option Nat} {x2 : Int32} {A : AH} {out : AH} (h : f_X6_init this x1 x2 A = some out) : MetF l yX6_init (Cond.code yX6_init cX6_init 3 none) rm_X6_init [vr (some this), vr x1, vi x2] A (r_X6_init A out) :=
  metF_of rfl rfl (Nat.le_of_ble_eq_true rfl) fun X hX hl hR hnm hr h1 h2 hno => w_f_X6_init (X := X) ⟨hX, hR, h1, h2, fun _ => ⟨hnm, hno⟩⟩ h hr

/-! SlimeNet$Reader.isEnd()Z -/
def rm_X5_isEnd : Room := { frames := 1, cells := 0, slots := 0, locals := 24 }
def r_X5_isEnd (A : AH) (o : Int32) : (Option AV × AH) ⊕ (Nat × AH) := .inl (some (vi o), A)
set_option maxRecDepth 100000 in
theorem w_f_X5_isEnd_12 {X : Ctx} (hM : MX X yX5_isEnd cX5_isEnd 1 "SlimeNet$Reader" (some Jvm.ClassFile.FieldType.boolean) rm_X5_isEnd []) {t0 : Int32} {A : AH} {out : Int32} (hf : f_X5_isEnd_12 t0 A = some out) (hr : c_res X = r_X5_isEnd A out) : G X 0 0 12 [] [vi t0] A := by
  have hX := hM.1
  unfold f_X5_isEnd_12 at hf
  obtain ⟨w12, hz12, hf⟩ := ob_some hf
  cases hf
  exact h_zret hM dX5_isEnd_12 hr rfl (ckZ_nar hz12).2 rfl

set_option maxRecDepth 100000 in
theorem w_f_X5_isEnd {X : Ctx} (hM : MX X yX5_isEnd cX5_isEnd 1 "SlimeNet$Reader" (some Jvm.ClassFile.FieldType.boolean) rm_X5_isEnd []) {this : Nat} {A : AH} {out : Int32} (hf : f_X5_isEnd this A = some out) (hr : c_res X = r_X5_isEnd A out) : G X 0 0 0 [(0, vr (some this))] [] A := by
  have hX := hM.1
  unfold f_X5_isEnd at hf
  refine g_aload_n hX dX5_isEnd_0 (lg_at 0 rfl) ?_
  refine g_getI hX hf fs_SlimeNet_Reader_36_6 rfl dX5_isEnd_1 (fun v1 hf => ?_)
  refine g_if_ne hX dX5_isEnd_4 11 hf (by decide) (fun c4 hf => ?_) (fun c4 hf => ?_)
  · refine g_iconst hX dX5_isEnd_11 (0 : Int32) (by decide) ?_
    exact g_pick (w_f_X5_isEnd_12 hM hf hr) [] rfl
  · refine g_iconst hX dX5_isEnd_7 (1 : Int32) (by decide) ?_
    refine g_goto hX dX5_isEnd_8 12 (by decide) ?_
    exact g_pick (w_f_X5_isEnd_12 hM hf hr) [] rfl

theorem m_X5_isEnd {l : Launch} {this : Nat} {A : AH} {out : Int32} (h : f_X5_isEnd this A = some out) : MetF l yX5_isEnd (Cond.code yX5_isEnd cX5_isEnd 1 (some Jvm.ClassFile.FieldType.boolean)) rm_X5_isEnd [vr (some this)] A (r_X5_isEnd A out) :=
  metF_of rfl rfl (Nat.le_of_ble_eq_true rfl) fun X hX hl hR hnm hr h1 h2 hno => w_f_X5_isEnd (X := X) ⟨hX, hR, h1, h2, fun _ => ⟨hnm, hno⟩⟩ h hr

/-! java/lang/String.coder()B -/
def rm_J6_coder : Room := { frames := 1, cells := 0, slots := 0, locals := 24 }
def r_J6_coder (A : AH) (o : Int32) : (Option AV × AH) ⊕ (Nat × AH) := .inl (some (vi o), A)
set_option maxRecDepth 100000 in
theorem w_f_J6_coder_14 {X : Ctx} (hM : MX X yJ6_coder cJ6_coder 1 "java/lang/String" (some Jvm.ClassFile.FieldType.byte) rm_J6_coder []) {t0 : Int32} {A : AH} {out : Int32} (hf : f_J6_coder_14 t0 A = some out) (hr : c_res X = r_J6_coder A out) : G X 0 0 14 [] [vi t0] A := by
  have hX := hM.1
  unfold f_J6_coder_14 at hf
  obtain ⟨w14, hz14, hf⟩ := ob_some hf
  cases hf
  exact h_zret hM dJ6_coder_14 hr rfl (ckB_nar hz14).2 rfl

set_option maxRecDepth 100000 in
theorem w_f_J6_coder {X : Ctx} (hM : MX X yJ6_coder cJ6_coder 1 "java/lang/String" (some Jvm.ClassFile.FieldType.byte) rm_J6_coder []) {this : Nat} {A : AH} {out : Int32} (hf : f_J6_coder this A = some out) (hr : c_res X = r_J6_coder A out) : G X 0 0 0 [(0, vr (some this))] [] A := by
  have hX := hM.1
  unfold f_J6_coder at hf
  refine g_getC hX dJ6_coder_0 (lw_LW q521) ?_
  refine g_if_eq hX dJ6_coder_3 13 hf (by decide) (fun c3 hf => ?_) (fun c3 hf => ?_)
  · refine g_iconst hX dJ6_coder_13 (1 : Int32) (by decide) ?_
    exact g_pick (w_f_J6_coder_14 hM hf hr) [] rfl
  · refine g_aload_n hX dJ6_coder_6 (lg_at 0 rfl) ?_
    refine g_strC hX (lw_LW q1612) hf dJ6_coder_7 (fun v7 hf => ?_)
    refine g_goto hX dJ6_coder_10 14 (by decide) ?_
    exact g_pick (w_f_J6_coder_14 hM hf hr) [] rfl

theorem m_J6_coder {l : Launch} {this : Nat} {A : AH} {out : Int32} (h : f_J6_coder this A = some out) : MetF l yJ6_coder (Cond.code yJ6_coder cJ6_coder 1 (some Jvm.ClassFile.FieldType.byte)) rm_J6_coder [vr (some this)] A (r_J6_coder A out) :=
  metF_of rfl rfl (Nat.le_of_ble_eq_true rfl) fun X hX hl hR hnm hr h1 h2 hno => w_f_J6_coder (X := X) ⟨hX, hR, h1, h2, fun _ => ⟨hnm, hno⟩⟩ h hr

/-! java/lang/String.length()I -/
def rm_J6_length : Room := { frames := 2, cells := 0, slots := 0, locals := 44 }
def r_J6_length (A : AH) (o : Int32) : (Option AV × AH) ⊕ (Nat × AH) := .inl (some (vi o), A)
set_option maxRecDepth 100000 in
theorem w_f_J6_length {X : Ctx} (hM : MX X yJ6_length cJ6_length 1 "java/lang/String" (some Jvm.ClassFile.FieldType.int) rm_J6_length []) {this : Nat} {A : AH} {out : Int32} (hf : f_J6_length this A = some out) (hr : c_res X = r_J6_length A out) : G X 0 0 0 [(0, vr (some this))] [] A := by
  have hX := hM.1
  unfold f_J6_length at hf
  refine g_aload_n hX dJ6_length_0 (lg_at 0 rfl) ?_
  refine g_strV hX (lw_LW q1611) hf dJ6_length_1 (fun v1 hf => ?_)
  refine g_alen hX 11 rfl hf dJ6_length_4 (fun v4 hf => ?_)
  refine g_aload_n hX dJ6_length_5 (lg_at 0 rfl) ?_
  obtain ⟨k6, hk6, hf⟩ := ob_some hf
  obtain ⟨v6, hc6, hf⟩ := ob_some hf
  refine h_callStr hM [] dJ6_length_6 cs_java_lang_String_335_9 hk6 (m_J6_coder hc6) rfl rfl rfl rfl ?_
  refine g_ishr hX dJ6_length_9 ?_
  cases hf
  exact h_iret hM dJ6_length_10 hr rfl rfl

theorem m_J6_length {l : Launch} {this : Nat} {A : AH} {out : Int32} (h : f_J6_length this A = some out) : MetF l yJ6_length (Cond.code yJ6_length cJ6_length 1 (some Jvm.ClassFile.FieldType.int)) rm_J6_length [vr (some this)] A (r_J6_length A out) :=
  metF_of rfl rfl (Nat.le_of_ble_eq_true rfl) fun X hX hl hR hnm hr h1 h2 hno => w_f_J6_length (X := X) ⟨hX, hR, h1, h2, fun _ => ⟨hnm, hno⟩⟩ h hr

