/-! SlimeNetModel.tell(I)I -/
def rm_X4_tell : Room := { frames := 3, cells := 0, slots := 0, locals := 69 }
def r_X4_tell (_A : AH) (o : Int32 × AH) : (Option AV × AH) ⊕ (Nat × AH) := .inl (some (vi o.1), o.2)
def k_X4_tell_26 (X : Ctx) (this : Nat) (x1 : Int32) : ((Int32 × Int32 × AH) ⊕ (Int32 × AH)) → Prop
  | .inl (x2, x3, A) => G X 0 0 26 [(0, vr (some this)), (1, vi x1), (2, vi x2), (3, vi x3)] [] A
  | .inr (x2, A) => G X 0 0 83 [(2, vi x2)] [] A

set_option maxRecDepth 100000 in
theorem w_f_X4_tell_77 {X : Ctx} (hM : MX X yX4_tell cX4_tell 4 "SlimeNetModel" (some Jvm.ClassFile.FieldType.int) rm_X4_tell []) {this : Nat} {x1 : Int32} {x2 : Int32} {x3 : Int32} {A : AH} {out : (Int32 × Int32 × AH) ⊕ (Int32 × AH)} (hf : f_X4_tell_77 this x1 x2 x3 A = some out) (K : k_X4_tell_26 X this x1 out) : G X 0 0 77 [(0, vr (some this)), (1, vi x1), (2, vi x2), (3, vi x3)] [] A := by
  have hX := hM.1
  unfold f_X4_tell_77 at hf
  refine g_iinc hX dX4_tell_77 (1 : Int32) (x3 + (1 : Int32)) [(3, vi (x3 + (1 : Int32))), (0, vr (some this)), (1, vi x1), (2, vi x2)] (by decide) rfl (lg_at 3 rfl) (by decide) rfl ?_
  refine g_goto hX dX4_tell_80 26 (by decide) ?_
  cases hf
  exact g_pick (show G X _ _ _ _ _ _ from K) [1, 2, 3, 0] rfl

set_option maxRecDepth 100000 in
theorem w_s_X4_tell_26 {X : Ctx} (hM : MX X yX4_tell cX4_tell 4 "SlimeNetModel" (some Jvm.ClassFile.FieldType.int) rm_X4_tell []) {this : Nat} {x1 : Int32} {st : Int32 × Int32 × AH} {out : (Int32 × Int32 × AH) ⊕ (Int32 × AH)} (hf : s_X4_tell_26 this x1 st = some out) (K : k_X4_tell_26 X this x1 out) : k_X4_tell_26 X this x1 (.inl st) := by
  have hX := hM.1
  obtain ⟨x2, x3, A⟩ := st
  unfold s_X4_tell_26 at hf
  dsimp only at hf
  show G X 0 0 26 [(0, vr (some this)), (1, vi x1), (2, vi x2), (3, vi x3)] [] A
  refine g_iload_n hX dX4_tell_26 (lg_at 3 rfl) ?_
  refine g_aload_n hX dX4_tell_27 (lg_at 0 rfl) ?_
  refine g_getI hX hf fs_SlimeNetModel_297_5 rfl dX4_tell_28 (fun v28 hf => ?_)
  refine g_icmp_ge hX dX4_tell_31 83 hf (by decide) (fun c31 hf => ?_) (fun c31 hf => ?_)
  · cases hf
    exact g_pick (show G X _ _ _ _ _ _ from K) [2] rfl
  · refine g_aload_n hX dX4_tell_34 (lg_at 0 rfl) ?_
    refine g_getR hX hf fs_SlimeNetModel_232_5 rfl dX4_tell_35 (fun v35 hf => ?_)
    refine g_bipush hX dX4_tell_38 (10 : Int32) (by decide) ?_
    refine g_iload_n hX dX4_tell_40 (lg_at 1 rfl) ?_
    refine g_imul hX dX4_tell_41 ?_
    refine g_iload_n hX dX4_tell_42 (lg_at 3 rfl) ?_
    refine g_iadd hX dX4_tell_43 ?_
    refine g_iald hX hf dX4_tell_44 (fun v44 hf => ?_)
    refine g_aload_n hX dX4_tell_45 (lg_at 0 rfl) ?_
    refine g_getR hX hf fs_SlimeNetModel_217_5 rfl dX4_tell_46 (fun v46 hf => ?_)
    refine g_iload_n hX dX4_tell_49 (lg_at 3 rfl) ?_
    refine g_iald hX hf dX4_tell_50 (fun v50 hf => ?_)
    refine g_icmp_gt hX dX4_tell_51 57 hf (by decide) (fun c51 hf => ?_) (fun c51 hf => ?_)
    · refine g_aload_n hX dX4_tell_57 (lg_at 0 rfl) ?_
      refine g_getR hX hf fs_SlimeNetModel_217_5 rfl dX4_tell_58 (fun v58 hf => ?_)
      refine g_iload_n hX dX4_tell_61 (lg_at 3 rfl) ?_
      refine g_aload_n hX dX4_tell_62 (lg_at 0 rfl) ?_
      refine g_getR hX hf fs_SlimeNetModel_232_5 rfl dX4_tell_63 (fun v63 hf => ?_)
      refine g_bipush hX dX4_tell_66 (10 : Int32) (by decide) ?_
      refine g_iload_n hX dX4_tell_68 (lg_at 1 rfl) ?_
      refine g_imul hX dX4_tell_69 ?_
      refine g_iload_n hX dX4_tell_70 (lg_at 3 rfl) ?_
      refine g_iadd hX dX4_tell_71 ?_
      refine g_iald hX hf dX4_tell_72 (fun v72 hf => ?_)
      refine g_iast hX hf dX4_tell_73 (fun A73 hf => ?_)
      refine g_iinc hX dX4_tell_74 (1 : Int32) (x2 + (1 : Int32)) [(2, vi (x2 + (1 : Int32))), (0, vr (some this)), (1, vi x1), (3, vi x3)] (by decide) rfl (lg_at 2 rfl) (by decide) rfl ?_
      exact g_pick (w_f_X4_tell_77 hM hf K) [1, 2, 0, 3] rfl
    · refine g_goto hX dX4_tell_54 77 (by decide) ?_
      exact g_pick (w_f_X4_tell_77 hM hf K) [0, 1, 2, 3] rfl

set_option maxRecDepth 100000 in
theorem w_l_X4_tell_26 {X : Ctx} (hM : MX X yX4_tell cX4_tell 4 "SlimeNetModel" (some Jvm.ClassFile.FieldType.int) rm_X4_tell []) {this : Nat} {x1 : Int32} {x2 : Int32} {x3 : Int32} {A : AH} {out : Int32 × AH} (hf : l_X4_tell_26 this x1 x2 x3 A = some out) (hr : c_res X = r_X4_tell A out) : G X 0 0 26 [(0, vr (some this)), (1, vi x1), (2, vi x2), (3, vi x3)] [] A := by
  have hX := hM.1
  unfold l_X4_tell_26 at hf
  obtain ⟨e, hw, hf⟩ := ob_some hf
  refine (whl_ind (k_X4_tell_26 X this x1) (fun st o hs K => w_s_X4_tell_26 hM hs K) hw ?_ : k_X4_tell_26 X this x1 (.inl (x2, x3, A)))
  obtain ⟨x2, A⟩ := e
  dsimp only at hf
  show G X 0 0 83 [(2, vi x2)] [] A
  refine g_iload_n hX dX4_tell_83 (lg_at 0 rfl) ?_
  cases hf
  exact h_iret hM dX4_tell_84 hr rfl rfl

set_option maxRecDepth 100000 in
theorem w_f_X4_tell {X : Ctx} (hM : MX X yX4_tell cX4_tell 4 "SlimeNetModel" (some Jvm.ClassFile.FieldType.int) rm_X4_tell []) {this : Nat} {x1 : Int32} {A : AH} {out : Int32 × AH} (hf : f_X4_tell this x1 A = some out) (hr : c_res X = r_X4_tell A out) : G X 0 0 0 [(0, vr (some this)), (1, vi x1)] [] A := by
  have hX := hM.1
  unfold f_X4_tell at hf
  refine g_iload_n hX dX4_tell_0 (lg_at 1 rfl) ?_
  obtain ⟨v1, hc1, hf⟩ := ob_some hf
  refine h_callS hM [vi x1] dX4_tell_1 cs_SlimeNetModel_408_s (m_X4_isSlot hc1) rfl rfl rfl rfl ?_
  refine g_if_ne hX dX4_tell_4 10 hf (by decide) (fun c4 hf => ?_) (fun c4 hf => ?_)
  · refine g_aload_n hX dX4_tell_10 (lg_at 0 rfl) ?_
    refine g_getR hX hf fs_SlimeNetModel_238_5 rfl dX4_tell_11 (fun v11 hf => ?_)
    refine g_iload_n hX dX4_tell_14 (lg_at 1 rfl) ?_
    refine g_zald hX hf dX4_tell_15 (fun v15 hf => ?_)
    refine g_if_ne hX dX4_tell_16 22 hf (by decide) (fun c16 hf => ?_) (fun c16 hf => ?_)
    · refine g_iconst hX dX4_tell_22 (0 : Int32) (by decide) ?_
      refine g_istore_n hX dX4_tell_23 [(2, vi (0 : Int32)), (0, vr (some this)), (1, vi x1)] (by decide) rfl ?_
      refine g_iconst hX dX4_tell_24 (0 : Int32) (by decide) ?_
      refine g_istore_n hX dX4_tell_25 [(3, vi (0 : Int32)), (2, vi (0 : Int32)), (0, vr (some this)), (1, vi x1)] (by decide) rfl ?_
      exact g_pick (w_l_X4_tell_26 hM hf hr) [2, 3, 1, 0] rfl
    · refine g_bipush hX dX4_tell_19 (-4 : Int32) (by decide) ?_
      cases hf
      exact h_iret hM dX4_tell_21 hr rfl rfl
  · refine g_bipush hX dX4_tell_7 (-2 : Int32) (by decide) ?_
    cases hf
    exact h_iret hM dX4_tell_9 hr rfl rfl

theorem m_X4_tell {l : Launch} {this : Nat} {x1 : Int32} {A : AH} {out : Int32 × AH} (h : f_X4_tell this x1 A = some out) : MetF l yX4_tell (Cond.code yX4_tell cX4_tell 4 (some Jvm.ClassFile.FieldType.int)) rm_X4_tell [vr (some this), vi x1] A (r_X4_tell A out) :=
  metF_of rfl rfl (Nat.le_of_ble_eq_true rfl) fun X hX hl hR hnm hr h1 h2 hno => w_f_X4_tell (X := X) ⟨hX, hR, h1, h2, fun _ => ⟨hnm, hno⟩⟩ h hr

/-! SlimeNet.own()I -/
def rm_X0_own : Room := { frames := 2, cells := 0, slots := 0, locals := 46 }
def r_X0_own (A : AH) (o : Int32) : (Option AV × AH) ⊕ (Nat × AH) := .inl (some (vi o), A)
set_option maxRecDepth 100000 in
theorem w_f_X0_own {X : Ctx} (hM : MX X yX0_own cX0_own 1 "SlimeNet" (some Jvm.ClassFile.FieldType.int) rm_X0_own []) {this : Nat} {A : AH} {out : Int32} (hf : f_X0_own this A = some out) (hr : c_res X = r_X0_own A out) : G X 0 0 0 [(0, vr (some this))] [] A := by
  have hX := hM.1
  unfold f_X0_own at hf
  refine g_aload_n hX dX0_own_0 (lg_at 0 rfl) ?_
  refine g_getR hX hf fs_SlimeNet_34_1 rfl dX0_own_1 (fun v1 hf => ?_)
  obtain ⟨k4, hk4, hf⟩ := ob_some hf
  obtain ⟨v4, hc4, hf⟩ := ob_some hf
  refine h_callV hM [] dX0_own_4 cs_SlimeNet_267_4 hk4 (m_X3_own hc4) rfl rfl rfl rfl ?_
  cases hf
  exact h_iret hM dX0_own_7 hr rfl rfl

theorem m_X0_own {l : Launch} {this : Nat} {A : AH} {out : Int32} (h : f_X0_own this A = some out) : MetF l yX0_own (Cond.code yX0_own cX0_own 1 (some Jvm.ClassFile.FieldType.int)) rm_X0_own [vr (some this)] A (r_X0_own A out) :=
  metF_of rfl rfl (Nat.le_of_ble_eq_true rfl) fun X hX hl hR hnm hr h1 h2 hno => w_f_X0_own (X := X) ⟨hX, hR, h1, h2, fun _ => ⟨hnm, hno⟩⟩ h hr

/-! SlimeNetModel.own()I -/
def rm_X4_own : Room := { frames := 2, cells := 0, slots := 0, locals := 47 }
def r_X4_own (A : AH) (o : Int32) : (Option AV × AH) ⊕ (Nat × AH) := .inl (some (vi o), A)
set_option maxRecDepth 100000 in
theorem w_f_X4_own {X : Ctx} (hM : MX X yX4_own cX4_own 1 "SlimeNetModel" (some Jvm.ClassFile.FieldType.int) rm_X4_own []) {this : Nat} {A : AH} {out : Int32} (hf : f_X4_own this A = some out) (hr : c_res X = r_X4_own A out) : G X 0 0 0 [(0, vr (some this))] [] A := by
  have hX := hM.1
  unfold f_X4_own at hf
  refine g_aload_n hX dX4_own_0 (lg_at 0 rfl) ?_
  refine g_getR hX hf fs_SlimeNetModel_215_5 rfl dX4_own_1 (fun v1 hf => ?_)
  refine g_aload_n hX dX4_own_4 (lg_at 0 rfl) ?_
  refine g_getI hX hf fs_SlimeNetModel_297_5 rfl dX4_own_5 (fun v5 hf => ?_)
  obtain ⟨v8, hc8, hf⟩ := ob_some hf
  refine h_callS hM [vr v1, vi v5] dX4_own_8 cs_SlimeNetModel_351_s (m_X4_widths hc8) rfl rfl rfl rfl ?_
  cases hf
  exact h_iret hM dX4_own_11 hr rfl rfl

theorem m_X4_own {l : Launch} {this : Nat} {A : AH} {out : Int32} (h : f_X4_own this A = some out) : MetF l yX4_own (Cond.code yX4_own cX4_own 1 (some Jvm.ClassFile.FieldType.int)) rm_X4_own [vr (some this)] A (r_X4_own A out) :=
  metF_of rfl rfl (Nat.le_of_ble_eq_true rfl) fun X hX hl hR hnm hr h1 h2 hno => w_f_X4_own (X := X) ⟨hX, hR, h1, h2, fun _ => ⟨hnm, hno⟩⟩ h hr

/-! SlimeNet.isNet(I)Z -/
def rm_X0_isNet : Room := { frames := 2, cells := 0, slots := 0, locals := 46 }
def r_X0_isNet (A : AH) (o : Int32) : (Option AV × AH) ⊕ (Nat × AH) := .inl (some (vi o), A)
set_option maxRecDepth 100000 in
theorem w_f_X0_isNet {X : Ctx} (hM : MX X yX0_isNet cX0_isNet 2 "SlimeNet" (some Jvm.ClassFile.FieldType.boolean) rm_X0_isNet []) {this : Nat} {x1 : Int32} {A : AH} {out : Int32} (hf : f_X0_isNet this x1 A = some out) (hr : c_res X = r_X0_isNet A out) : G X 0 0 0 [(0, vr (some this)), (1, vi x1)] [] A := by
  have hX := hM.1
  unfold f_X0_isNet at hf
  refine g_iload_n hX dX0_isNet_0 (lg_at 1 rfl) ?_
  refine g_iconst hX dX0_isNet_1 (0 : Int32) (by decide) ?_
  refine g_iconst hX dX0_isNet_2 (1 : Int32) (by decide) ?_
  refine g_aload_n hX dX0_isNet_3 (lg_at 0 rfl) ?_
  refine g_getR hX hf fs_SlimeNet_27_1 rfl dX0_isNet_4 (fun v4 hf => ?_)
  refine g_getR hX hf fs_SlimeNet_143_3 rfl dX0_isNet_7 (fun v7 hf => ?_)
  obtain ⟨k10, hk10, hf⟩ := ob_some hf
  obtain ⟨v10, hc10, hf⟩ := ob_some hf
  refine h_callV hM [] dX0_isNet_10 cs_SlimeNet_147_8 hk10 (m_J4_size hc10) rfl rfl rfl rfl ?_
  refine g_ishl hX dX0_isNet_13 ?_
  refine g_iconst hX dX0_isNet_14 (1 : Int32) (by decide) ?_
  refine g_isub hX dX0_isNet_15 ?_
  obtain ⟨v16, hc16, hf⟩ := ob_some hf
  refine h_callS hM [vi x1, vi (0 : Int32), vi (((1 : Int32) <<< (v10 &&& 31)) - (1 : Int32))] dX0_isNet_16 cs_SlimeNet_153_s (m_X0_in hc16) rfl rfl rfl rfl ?_
  obtain ⟨w19, hz19, hf⟩ := ob_some hf
  cases hf
  exact h_zret hM dX0_isNet_19 hr rfl (ckZ_nar hz19).2 rfl

theorem m_X0_isNet {l : Launch} {this : Nat} {x1 : Int32} {A : AH} {out : Int32} (h : f_X0_isNet this x1 A = some out) : MetF l yX0_isNet (Cond.code yX0_isNet cX0_isNet 2 (some Jvm.ClassFile.FieldType.boolean)) rm_X0_isNet [vr (some this), vi x1] A (r_X0_isNet A out) :=
  metF_of rfl rfl (Nat.le_of_ble_eq_true rfl) fun X hX hl hR hnm hr h1 h2 hno => w_f_X0_isNet (X := X) ⟨hX, hR, h1, h2, fun _ => ⟨hnm, hno⟩⟩ h hr

/-! SlimeNet$Plate.length(I)I -/
def rm_X2_length : Room := { frames := 4, cells := 0, slots := 0, locals := 88 }
def r_X2_length (A : AH) (o : Int32) : (Option AV × AH) ⊕ (Nat × AH) := .inl (some (vi o), A)
def k_X2_length_4 (X : Ctx) (this : Nat) (x1 : Int32) (A : AH) : ((Int32 × Int32) ⊕ (Int32)) → Prop
  | .inl (x2, x3) => G X 0 0 4 [(0, vr (some this)), (1, vi x1), (2, vi x2), (3, vi x3)] [] A
  | .inr x2 => G X 0 0 51 [(2, vi x2)] [] A

set_option maxRecDepth 100000 in
theorem w_f_X2_length_43 {X : Ctx} (hM : MX X yX2_length cX2_length 4 "SlimeNet$Plate" (some Jvm.ClassFile.FieldType.int) rm_X2_length []) {this : Nat} {x1 : Int32} {x3 : Int32} {t0 : Int32} {t1 : Int32} {A : AH} {out : (Int32 × Int32) ⊕ (Int32)} (hf : f_X2_length_43 this x1 x3 t0 t1 A = some out) (K : k_X2_length_4 X this x1 A out) : G X 0 0 43 [(0, vr (some this)), (1, vi x1), (3, vi x3)] [vi t0, vi t1] A := by
  have hX := hM.1
  unfold f_X2_length_43 at hf
  refine g_iadd hX dX2_length_43 ?_
  refine g_istore_n hX dX2_length_44 [(2, vi (t1 + t0)), (0, vr (some this)), (1, vi x1), (3, vi x3)] (by decide) rfl ?_
  refine g_iinc hX dX2_length_45 (1 : Int32) (x3 + (1 : Int32)) [(3, vi (x3 + (1 : Int32))), (2, vi (t1 + t0)), (0, vr (some this)), (1, vi x1)] (by decide) rfl (lg_at 3 rfl) (by decide) rfl ?_
  refine g_goto hX dX2_length_48 4 (by decide) ?_
  cases hf
  exact g_pick (show G X _ _ _ _ _ _ from K) [2, 3, 1, 0] rfl

set_option maxRecDepth 100000 in
theorem w_s_X2_length_4 {X : Ctx} (hM : MX X yX2_length cX2_length 4 "SlimeNet$Plate" (some Jvm.ClassFile.FieldType.int) rm_X2_length []) {this : Nat} {x1 : Int32} {A : AH} {st : Int32 × Int32} {out : (Int32 × Int32) ⊕ (Int32)} (hf : s_X2_length_4 this x1 A st = some out) (K : k_X2_length_4 X this x1 A out) : k_X2_length_4 X this x1 A (.inl st) := by
  have hX := hM.1
  obtain ⟨x2, x3⟩ := st
  unfold s_X2_length_4 at hf
  dsimp only at hf
  show G X 0 0 4 [(0, vr (some this)), (1, vi x1), (2, vi x2), (3, vi x3)] [] A
  refine g_iload_n hX dX2_length_4 (lg_at 3 rfl) ?_
  refine g_aload_n hX dX2_length_5 (lg_at 0 rfl) ?_
  refine g_getR hX hf fs_SlimeNet_Plate_18_3 rfl dX2_length_6 (fun v6 hf => ?_)
  obtain ⟨k9, hk9, hf⟩ := ob_some hf
  obtain ⟨v9, hc9, hf⟩ := ob_some hf
  refine h_callV hM [] dX2_length_9 cs_SlimeNet_Plate_48_8 hk9 (m_J4_size hc9) rfl rfl rfl rfl ?_
  refine g_icmp_ge hX dX2_length_12 51 hf (by decide) (fun c12 hf => ?_) (fun c12 hf => ?_)
  · cases hf
    exact g_pick (show G X _ _ _ _ _ _ from K) [2] rfl
  · refine g_iload_n hX dX2_length_15 (lg_at 2 rfl) ?_
    refine g_iload_n hX dX2_length_16 (lg_at 1 rfl) ?_
    refine g_iload_n hX dX2_length_17 (lg_at 3 rfl) ?_
    refine g_ishr hX dX2_length_18 ?_
    refine g_iconst hX dX2_length_19 (1 : Int32) (by decide) ?_
    refine g_iand hX dX2_length_20 ?_
    refine g_iconst hX dX2_length_21 (1 : Int32) (by decide) ?_
    refine g_icmp_ne hX dX2_length_22 42 hf (by decide) (fun c22 hf => ?_) (fun c22 hf => ?_)
    · refine g_iconst hX dX2_length_42 (0 : Int32) (by decide) ?_
      exact g_pick (w_f_X2_length_43 hM hf K) [0, 1, 3] rfl
    · refine g_aload_n hX dX2_length_25 (lg_at 0 rfl) ?_
      refine g_getR hX hf fs_SlimeNet_Plate_18_3 rfl dX2_length_26 (fun v26 hf => ?_)
      refine g_iload_n hX dX2_length_29 (lg_at 3 rfl) ?_
      obtain ⟨k30, hk30, hf⟩ := ob_some hf
      obtain ⟨v30, hc30, hf⟩ := ob_some hf
      refine h_callV hM [vi x3] dX2_length_30 cs_SlimeNet_Plate_52_8 hk30 (m_J4_get hc30) rfl rfl rfl rfl ?_
      refine g_castC hX (by decide) rfl (lw_LW q624) hf dX2_length_33 (fun hf => ?_)
      refine g_getI hX hf fs_SlimeNet_Plate_68_7 rfl dX2_length_36 (fun v36 hf => ?_)
      refine g_goto hX dX2_length_39 43 (by decide) ?_
      exact g_pick (w_f_X2_length_43 hM hf K) [0, 1, 3] rfl

set_option maxRecDepth 100000 in
theorem w_l_X2_length_4 {X : Ctx} (hM : MX X yX2_length cX2_length 4 "SlimeNet$Plate" (some Jvm.ClassFile.FieldType.int) rm_X2_length []) {this : Nat} {x1 : Int32} {x2 : Int32} {x3 : Int32} {A : AH} {out : Int32} (hf : l_X2_length_4 this x1 x2 x3 A = some out) (hr : c_res X = r_X2_length A out) : G X 0 0 4 [(0, vr (some this)), (1, vi x1), (2, vi x2), (3, vi x3)] [] A := by
  have hX := hM.1
  unfold l_X2_length_4 at hf
  obtain ⟨e, hw, hf⟩ := ob_some hf
  refine (whl_ind (k_X2_length_4 X this x1 A) (fun st o hs K => w_s_X2_length_4 hM hs K) hw ?_ : k_X2_length_4 X this x1 A (.inl (x2, x3)))
  revert hf hw; generalize e = x2; intro hw hf
  dsimp only at hf
  show G X 0 0 51 [(2, vi x2)] [] A
  refine g_iload_n hX dX2_length_51 (lg_at 0 rfl) ?_
  cases hf
  exact h_iret hM dX2_length_52 hr rfl rfl

set_option maxRecDepth 100000 in
theorem w_f_X2_length {X : Ctx} (hM : MX X yX2_length cX2_length 4 "SlimeNet$Plate" (some Jvm.ClassFile.FieldType.int) rm_X2_length []) {this : Nat} {x1 : Int32} {A : AH} {out : Int32} (hf : f_X2_length this x1 A = some out) (hr : c_res X = r_X2_length A out) : G X 0 0 0 [(0, vr (some this)), (1, vi x1)] [] A := by
  have hX := hM.1
  unfold f_X2_length at hf
  refine g_iconst hX dX2_length_0 (0 : Int32) (by decide) ?_
  refine g_istore_n hX dX2_length_1 [(2, vi (0 : Int32)), (0, vr (some this)), (1, vi x1)] (by decide) rfl ?_
  refine g_iconst hX dX2_length_2 (0 : Int32) (by decide) ?_
  refine g_istore_n hX dX2_length_3 [(3, vi (0 : Int32)), (2, vi (0 : Int32)), (0, vr (some this)), (1, vi x1)] (by decide) rfl ?_
  exact g_pick (w_l_X2_length_4 hM hf hr) [2, 3, 1, 0] rfl

theorem m_X2_length {l : Launch} {this : Nat} {x1 : Int32} {A : AH} {out : Int32} (h : f_X2_length this x1 A = some out) : MetF l yX2_length (Cond.code yX2_length cX2_length 4 (some Jvm.ClassFile.FieldType.int)) rm_X2_length [vr (some this), vi x1] A (r_X2_length A out) :=
  metF_of rfl rfl (Nat.le_of_ble_eq_true rfl) fun X hX hl hR hnm hr h1 h2 hno => w_f_X2_length (X := X) ⟨hX, hR, h1, h2, fun _ => ⟨hnm, hno⟩⟩ h hr

/-! SlimeNet$Plate.joins(I)Z -/
def rm_X2_joins : Room := { frames := 5, cells := 0, slots := 0, locals := 114 }
def r_X2_joins (A : AH) (o : Int32) : (Option AV × AH) ⊕ (Nat × AH) := .inl (some (vi o), A)
def k_X2_joins_23 (X : Ctx) (this : Nat) (x2 : Int32) (A : AH) : ((Int32) ⊕ ((Unit) ⊕ (Unit))) → Prop
  | .inl x3 => G X 0 0 23 [(0, vr (some this)), (2, vi x2), (3, vi x3)] [] A
  | .inr (.inl ()) => G X 0 0 44 [] [] A
  | .inr (.inr ()) => G X 0 0 52 [] [] A

set_option maxRecDepth 100000 in
theorem w_s_X2_joins_23 {X : Ctx} (hM : MX X yX2_joins cX2_joins 4 "SlimeNet$Plate" (some Jvm.ClassFile.FieldType.boolean) rm_X2_joins []) {this : Nat} {x2 : Int32} {A : AH} {st : Int32} {out : (Int32) ⊕ ((Unit) ⊕ (Unit))} (hf : s_X2_joins_23 this x2 A st = some out) (K : k_X2_joins_23 X this x2 A out) : k_X2_joins_23 X this x2 A (.inl st) := by
  have hX := hM.1
  revert hf; generalize st = x3; intro hf
  unfold s_X2_joins_23 at hf
  dsimp only at hf
  show G X 0 0 23 [(0, vr (some this)), (2, vi x2), (3, vi x3)] [] A
  refine g_iload_n hX dX2_joins_23 (lg_at 2 rfl) ?_
  refine g_aload_n hX dX2_joins_24 (lg_at 0 rfl) ?_
  refine g_getI hX hf fs_SlimeNet_Plate_45_3 rfl dX2_joins_25 (fun v25 hf => ?_)
  refine g_icmp_ge hX dX2_joins_28 52 hf (by decide) (fun c28 hf => ?_) (fun c28 hf => ?_)
  · cases hf
    exact g_pick (show G X _ _ _ _ _ _ from K) [] rfl
  · refine g_iload_n hX dX2_joins_31 (lg_at 1 rfl) ?_
    refine g_aload_n hX dX2_joins_32 (lg_at 0 rfl) ?_
    refine g_getR hX hf fs_SlimeNet_Plate_22_3 rfl dX2_joins_33 (fun v33 hf => ?_)
    refine g_iload_n hX dX2_joins_36 (lg_at 2 rfl) ?_
    refine g_iald hX hf dX2_joins_37 (fun v37 hf => ?_)
    refine g_ishr hX dX2_joins_38 ?_
    refine g_iconst hX dX2_joins_39 (1 : Int32) (by decide) ?_
    refine g_iand hX dX2_joins_40 ?_
    refine g_if_ne hX dX2_joins_41 46 hf (by decide) (fun c41 hf => ?_) (fun c41 hf => ?_)
    · refine g_iinc hX dX2_joins_46 (1 : Int32) (x3 + (1 : Int32)) [(3, vi (x3 + (1 : Int32))), (0, vr (some this)), (2, vi x2)] (by decide) rfl (lg_at 2 rfl) (by decide) rfl ?_
      refine g_goto hX dX2_joins_49 23 (by decide) ?_
      cases hf
      exact g_pick (show G X _ _ _ _ _ _ from K) [1, 2, 0] rfl
    · cases hf
      exact g_pick (show G X _ _ _ _ _ _ from K) [] rfl

set_option maxRecDepth 100000 in
theorem w_l_X2_joins_23 {X : Ctx} (hM : MX X yX2_joins cX2_joins 4 "SlimeNet$Plate" (some Jvm.ClassFile.FieldType.boolean) rm_X2_joins []) {this : Nat} {x2 : Int32} {x3 : Int32} {A : AH} {out : Int32} (hf : l_X2_joins_23 this x2 x3 A = some out) (hr : c_res X = r_X2_joins A out) : G X 0 0 23 [(0, vr (some this)), (2, vi x2), (3, vi x3)] [] A := by
  have hX := hM.1
  unfold l_X2_joins_23 at hf
  obtain ⟨e, hw, hf⟩ := ob_some hf
  refine (whl_ind (k_X2_joins_23 X this x2 A) (fun st o hs K => w_s_X2_joins_23 hM hs K) hw ?_ : k_X2_joins_23 X this x2 A (.inl x3))
  rcases e with ⟨⟩ | ⟨⟩
  · dsimp only at hf
    show G X 0 0 44 [] [] A
    refine g_iconst hX dX2_joins_44 (0 : Int32) (by decide) ?_
    cases hf
    exact h_zret hM dX2_joins_45 hr rfl (by decide) rfl
  · dsimp only at hf
    show G X 0 0 52 [] [] A
    refine g_iconst hX dX2_joins_52 (1 : Int32) (by decide) ?_
    cases hf
    exact h_zret hM dX2_joins_53 hr rfl (by decide) rfl

set_option maxRecDepth 100000 in
theorem w_f_X2_joins {X : Ctx} (hM : MX X yX2_joins cX2_joins 4 "SlimeNet$Plate" (some Jvm.ClassFile.FieldType.boolean) rm_X2_joins []) {this : Nat} {x1 : Int32} {A : AH} {out : Int32} (hf : f_X2_joins this x1 A = some out) (hr : c_res X = r_X2_joins A out) : G X 0 0 0 [(0, vr (some this)), (1, vi x1)] [] A := by
  have hX := hM.1
  unfold f_X2_joins at hf
  refine g_aload_n hX dX2_joins_0 (lg_at 0 rfl) ?_
  refine g_getI hX hf fs_SlimeNet_Plate_45_3 rfl dX2_joins_1 (fun v1 hf => ?_)
  refine g_if_ne hX dX2_joins_4 9 hf (by decide) (fun c4 hf => ?_) (fun c4 hf => ?_)
  · refine g_aload_n hX dX2_joins_9 (lg_at 0 rfl) ?_
    refine g_iload_n hX dX2_joins_10 (lg_at 1 rfl) ?_
    refine g_aload_n hX dX2_joins_11 (lg_at 0 rfl) ?_
    refine g_getR hX hf fs_SlimeNet_Plate_22_3 rfl dX2_joins_12 (fun v12 hf => ?_)
    refine g_iconst hX dX2_joins_15 (0 : Int32) (by decide) ?_
    refine g_iald hX hf dX2_joins_16 (fun v16 hf => ?_)
    obtain ⟨k17, hk17, hf⟩ := ob_some hf
    obtain ⟨v17, hc17, hf⟩ := ob_some hf
    refine h_callV hM [vi x1, vi v16] dX2_joins_17 cs_SlimeNet_Plate_64_3 hk17 (m_X2_joined hc17) rfl rfl rfl rfl ?_
    refine g_istore_n hX dX2_joins_20 [(2, vi v17), (0, vr (some this)), (1, vi x1)] (by decide) rfl ?_
    refine g_iconst hX dX2_joins_21 (1 : Int32) (by decide) ?_
    refine g_istore_n hX dX2_joins_22 [(3, vi (1 : Int32)), (2, vi v17), (0, vr (some this)), (1, vi x1)] (by decide) rfl ?_
    exact g_pick (w_l_X2_joins_23 hM hf hr) [2, 1, 0] rfl
  · refine g_iconst hX dX2_joins_7 (1 : Int32) (by decide) ?_
    cases hf
    exact h_zret hM dX2_joins_8 hr rfl (by decide) rfl

theorem m_X2_joins {l : Launch} {this : Nat} {x1 : Int32} {A : AH} {out : Int32} (h : f_X2_joins this x1 A = some out) : MetF l yX2_joins (Cond.code yX2_joins cX2_joins 4 (some Jvm.ClassFile.FieldType.boolean)) rm_X2_joins [vr (some this), vi x1] A (r_X2_joins A out) :=
  metF_of rfl rfl (Nat.le_of_ble_eq_true rfl) fun X hX hl hR hnm hr h1 h2 hno => w_f_X2_joins (X := X) ⟨hX, hR, h1, h2, fun _ => ⟨hnm, hno⟩⟩ h hr

/-! SlimeNet$Plate.sure(I)I -/
def rm_X2_sure : Room := { frames := 6, cells := 0, slots := 0, locals := 137 }
def r_X2_sure (A : AH) (o : Int32) : (Option AV × AH) ⊕ (Nat × AH) := .inl (some (vi o), A)
def k_X2_sure_14 (X : Ctx) (this : Nat) (x1 : Int32) (A : AH) : ((Int32 × Int32) ⊕ (Int32)) → Prop
  | .inl (x2, x3) => G X 0 0 14 [(0, vr (some this)), (1, vi x1), (2, vi x2), (3, vi x3)] [] A
  | .inr x2 => G X 0 0 62 [(2, vi x2)] [] A

set_option maxRecDepth 100000 in
theorem w_f_X2_sure_54 {X : Ctx} (hM : MX X yX2_sure cX2_sure 4 "SlimeNet$Plate" (some Jvm.ClassFile.FieldType.int) rm_X2_sure []) {this : Nat} {x1 : Int32} {x3 : Int32} {t0 : Int32} {t1 : Int32} {A : AH} {out : (Int32 × Int32) ⊕ (Int32)} (hf : f_X2_sure_54 this x1 x3 t0 t1 A = some out) (K : k_X2_sure_14 X this x1 A out) : G X 0 0 54 [(0, vr (some this)), (1, vi x1), (3, vi x3)] [vi t0, vi t1] A := by
  have hX := hM.1
  unfold f_X2_sure_54 at hf
  refine g_iadd hX dX2_sure_54 ?_
  refine g_istore_n hX dX2_sure_55 [(2, vi (t1 + t0)), (0, vr (some this)), (1, vi x1), (3, vi x3)] (by decide) rfl ?_
  refine g_iinc hX dX2_sure_56 (1 : Int32) (x3 + (1 : Int32)) [(3, vi (x3 + (1 : Int32))), (2, vi (t1 + t0)), (0, vr (some this)), (1, vi x1)] (by decide) rfl (lg_at 3 rfl) (by decide) rfl ?_
  refine g_goto hX dX2_sure_59 14 (by decide) ?_
  cases hf
  exact g_pick (show G X _ _ _ _ _ _ from K) [2, 3, 1, 0] rfl

set_option maxRecDepth 100000 in
theorem w_f_X2_sure_53 {X : Ctx} (hM : MX X yX2_sure cX2_sure 4 "SlimeNet$Plate" (some Jvm.ClassFile.FieldType.int) rm_X2_sure []) {this : Nat} {x1 : Int32} {x3 : Int32} {t0 : Int32} {A : AH} {out : (Int32 × Int32) ⊕ (Int32)} (hf : f_X2_sure_53 this x1 x3 t0 A = some out) (K : k_X2_sure_14 X this x1 A out) : G X 0 0 53 [(0, vr (some this)), (1, vi x1), (3, vi x3)] [vi t0] A := by
  have hX := hM.1
  unfold f_X2_sure_53 at hf
  refine g_iconst hX dX2_sure_53 (0 : Int32) (by decide) ?_
  exact g_pick (w_f_X2_sure_54 hM hf K) [0, 1, 2] rfl

set_option maxRecDepth 100000 in
theorem w_s_X2_sure_14 {X : Ctx} (hM : MX X yX2_sure cX2_sure 4 "SlimeNet$Plate" (some Jvm.ClassFile.FieldType.int) rm_X2_sure []) {this : Nat} {x1 : Int32} {A : AH} {st : Int32 × Int32} {out : (Int32 × Int32) ⊕ (Int32)} (hf : s_X2_sure_14 this x1 A st = some out) (K : k_X2_sure_14 X this x1 A out) : k_X2_sure_14 X this x1 A (.inl st) := by
  have hX := hM.1
  obtain ⟨x2, x3⟩ := st
  unfold s_X2_sure_14 at hf
  dsimp only at hf
  show G X 0 0 14 [(0, vr (some this)), (1, vi x1), (2, vi x2), (3, vi x3)] [] A
  refine g_iload_n hX dX2_sure_14 (lg_at 3 rfl) ?_
  refine g_aload_n hX dX2_sure_15 (lg_at 0 rfl) ?_
  refine g_getR hX hf fs_SlimeNet_Plate_18_3 rfl dX2_sure_16 (fun v16 hf => ?_)
  obtain ⟨k19, hk19, hf⟩ := ob_some hf
  obtain ⟨v19, hc19, hf⟩ := ob_some hf
  refine h_callV hM [] dX2_sure_19 cs_SlimeNet_Plate_48_8 hk19 (m_J4_size hc19) rfl rfl rfl rfl ?_
  refine g_icmp_ge hX dX2_sure_22 62 hf (by decide) (fun c22 hf => ?_) (fun c22 hf => ?_)
  · cases hf
    exact g_pick (show G X _ _ _ _ _ _ from K) [2] rfl
  · refine g_iload_n hX dX2_sure_25 (lg_at 2 rfl) ?_
    refine g_iload_n hX dX2_sure_26 (lg_at 1 rfl) ?_
    refine g_iload_n hX dX2_sure_27 (lg_at 3 rfl) ?_
    refine g_ishr hX dX2_sure_28 ?_
    refine g_iconst hX dX2_sure_29 (1 : Int32) (by decide) ?_
    refine g_iand hX dX2_sure_30 ?_
    refine g_iconst hX dX2_sure_31 (1 : Int32) (by decide) ?_
    refine g_icmp_ne hX dX2_sure_32 53 hf (by decide) (fun c32 hf => ?_) (fun c32 hf => ?_)
    · exact g_pick (w_f_X2_sure_53 hM hf K) [0, 1, 3] rfl
    · refine g_aload_n hX dX2_sure_35 (lg_at 0 rfl) ?_
      refine g_iload_n hX dX2_sure_36 (lg_at 1 rfl) ?_
      refine g_iconst hX dX2_sure_37 (1 : Int32) (by decide) ?_
      refine g_iload_n hX dX2_sure_38 (lg_at 3 rfl) ?_
      refine g_ishl hX dX2_sure_39 ?_
      refine g_iconst hX dX2_sure_40 (-1 : Int32) (by decide) ?_
      refine g_ixor hX dX2_sure_41 ?_
      refine g_iand hX dX2_sure_42 ?_
      obtain ⟨k43, hk43, hf⟩ := ob_some hf
      obtain ⟨v43, hc43, hf⟩ := ob_some hf
      refine h_callV hM [vi (x1 &&& (((1 : Int32) <<< (x3 &&& 31)) ^^^ (-1 : Int32)))] dX2_sure_43 cs_SlimeNet_Plate_71_3 hk43 (m_X2_joins hc43) rfl rfl rfl rfl ?_
      refine g_if_eq hX dX2_sure_46 53 hf (by decide) (fun c46 hf => ?_) (fun c46 hf => ?_)
      · exact g_pick (w_f_X2_sure_53 hM hf K) [0, 1, 3] rfl
      · refine g_iconst hX dX2_sure_49 (1 : Int32) (by decide) ?_
        refine g_goto hX dX2_sure_50 54 (by decide) ?_
        exact g_pick (w_f_X2_sure_54 hM hf K) [0, 1, 3] rfl

set_option maxRecDepth 100000 in
theorem w_l_X2_sure_14 {X : Ctx} (hM : MX X yX2_sure cX2_sure 4 "SlimeNet$Plate" (some Jvm.ClassFile.FieldType.int) rm_X2_sure []) {this : Nat} {x1 : Int32} {x2 : Int32} {x3 : Int32} {A : AH} {out : Int32} (hf : l_X2_sure_14 this x1 x2 x3 A = some out) (hr : c_res X = r_X2_sure A out) : G X 0 0 14 [(0, vr (some this)), (1, vi x1), (2, vi x2), (3, vi x3)] [] A := by
  have hX := hM.1
  unfold l_X2_sure_14 at hf
  obtain ⟨e, hw, hf⟩ := ob_some hf
  refine (whl_ind (k_X2_sure_14 X this x1 A) (fun st o hs K => w_s_X2_sure_14 hM hs K) hw ?_ : k_X2_sure_14 X this x1 A (.inl (x2, x3)))
  revert hf hw; generalize e = x2; intro hw hf
  dsimp only at hf
  show G X 0 0 62 [(2, vi x2)] [] A
  refine g_iload_n hX dX2_sure_62 (lg_at 0 rfl) ?_
  cases hf
  exact h_iret hM dX2_sure_63 hr rfl rfl

set_option maxRecDepth 100000 in
theorem w_f_X2_sure {X : Ctx} (hM : MX X yX2_sure cX2_sure 4 "SlimeNet$Plate" (some Jvm.ClassFile.FieldType.int) rm_X2_sure []) {this : Nat} {x1 : Int32} {A : AH} {out : Int32} (hf : f_X2_sure this x1 A = some out) (hr : c_res X = r_X2_sure A out) : G X 0 0 0 [(0, vr (some this)), (1, vi x1)] [] A := by
  have hX := hM.1
  unfold f_X2_sure at hf
  refine g_aload_n hX dX2_sure_0 (lg_at 0 rfl) ?_
  refine g_iload_n hX dX2_sure_1 (lg_at 1 rfl) ?_
  obtain ⟨k2, hk2, hf⟩ := ob_some hf
  obtain ⟨v2, hc2, hf⟩ := ob_some hf
  refine h_callV hM [vi x1] dX2_sure_2 cs_SlimeNet_Plate_71_3 hk2 (m_X2_joins hc2) rfl rfl rfl rfl ?_
  refine g_if_ne hX dX2_sure_5 10 hf (by decide) (fun c5 hf => ?_) (fun c5 hf => ?_)
  · refine g_iconst hX dX2_sure_10 (0 : Int32) (by decide) ?_
    refine g_istore_n hX dX2_sure_11 [(2, vi (0 : Int32)), (0, vr (some this)), (1, vi x1)] (by decide) rfl ?_
    refine g_iconst hX dX2_sure_12 (0 : Int32) (by decide) ?_
    refine g_istore_n hX dX2_sure_13 [(3, vi (0 : Int32)), (2, vi (0 : Int32)), (0, vr (some this)), (1, vi x1)] (by decide) rfl ?_
    exact g_pick (w_l_X2_sure_14 hM hf hr) [2, 3, 1, 0] rfl
  · refine g_iconst hX dX2_sure_8 (0 : Int32) (by decide) ?_
    cases hf
    exact h_iret hM dX2_sure_9 hr rfl rfl

theorem m_X2_sure {l : Launch} {this : Nat} {x1 : Int32} {A : AH} {out : Int32} (h : f_X2_sure this x1 A = some out) : MetF l yX2_sure (Cond.code yX2_sure cX2_sure 4 (some Jvm.ClassFile.FieldType.int)) rm_X2_sure [vr (some this), vi x1] A (r_X2_sure A out) :=
  metF_of rfl rfl (Nat.le_of_ble_eq_true rfl) fun X hX hl hR hnm hr h1 h2 hno => w_f_X2_sure (X := X) ⟨hX, hR, h1, h2, fun _ => ⟨hnm, hno⟩⟩ h hr

/-! SlimeNet$Plate.way(III)I -/
def rm_X2_way : Room := { frames := 4, cells := 0, slots := 0, locals := 88 }
def r_X2_way (_A : AH) (o : Int32 × AH) : (Option AV × AH) ⊕ (Nat × AH) := .inl (some (vi o.1), o.2)
def k_X2_way_20 (X : Ctx) (this : Nat) (x1 : Int32) (x3 : Int32) : ((Int32 × AH) ⊕ (AH)) → Prop
  | .inl (x4, A) => G X 0 0 20 [(0, vr (some this)), (1, vi x1), (3, vi x3), (4, vi x4)] [] A
  | .inr A => G X 0 0 160 [(0, vr (some this)), (3, vi x3)] [] A

def k_X2_way_32 (X : Ctx) (this : Nat) (x1 : Int32) (x3 : Int32) (x4 : Int32) : ((Int32 × AH) ⊕ (AH)) → Prop
  | .inl (x5, A) => G X 0 0 32 [(0, vr (some this)), (1, vi x1), (3, vi x3), (4, vi x4), (5, vi x5)] [] A
  | .inr A => G X 0 0 154 [(0, vr (some this)), (1, vi x1), (3, vi x3), (4, vi x4)] [] A

set_option maxRecDepth 100000 in
theorem w_f_X2_way_148 {X : Ctx} (hM : MX X yX2_way cX2_way 7 "SlimeNet$Plate" (some Jvm.ClassFile.FieldType.int) rm_X2_way []) {this : Nat} {x1 : Int32} {x3 : Int32} {x4 : Int32} {x5 : Int32} {A : AH} {out : (Int32 × AH) ⊕ (AH)} (hf : f_X2_way_148 this x1 x3 x4 x5 A = some out) (K : k_X2_way_32 X this x1 x3 x4 out) : G X 0 0 148 [(0, vr (some this)), (1, vi x1), (3, vi x3), (4, vi x4), (5, vi x5)] [] A := by
  have hX := hM.1
  unfold f_X2_way_148 at hf
  refine g_iinc hX dX2_way_148 (1 : Int32) (x5 + (1 : Int32)) [(5, vi (x5 + (1 : Int32))), (0, vr (some this)), (1, vi x1), (3, vi x3), (4, vi x4)] (by decide) rfl (lg_at 4 rfl) (by decide) rfl ?_
  refine g_goto hX dX2_way_151 32 (by decide) ?_
  cases hf
  exact g_pick (show G X _ _ _ _ _ _ from K) [1, 2, 3, 4, 0] rfl

set_option maxRecDepth 100000 in
theorem w_s_X2_way_32 {X : Ctx} (hM : MX X yX2_way cX2_way 7 "SlimeNet$Plate" (some Jvm.ClassFile.FieldType.int) rm_X2_way []) {this : Nat} {x1 : Int32} {x3 : Int32} {x4 : Int32} {st : Int32 × AH} {out : (Int32 × AH) ⊕ (AH)} (hf : s_X2_way_32 this x1 x3 x4 st = some out) (K : k_X2_way_32 X this x1 x3 x4 out) : k_X2_way_32 X this x1 x3 x4 (.inl st) := by
  have hX := hM.1
  obtain ⟨x5, A⟩ := st
  unfold s_X2_way_32 at hf
  dsimp only at hf
  show G X 0 0 32 [(0, vr (some this)), (1, vi x1), (3, vi x3), (4, vi x4), (5, vi x5)] [] A
  refine g_iload hX dX2_way_32 (lg_at 4 rfl) ?_
  refine g_aload_n hX dX2_way_34 (lg_at 0 rfl) ?_
  refine g_getR hX hf fs_SlimeNet_Plate_18_3 rfl dX2_way_35 (fun v35 hf => ?_)
  obtain ⟨k38, hk38, hf⟩ := ob_some hf
  obtain ⟨v38, hc38, hf⟩ := ob_some hf
  refine h_callV hM [] dX2_way_38 cs_SlimeNet_Plate_48_8 hk38 (m_J4_size hc38) rfl rfl rfl rfl ?_
  refine g_icmp_ge hX dX2_way_41 154 hf (by decide) (fun c41 hf => ?_) (fun c41 hf => ?_)
  · cases hf
    exact g_pick (show G X _ _ _ _ _ _ from K) [0, 1, 2, 3] rfl
  · refine g_aload_n hX dX2_way_44 (lg_at 0 rfl) ?_
    refine g_getR hX hf fs_SlimeNet_Plate_18_3 rfl dX2_way_45 (fun v45 hf => ?_)
    refine g_iload hX dX2_way_48 (lg_at 4 rfl) ?_
    obtain ⟨k50, hk50, hf⟩ := ob_some hf
    obtain ⟨v50, hc50, hf⟩ := ob_some hf
    refine h_callV hM [vi x5] dX2_way_50 cs_SlimeNet_Plate_52_8 hk50 (m_J4_get hc50) rfl rfl rfl rfl ?_
    refine g_castC hX (by decide) rfl (lw_LW q624) hf dX2_way_53 (fun hf => ?_)
    refine g_astore hX dX2_way_56 [(6, vr v50), (0, vr (some this)), (1, vi x1), (3, vi x3), (4, vi x4), (5, vi x5)] (by decide) rfl ?_
    refine g_iload_n hX dX2_way_58 (lg_at 2 rfl) ?_
    refine g_iload hX dX2_way_59 (lg_at 5 rfl) ?_
    refine g_ishr hX dX2_way_61 ?_
    refine g_iconst hX dX2_way_62 (1 : Int32) (by decide) ?_
    refine g_iand hX dX2_way_63 ?_
    refine g_if_ne hX dX2_way_64 70 hf (by decide) (fun c64 hf => ?_) (fun c64 hf => ?_)
    · refine g_aload_n hX dX2_way_70 (lg_at 1 rfl) ?_
      refine g_getR hX hf fs_SlimeNet_Plate_26_3 rfl dX2_way_71 (fun v71 hf => ?_)
      refine g_aload hX dX2_way_74 (lg_at 0 rfl) ?_
      refine g_getI hX hf fs_SlimeNet_Plate_61_7 rfl dX2_way_76 (fun v76 hf => ?_)
      refine g_aload_n hX dX2_way_79 (lg_at 1 rfl) ?_
      refine g_getR hX hf fs_SlimeNet_Plate_26_3 rfl dX2_way_80 (fun v80 hf => ?_)
      refine g_aload hX dX2_way_83 (lg_at 0 rfl) ?_
      refine g_getI hX hf fs_SlimeNet_Plate_61_7 rfl dX2_way_85 (fun v85 hf => ?_)
      refine g_iald hX hf dX2_way_88 (fun v88 hf => ?_)
      refine g_aload_n hX dX2_way_89 (lg_at 1 rfl) ?_
      refine g_getR hX hf fs_SlimeNet_Plate_26_3 rfl dX2_way_90 (fun v90 hf => ?_)
      refine g_aload hX dX2_way_93 (lg_at 0 rfl) ?_
      refine g_getI hX hf fs_SlimeNet_Plate_58_7 rfl dX2_way_95 (fun v95 hf => ?_)
      refine g_iald hX hf dX2_way_98 (fun v98 hf => ?_)
      refine g_aload hX dX2_way_99 (lg_at 0 rfl) ?_
      refine g_getI hX hf fs_SlimeNet_Plate_68_7 rfl dX2_way_101 (fun v101 hf => ?_)
      refine g_iadd hX dX2_way_104 ?_
      refine g_mmin hM dX2_way_105 (lw_LW q961) (lw_LW q717) (lw_LW q80) (lw_LW q718) rfl rfl ?_
      refine g_iast hX hf dX2_way_108 (fun A108 hf => ?_)
      refine g_aload_n hX dX2_way_109 (lg_at 1 rfl) ?_
      refine g_getR hX hf fs_SlimeNet_Plate_26_3 rfl dX2_way_110 (fun v110 hf => ?_)
      refine g_aload hX dX2_way_113 (lg_at 0 rfl) ?_
      refine g_getI hX hf fs_SlimeNet_Plate_58_7 rfl dX2_way_115 (fun v115 hf => ?_)
      refine g_aload_n hX dX2_way_118 (lg_at 1 rfl) ?_
      refine g_getR hX hf fs_SlimeNet_Plate_26_3 rfl dX2_way_119 (fun v119 hf => ?_)
      refine g_aload hX dX2_way_122 (lg_at 0 rfl) ?_
      refine g_getI hX hf fs_SlimeNet_Plate_58_7 rfl dX2_way_124 (fun v124 hf => ?_)
      refine g_iald hX hf dX2_way_127 (fun v127 hf => ?_)
      refine g_aload_n hX dX2_way_128 (lg_at 1 rfl) ?_
      refine g_getR hX hf fs_SlimeNet_Plate_26_3 rfl dX2_way_129 (fun v129 hf => ?_)
      refine g_aload hX dX2_way_132 (lg_at 0 rfl) ?_
      refine g_getI hX hf fs_SlimeNet_Plate_61_7 rfl dX2_way_134 (fun v134 hf => ?_)
      refine g_iald hX hf dX2_way_137 (fun v137 hf => ?_)
      refine g_aload hX dX2_way_138 (lg_at 0 rfl) ?_
      refine g_getI hX hf fs_SlimeNet_Plate_68_7 rfl dX2_way_140 (fun v140 hf => ?_)
      refine g_iadd hX dX2_way_143 ?_
      refine g_mmin hM dX2_way_144 (lw_LW q961) (lw_LW q717) (lw_LW q80) (lw_LW q718) rfl rfl ?_
      refine g_iast hX hf dX2_way_147 (fun A147 hf => ?_)
      exact g_pick (w_f_X2_way_148 hM hf K) [1, 2, 3, 4, 5] rfl
    · refine g_goto hX dX2_way_67 148 (by decide) ?_
      exact g_pick (w_f_X2_way_148 hM hf K) [1, 2, 3, 4, 5] rfl

set_option maxRecDepth 100000 in
theorem w_l_X2_way_32 {X : Ctx} (hM : MX X yX2_way cX2_way 7 "SlimeNet$Plate" (some Jvm.ClassFile.FieldType.int) rm_X2_way []) {this : Nat} {x1 : Int32} {x3 : Int32} {x4 : Int32} {x5 : Int32} {A : AH} {out : (Int32 × AH) ⊕ (AH)} (hf : l_X2_way_32 this x1 x3 x4 x5 A = some out) (K : k_X2_way_20 X this x1 x3 out) : G X 0 0 32 [(0, vr (some this)), (1, vi x1), (3, vi x3), (4, vi x4), (5, vi x5)] [] A := by
  have hX := hM.1
  unfold l_X2_way_32 at hf
  obtain ⟨e, hw, hf⟩ := ob_some hf
  refine (whl_ind (k_X2_way_32 X this x1 x3 x4) (fun st o hs K => w_s_X2_way_32 hM hs K) hw ?_ : k_X2_way_32 X this x1 x3 x4 (.inl (x5, A)))
  revert hf hw; generalize e = A; intro hw hf
  dsimp only at hf
  show G X 0 0 154 [(0, vr (some this)), (1, vi x1), (3, vi x3), (4, vi x4)] [] A
  refine g_iinc hX dX2_way_154 (1 : Int32) (x4 + (1 : Int32)) [(4, vi (x4 + (1 : Int32))), (0, vr (some this)), (1, vi x1), (3, vi x3)] (by decide) rfl (lg_at 3 rfl) (by decide) rfl ?_
  refine g_goto hX dX2_way_157 20 (by decide) ?_
  cases hf
  exact g_pick (show G X _ _ _ _ _ _ from K) [1, 2, 3, 0] rfl

set_option maxRecDepth 100000 in
theorem w_s_X2_way_20 {X : Ctx} (hM : MX X yX2_way cX2_way 7 "SlimeNet$Plate" (some Jvm.ClassFile.FieldType.int) rm_X2_way []) {this : Nat} {x1 : Int32} {x3 : Int32} {st : Int32 × AH} {out : (Int32 × AH) ⊕ (AH)} (hf : s_X2_way_20 this x1 x3 st = some out) (K : k_X2_way_20 X this x1 x3 out) : k_X2_way_20 X this x1 x3 (.inl st) := by
  have hX := hM.1
  obtain ⟨x4, A⟩ := st
  unfold s_X2_way_20 at hf
  dsimp only at hf
  show G X 0 0 20 [(0, vr (some this)), (1, vi x1), (3, vi x3), (4, vi x4)] [] A
  refine g_iload hX dX2_way_20 (lg_at 3 rfl) ?_
  refine g_aload_n hX dX2_way_22 (lg_at 0 rfl) ?_
  refine g_getI hX hf fs_SlimeNet_Plate_42_3 rfl dX2_way_23 (fun v23 hf => ?_)
  refine g_icmp_ge hX dX2_way_26 160 hf (by decide) (fun c26 hf => ?_) (fun c26 hf => ?_)
  · cases hf
    exact g_pick (show G X _ _ _ _ _ _ from K) [0, 2] rfl
  · refine g_iconst hX dX2_way_29 (0 : Int32) (by decide) ?_
    refine g_istore hX dX2_way_30 [(5, vi (0 : Int32)), (0, vr (some this)), (1, vi x1), (3, vi x3), (4, vi x4)] (by decide) rfl ?_
    exact g_pick (w_l_X2_way_32 hM hf K) [1, 2, 3, 4, 0] rfl

set_option maxRecDepth 100000 in
theorem w_l_X2_way_20 {X : Ctx} (hM : MX X yX2_way cX2_way 7 "SlimeNet$Plate" (some Jvm.ClassFile.FieldType.int) rm_X2_way []) {this : Nat} {x1 : Int32} {x3 : Int32} {x4 : Int32} {A : AH} {out : Int32 × AH} (hf : l_X2_way_20 this x1 x3 x4 A = some out) (hr : c_res X = r_X2_way A out) : G X 0 0 20 [(0, vr (some this)), (1, vi x1), (3, vi x3), (4, vi x4)] [] A := by
  have hX := hM.1
  unfold l_X2_way_20 at hf
  obtain ⟨e, hw, hf⟩ := ob_some hf
  refine (whl_ind (k_X2_way_20 X this x1 x3) (fun st o hs K => w_s_X2_way_20 hM hs K) hw ?_ : k_X2_way_20 X this x1 x3 (.inl (x4, A)))
  revert hf hw; generalize e = A; intro hw hf
  dsimp only at hf
  show G X 0 0 160 [(0, vr (some this)), (3, vi x3)] [] A
  refine g_aload_n hX dX2_way_160 (lg_at 0 rfl) ?_
  refine g_getR hX hf fs_SlimeNet_Plate_26_3 rfl dX2_way_161 (fun v161 hf => ?_)
  refine g_iload_n hX dX2_way_164 (lg_at 1 rfl) ?_
  refine g_iald hX hf dX2_way_165 (fun v165 hf => ?_)
  cases hf
  exact h_iret hM dX2_way_166 hr rfl rfl

set_option maxRecDepth 100000 in
theorem w_f_X2_way {X : Ctx} (hM : MX X yX2_way cX2_way 7 "SlimeNet$Plate" (some Jvm.ClassFile.FieldType.int) rm_X2_way []) {this : Nat} {x1 : Int32} {x2 : Int32} {x3 : Int32} {A : AH} {out : Int32 × AH} (hf : f_X2_way this x1 x2 x3 A = some out) (hr : c_res X = r_X2_way A out) : G X 0 0 0 [(0, vr (some this)), (1, vi x1), (2, vi x2), (3, vi x3)] [] A := by
  have hX := hM.1
  unfold f_X2_way at hf
  refine g_aload_n hX dX2_way_0 (lg_at 0 rfl) ?_
  refine g_getR hX hf fs_SlimeNet_Plate_26_3 rfl dX2_way_1 (fun v1 hf => ?_)
  refine g_sipush hX dX2_way_4 (1000 : Int32) (by decide) ?_
  obtain ⟨A7, hc7, hf⟩ := ob_some hf
  refine h_callS hM [vr v1, vi (1000 : Int32)] dX2_way_7 cs_SlimeNet_Plate_75_s (m_J12_fill_3 hc7) rfl rfl rfl rfl ?_
  refine g_aload_n hX dX2_way_10 (lg_at 0 rfl) ?_
  refine g_getR hX hf fs_SlimeNet_Plate_26_3 rfl dX2_way_11 (fun v11 hf => ?_)
  refine g_iload_n hX dX2_way_14 (lg_at 2 rfl) ?_
  refine g_iconst hX dX2_way_15 (0 : Int32) (by decide) ?_
  refine g_iast hX hf dX2_way_16 (fun A16 hf => ?_)
  refine g_iconst hX dX2_way_17 (0 : Int32) (by decide) ?_
  refine g_istore hX dX2_way_18 [(4, vi (0 : Int32)), (0, vr (some this)), (1, vi x1), (2, vi x2), (3, vi x3)] (by decide) rfl ?_
  exact g_pick (w_l_X2_way_20 hM hf hr) [1, 2, 4, 0] rfl

theorem m_X2_way {l : Launch} {this : Nat} {x1 : Int32} {x2 : Int32} {x3 : Int32} {A : AH} {out : Int32 × AH} (h : f_X2_way this x1 x2 x3 A = some out) : MetF l yX2_way (Cond.code yX2_way cX2_way 7 (some Jvm.ClassFile.FieldType.int)) rm_X2_way [vr (some this), vi x1, vi x2, vi x3] A (r_X2_way A out) :=
  metF_of rfl rfl (Nat.le_of_ble_eq_true rfl) fun X hX hl hR hnm hr h1 h2 hno => w_f_X2_way (X := X) ⟨hX, hR, h1, h2, fun _ => ⟨hnm, hno⟩⟩ h hr

/-! SlimeNet$Plate.ways(I)I -/
def rm_X2_ways : Room := { frames := 5, cells := 0, slots := 0, locals := 114 }
def r_X2_ways (_A : AH) (o : Int32 × AH) : (Option AV × AH) ⊕ (Nat × AH) := .inl (some (vi o.1), o.2)
def k_X2_ways_4 (X : Ctx) (this : Nat) (x1 : Int32) : ((Int32 × Int32 × AH) ⊕ (Int32 × AH)) → Prop
  | .inl (x2, x3, A) => G X 0 0 4 [(0, vr (some this)), (1, vi x1), (2, vi x2), (3, vi x3)] [] A
  | .inr (x2, A) => G X 0 0 59 [(2, vi x2)] [] A

def k_X2_ways_17 (X : Ctx) (this : Nat) (x1 : Int32) (x3 : Int32) : ((Int32 × Int32 × AH) ⊕ (Int32 × AH)) → Prop
  | .inl (x2, x4, A) => G X 0 0 17 [(0, vr (some this)), (1, vi x1), (2, vi x2), (3, vi x3), (4, vi x4)] [] A
  | .inr (x2, A) => G X 0 0 53 [(0, vr (some this)), (1, vi x1), (2, vi x2), (3, vi x3)] [] A

set_option maxRecDepth 100000 in
theorem w_s_X2_ways_17 {X : Ctx} (hM : MX X yX2_ways cX2_ways 5 "SlimeNet$Plate" (some Jvm.ClassFile.FieldType.int) rm_X2_ways []) {this : Nat} {x1 : Int32} {x3 : Int32} {st : Int32 × Int32 × AH} {out : (Int32 × Int32 × AH) ⊕ (Int32 × AH)} (hf : s_X2_ways_17 this x1 x3 st = some out) (K : k_X2_ways_17 X this x1 x3 out) : k_X2_ways_17 X this x1 x3 (.inl st) := by
  have hX := hM.1
  obtain ⟨x2, x4, A⟩ := st
  unfold s_X2_ways_17 at hf
  dsimp only at hf
  show G X 0 0 17 [(0, vr (some this)), (1, vi x1), (2, vi x2), (3, vi x3), (4, vi x4)] [] A
  refine g_iload hX dX2_ways_17 (lg_at 4 rfl) ?_
  refine g_aload_n hX dX2_ways_19 (lg_at 0 rfl) ?_
  refine g_getI hX hf fs_SlimeNet_Plate_45_3 rfl dX2_ways_20 (fun v20 hf => ?_)
  refine g_icmp_ge hX dX2_ways_23 53 hf (by decide) (fun c23 hf => ?_) (fun c23 hf => ?_)
  · cases hf
    exact g_pick (show G X _ _ _ _ _ _ from K) [0, 1, 2, 3] rfl
  · refine g_iload_n hX dX2_ways_26 (lg_at 2 rfl) ?_
    refine g_aload_n hX dX2_ways_27 (lg_at 0 rfl) ?_
    refine g_iload_n hX dX2_ways_28 (lg_at 1 rfl) ?_
    refine g_aload_n hX dX2_ways_29 (lg_at 0 rfl) ?_
    refine g_getR hX hf fs_SlimeNet_Plate_22_3 rfl dX2_ways_30 (fun v30 hf => ?_)
    refine g_iload_n hX dX2_ways_33 (lg_at 3 rfl) ?_
    refine g_iald hX hf dX2_ways_34 (fun v34 hf => ?_)
    refine g_aload_n hX dX2_ways_35 (lg_at 0 rfl) ?_
    refine g_getR hX hf fs_SlimeNet_Plate_22_3 rfl dX2_ways_36 (fun v36 hf => ?_)
    refine g_iload hX dX2_ways_39 (lg_at 4 rfl) ?_
    refine g_iald hX hf dX2_ways_41 (fun v41 hf => ?_)
    obtain ⟨k42, hk42, hf⟩ := ob_some hf
    obtain ⟨⟨v42, A42⟩, hc42, hf⟩ := ob_some hf
    refine h_callV hM [vi x1, vi v34, vi v41] dX2_ways_42 cs_SlimeNet_Plate_86_3 hk42 (m_X2_way hc42) rfl rfl rfl rfl ?_
    dsimp only at hf
    refine g_iadd hX dX2_ways_45 ?_
    refine g_istore_n hX dX2_ways_46 [(2, vi (x2 + v42)), (0, vr (some this)), (1, vi x1), (3, vi x3), (4, vi x4)] (by decide) rfl ?_
    refine g_iinc hX dX2_ways_47 (1 : Int32) (x4 + (1 : Int32)) [(4, vi (x4 + (1 : Int32))), (2, vi (x2 + v42)), (0, vr (some this)), (1, vi x1), (3, vi x3)] (by decide) rfl (lg_at 4 rfl) (by decide) rfl ?_
    refine g_goto hX dX2_ways_50 17 (by decide) ?_
    cases hf
    exact g_pick (show G X _ _ _ _ _ _ from K) [2, 3, 1, 4, 0] rfl

set_option maxRecDepth 100000 in
theorem w_l_X2_ways_17 {X : Ctx} (hM : MX X yX2_ways cX2_ways 5 "SlimeNet$Plate" (some Jvm.ClassFile.FieldType.int) rm_X2_ways []) {this : Nat} {x1 : Int32} {x3 : Int32} {x2 : Int32} {x4 : Int32} {A : AH} {out : (Int32 × Int32 × AH) ⊕ (Int32 × AH)} (hf : l_X2_ways_17 this x1 x3 x2 x4 A = some out) (K : k_X2_ways_4 X this x1 out) : G X 0 0 17 [(0, vr (some this)), (1, vi x1), (2, vi x2), (3, vi x3), (4, vi x4)] [] A := by
  have hX := hM.1
  unfold l_X2_ways_17 at hf
  obtain ⟨e, hw, hf⟩ := ob_some hf
  refine (whl_ind (k_X2_ways_17 X this x1 x3) (fun st o hs K => w_s_X2_ways_17 hM hs K) hw ?_ : k_X2_ways_17 X this x1 x3 (.inl (x2, x4, A)))
  obtain ⟨x2, A⟩ := e
  dsimp only at hf
  show G X 0 0 53 [(0, vr (some this)), (1, vi x1), (2, vi x2), (3, vi x3)] [] A
  refine g_iinc hX dX2_ways_53 (1 : Int32) (x3 + (1 : Int32)) [(3, vi (x3 + (1 : Int32))), (0, vr (some this)), (1, vi x1), (2, vi x2)] (by decide) rfl (lg_at 3 rfl) (by decide) rfl ?_
  refine g_goto hX dX2_ways_56 4 (by decide) ?_
  cases hf
  exact g_pick (show G X _ _ _ _ _ _ from K) [1, 2, 3, 0] rfl

set_option maxRecDepth 100000 in
theorem w_s_X2_ways_4 {X : Ctx} (hM : MX X yX2_ways cX2_ways 5 "SlimeNet$Plate" (some Jvm.ClassFile.FieldType.int) rm_X2_ways []) {this : Nat} {x1 : Int32} {st : Int32 × Int32 × AH} {out : (Int32 × Int32 × AH) ⊕ (Int32 × AH)} (hf : s_X2_ways_4 this x1 st = some out) (K : k_X2_ways_4 X this x1 out) : k_X2_ways_4 X this x1 (.inl st) := by
  have hX := hM.1
  obtain ⟨x2, x3, A⟩ := st
  unfold s_X2_ways_4 at hf
  dsimp only at hf
  show G X 0 0 4 [(0, vr (some this)), (1, vi x1), (2, vi x2), (3, vi x3)] [] A
  refine g_iload_n hX dX2_ways_4 (lg_at 3 rfl) ?_
  refine g_aload_n hX dX2_ways_5 (lg_at 0 rfl) ?_
  refine g_getI hX hf fs_SlimeNet_Plate_45_3 rfl dX2_ways_6 (fun v6 hf => ?_)
  refine g_icmp_ge hX dX2_ways_9 59 hf (by decide) (fun c9 hf => ?_) (fun c9 hf => ?_)
  · cases hf
    exact g_pick (show G X _ _ _ _ _ _ from K) [2] rfl
  · refine g_iload_n hX dX2_ways_12 (lg_at 3 rfl) ?_
    refine g_iconst hX dX2_ways_13 (1 : Int32) (by decide) ?_
    refine g_iadd hX dX2_ways_14 ?_
    refine g_istore hX dX2_ways_15 [(4, vi (x3 + (1 : Int32))), (0, vr (some this)), (1, vi x1), (2, vi x2), (3, vi x3)] (by decide) rfl ?_
    exact g_pick (w_l_X2_ways_17 hM hf K) [1, 2, 3, 4, 0] rfl

set_option maxRecDepth 100000 in
theorem w_l_X2_ways_4 {X : Ctx} (hM : MX X yX2_ways cX2_ways 5 "SlimeNet$Plate" (some Jvm.ClassFile.FieldType.int) rm_X2_ways []) {this : Nat} {x1 : Int32} {x2 : Int32} {x3 : Int32} {A : AH} {out : Int32 × AH} (hf : l_X2_ways_4 this x1 x2 x3 A = some out) (hr : c_res X = r_X2_ways A out) : G X 0 0 4 [(0, vr (some this)), (1, vi x1), (2, vi x2), (3, vi x3)] [] A := by
  have hX := hM.1
  unfold l_X2_ways_4 at hf
  obtain ⟨e, hw, hf⟩ := ob_some hf
  refine (whl_ind (k_X2_ways_4 X this x1) (fun st o hs K => w_s_X2_ways_4 hM hs K) hw ?_ : k_X2_ways_4 X this x1 (.inl (x2, x3, A)))
  obtain ⟨x2, A⟩ := e
  dsimp only at hf
  show G X 0 0 59 [(2, vi x2)] [] A
  refine g_iload_n hX dX2_ways_59 (lg_at 0 rfl) ?_
  cases hf
  exact h_iret hM dX2_ways_60 hr rfl rfl

set_option maxRecDepth 100000 in
theorem w_f_X2_ways {X : Ctx} (hM : MX X yX2_ways cX2_ways 5 "SlimeNet$Plate" (some Jvm.ClassFile.FieldType.int) rm_X2_ways []) {this : Nat} {x1 : Int32} {A : AH} {out : Int32 × AH} (hf : f_X2_ways this x1 A = some out) (hr : c_res X = r_X2_ways A out) : G X 0 0 0 [(0, vr (some this)), (1, vi x1)] [] A := by
  have hX := hM.1
  unfold f_X2_ways at hf
  refine g_iconst hX dX2_ways_0 (0 : Int32) (by decide) ?_
  refine g_istore_n hX dX2_ways_1 [(2, vi (0 : Int32)), (0, vr (some this)), (1, vi x1)] (by decide) rfl ?_
  refine g_iconst hX dX2_ways_2 (0 : Int32) (by decide) ?_
  refine g_istore_n hX dX2_ways_3 [(3, vi (0 : Int32)), (2, vi (0 : Int32)), (0, vr (some this)), (1, vi x1)] (by decide) rfl ?_
  exact g_pick (w_l_X2_ways_4 hM hf hr) [2, 3, 1, 0] rfl

theorem m_X2_ways {l : Launch} {this : Nat} {x1 : Int32} {A : AH} {out : Int32 × AH} (h : f_X2_ways this x1 A = some out) : MetF l yX2_ways (Cond.code yX2_ways cX2_ways 5 (some Jvm.ClassFile.FieldType.int)) rm_X2_ways [vr (some this), vi x1] A (r_X2_ways A out) :=
  metF_of rfl rfl (Nat.le_of_ble_eq_true rfl) fun X hX hl hR hnm hr h1 h2 hno => w_f_X2_ways (X := X) ⟨hX, hR, h1, h2, fun _ => ⟨hnm, hno⟩⟩ h hr

/-! SlimeNet.isGood(I)Z -/
def rm_X0_isGood : Room := { frames := 1, cells := 0, slots := 0, locals := 24 }
def r_X0_isGood (A : AH) (o : Int32) : (Option AV × AH) ⊕ (Nat × AH) := .inl (some (vi o), A)
def k_X0_isGood_2 (X : Ctx) (this : Nat) (x1 : Int32) (A : AH) : ((Int32) ⊕ ((Unit) ⊕ (Unit))) → Prop
  | .inl x2 => G X 0 0 2 [(0, vr (some this)), (1, vi x1), (2, vi x2)] [] A
  | .inr (.inl ()) => G X 0 0 88 [] [] A
  | .inr (.inr ()) => G X 0 0 96 [] [] A

set_option maxRecDepth 100000 in
theorem w_f_X0_isGood_90 {X : Ctx} (hM : MX X yX0_isGood cX0_isGood 3 "SlimeNet" (some Jvm.ClassFile.FieldType.boolean) rm_X0_isGood []) {this : Nat} {x1 : Int32} {x2 : Int32} {A : AH} {out : (Int32) ⊕ ((Unit) ⊕ (Unit))} (hf : f_X0_isGood_90 this x1 x2 A = some out) (K : k_X0_isGood_2 X this x1 A out) : G X 0 0 90 [(0, vr (some this)), (1, vi x1), (2, vi x2)] [] A := by
  have hX := hM.1
  unfold f_X0_isGood_90 at hf
  refine g_iinc hX dX0_isGood_90 (1 : Int32) (x2 + (1 : Int32)) [(2, vi (x2 + (1 : Int32))), (0, vr (some this)), (1, vi x1)] (by decide) rfl (lg_at 2 rfl) (by decide) rfl ?_
  refine g_goto hX dX0_isGood_93 2 (by decide) ?_
  cases hf
  exact g_pick (show G X _ _ _ _ _ _ from K) [1, 2, 0] rfl

set_option maxRecDepth 100000 in
theorem w_f_X0_isGood_88 {X : Ctx} (hM : MX X yX0_isGood cX0_isGood 3 "SlimeNet" (some Jvm.ClassFile.FieldType.boolean) rm_X0_isGood []) {A : AH} {out : Int32} (hf : f_X0_isGood_88 A = some out) (hr : c_res X = r_X0_isGood A out) : G X 0 0 88 [] [] A := by
  have hX := hM.1
  unfold f_X0_isGood_88 at hf
  refine g_iconst hX dX0_isGood_88 (0 : Int32) (by decide) ?_
  cases hf
  exact h_zret hM dX0_isGood_89 hr rfl (by decide) rfl

set_option maxRecDepth 100000 in
theorem w_s_X0_isGood_2 {X : Ctx} (hM : MX X yX0_isGood cX0_isGood 3 "SlimeNet" (some Jvm.ClassFile.FieldType.boolean) rm_X0_isGood []) {this : Nat} {x1 : Int32} {A : AH} {st : Int32} {out : (Int32) ⊕ ((Unit) ⊕ (Unit))} (hf : s_X0_isGood_2 this x1 A st = some out) (K : k_X0_isGood_2 X this x1 A out) : k_X0_isGood_2 X this x1 A (.inl st) := by
  have hX := hM.1
  revert hf; generalize st = x2; intro hf
  unfold s_X0_isGood_2 at hf
  dsimp only at hf
  show G X 0 0 2 [(0, vr (some this)), (1, vi x1), (2, vi x2)] [] A
  refine g_iload_n hX dX0_isGood_2 (lg_at 2 rfl) ?_
  refine g_aload_n hX dX0_isGood_3 (lg_at 0 rfl) ?_
  refine g_getI hX hf fs_SlimeNet_276_1 rfl dX0_isGood_4 (fun v4 hf => ?_)
  refine g_icmp_ge hX dX0_isGood_7 96 hf (by decide) (fun c7 hf => ?_) (fun c7 hf => ?_)
  · cases hf
    exact g_pick (show G X _ _ _ _ _ _ from K) [] rfl
  · refine g_aload_n hX dX0_isGood_10 (lg_at 0 rfl) ?_
    refine g_getR hX hf fs_SlimeNet_56_1 rfl dX0_isGood_11 (fun v11 hf => ?_)
    refine g_iload_n hX dX0_isGood_14 (lg_at 2 rfl) ?_
    refine g_iald hX hf dX0_isGood_15 (fun v15 hf => ?_)
    refine g_iconst hX dX0_isGood_16 (-1 : Int32) (by decide) ?_
    refine g_icmp_eq hX dX0_isGood_17 90 hf (by decide) (fun c17 hf => ?_) (fun c17 hf => ?_)
    · exact g_pick (w_f_X0_isGood_90 hM hf K) [0, 1, 2] rfl
    · refine g_aload_n hX dX0_isGood_20 (lg_at 0 rfl) ?_
      refine g_getR hX hf fs_SlimeNet_56_1 rfl dX0_isGood_21 (fun v21 hf => ?_)
      refine g_iload_n hX dX0_isGood_24 (lg_at 2 rfl) ?_
      refine g_iald hX hf dX0_isGood_25 (fun v25 hf => ?_)
      refine g_aload_n hX dX0_isGood_26 (lg_at 0 rfl) ?_
      refine g_getR hX hf fs_SlimeNet_56_1 rfl dX0_isGood_27 (fun v27 hf => ?_)
      refine g_iload_n hX dX0_isGood_30 (lg_at 1 rfl) ?_
      refine g_iald hX hf dX0_isGood_31 (fun v31 hf => ?_)
      refine g_icmp_gt hX dX0_isGood_32 90 hf (by decide) (fun c32 hf => ?_) (fun c32 hf => ?_)
      · exact g_pick (w_f_X0_isGood_90 hM hf K) [0, 1, 2] rfl
      · refine g_aload_n hX dX0_isGood_35 (lg_at 0 rfl) ?_
        refine g_getR hX hf fs_SlimeNet_59_1 rfl dX0_isGood_36 (fun v36 hf => ?_)
        refine g_iload_n hX dX0_isGood_39 (lg_at 2 rfl) ?_
        refine g_iald hX hf dX0_isGood_40 (fun v40 hf => ?_)
        refine g_aload_n hX dX0_isGood_41 (lg_at 0 rfl) ?_
        refine g_getR hX hf fs_SlimeNet_59_1 rfl dX0_isGood_42 (fun v42 hf => ?_)
        refine g_iload_n hX dX0_isGood_45 (lg_at 1 rfl) ?_
        refine g_iald hX hf dX0_isGood_46 (fun v46 hf => ?_)
        refine g_icmp_ge hX dX0_isGood_47 53 hf (by decide) (fun c47 hf => ?_) (fun c47 hf => ?_)
        · refine g_aload_n hX dX0_isGood_53 (lg_at 0 rfl) ?_
          refine g_getR hX hf fs_SlimeNet_56_1 rfl dX0_isGood_54 (fun v54 hf => ?_)
          refine g_iload_n hX dX0_isGood_57 (lg_at 2 rfl) ?_
          refine g_iald hX hf dX0_isGood_58 (fun v58 hf => ?_)
          refine g_aload_n hX dX0_isGood_59 (lg_at 0 rfl) ?_
          refine g_getR hX hf fs_SlimeNet_56_1 rfl dX0_isGood_60 (fun v60 hf => ?_)
          refine g_iload_n hX dX0_isGood_63 (lg_at 1 rfl) ?_
          refine g_iald hX hf dX0_isGood_64 (fun v64 hf => ?_)
          refine g_icmp_lt hX dX0_isGood_65 88 hf (by decide) (fun c65 hf => ?_) (fun c65 hf => ?_)
          · cases hf
            exact g_pick (show G X _ _ _ _ _ _ from K) [] rfl
          · refine g_aload_n hX dX0_isGood_68 (lg_at 0 rfl) ?_
            refine g_getR hX hf fs_SlimeNet_59_1 rfl dX0_isGood_69 (fun v69 hf => ?_)
            refine g_iload_n hX dX0_isGood_72 (lg_at 2 rfl) ?_
            refine g_iald hX hf dX0_isGood_73 (fun v73 hf => ?_)
            refine g_aload_n hX dX0_isGood_74 (lg_at 0 rfl) ?_
            refine g_getR hX hf fs_SlimeNet_59_1 rfl dX0_isGood_75 (fun v75 hf => ?_)
            refine g_iload_n hX dX0_isGood_78 (lg_at 1 rfl) ?_
            refine g_iald hX hf dX0_isGood_79 (fun v79 hf => ?_)
            refine g_icmp_gt hX dX0_isGood_80 88 hf (by decide) (fun c80 hf => ?_) (fun c80 hf => ?_)
            · cases hf
              exact g_pick (show G X _ _ _ _ _ _ from K) [] rfl
            · refine g_iload_n hX dX0_isGood_83 (lg_at 2 rfl) ?_
              refine g_iload_n hX dX0_isGood_84 (lg_at 1 rfl) ?_
              refine g_icmp_ge hX dX0_isGood_85 90 hf (by decide) (fun c85 hf => ?_) (fun c85 hf => ?_)
              · exact g_pick (w_f_X0_isGood_90 hM hf K) [0, 1, 2] rfl
              · cases hf
                exact g_pick (show G X _ _ _ _ _ _ from K) [] rfl
        · refine g_goto hX dX0_isGood_50 90 (by decide) ?_
          exact g_pick (w_f_X0_isGood_90 hM hf K) [0, 1, 2] rfl

set_option maxRecDepth 100000 in
theorem w_l_X0_isGood_2 {X : Ctx} (hM : MX X yX0_isGood cX0_isGood 3 "SlimeNet" (some Jvm.ClassFile.FieldType.boolean) rm_X0_isGood []) {this : Nat} {x1 : Int32} {x2 : Int32} {A : AH} {out : Int32} (hf : l_X0_isGood_2 this x1 x2 A = some out) (hr : c_res X = r_X0_isGood A out) : G X 0 0 2 [(0, vr (some this)), (1, vi x1), (2, vi x2)] [] A := by
  have hX := hM.1
  unfold l_X0_isGood_2 at hf
  obtain ⟨e, hw, hf⟩ := ob_some hf
  refine (whl_ind (k_X0_isGood_2 X this x1 A) (fun st o hs K => w_s_X0_isGood_2 hM hs K) hw ?_ : k_X0_isGood_2 X this x1 A (.inl x2))
  rcases e with ⟨⟩ | ⟨⟩
  · dsimp only at hf
    show G X 0 0 88 [] [] A
    exact g_pick (w_f_X0_isGood_88 hM hf hr) [] rfl
  · dsimp only at hf
    show G X 0 0 96 [] [] A
    refine g_iconst hX dX0_isGood_96 (1 : Int32) (by decide) ?_
    cases hf
    exact h_zret hM dX0_isGood_97 hr rfl (by decide) rfl

set_option maxRecDepth 100000 in
theorem w_f_X0_isGood {X : Ctx} (hM : MX X yX0_isGood cX0_isGood 3 "SlimeNet" (some Jvm.ClassFile.FieldType.boolean) rm_X0_isGood []) {this : Nat} {x1 : Int32} {A : AH} {out : Int32} (hf : f_X0_isGood this x1 A = some out) (hr : c_res X = r_X0_isGood A out) : G X 0 0 0 [(0, vr (some this)), (1, vi x1)] [] A := by
  have hX := hM.1
  unfold f_X0_isGood at hf
  refine g_iconst hX dX0_isGood_0 (0 : Int32) (by decide) ?_
  refine g_istore_n hX dX0_isGood_1 [(2, vi (0 : Int32)), (0, vr (some this)), (1, vi x1)] (by decide) rfl ?_
  exact g_pick (w_l_X0_isGood_2 hM hf hr) [1, 2, 0] rfl

theorem m_X0_isGood {l : Launch} {this : Nat} {x1 : Int32} {A : AH} {out : Int32} (h : f_X0_isGood this x1 A = some out) : MetF l yX0_isGood (Cond.code yX0_isGood cX0_isGood 3 (some Jvm.ClassFile.FieldType.boolean)) rm_X0_isGood [vr (some this), vi x1] A (r_X0_isGood A out) :=
  metF_of rfl rfl (Nat.le_of_ble_eq_true rfl) fun X hX hl hR hnm hr h1 h2 hno => w_f_X0_isGood (X := X) ⟨hX, hR, h1, h2, fun _ => ⟨hnm, hno⟩⟩ h hr

/-! SlimeNet.insert(I)V -/
def rm_X0_insert : Room := { frames := 1, cells := 0, slots := 0, locals := 24 }
def r_X0_insert (_A : AH) (o : AH) : (Option AV × AH) ⊕ (Nat × AH) := .inl (none, o)
def k_X0_insert_5 (X : Ctx) (this : Nat) (x1 : Int32) : ((Int32 × AH) ⊕ (Int32 × AH)) → Prop
  | .inl (x2, A) => G X 0 0 5 [(0, vr (some this)), (1, vi x1), (2, vi x2)] [] A
  | .inr (x2, A) => G X 0 0 51 [(0, vr (some this)), (1, vi x1), (2, vi x2)] [] A

set_option maxRecDepth 100000 in
theorem w_f_X0_insert_51 {X : Ctx} (hM : MX X yX0_insert cX0_insert 3 "SlimeNet" none rm_X0_insert []) {this : Nat} {x1 : Int32} {x2 : Int32} {A : AH} {out : AH} (hf : f_X0_insert_51 this x1 x2 A = some out) (hr : c_res X = r_X0_insert A out) : G X 0 0 51 [(0, vr (some this)), (1, vi x1), (2, vi x2)] [] A := by
  have hX := hM.1
  unfold f_X0_insert_51 at hf
  refine g_aload_n hX dX0_insert_51 (lg_at 0 rfl) ?_
  refine g_getR hX hf fs_SlimeNet_62_1 rfl dX0_insert_52 (fun v52 hf => ?_)
  refine g_iload_n hX dX0_insert_55 (lg_at 2 rfl) ?_
  refine g_iload_n hX dX0_insert_56 (lg_at 1 rfl) ?_
  refine g_iast hX hf dX0_insert_57 (fun A57 hf => ?_)
  refine g_aload_n hX dX0_insert_58 (lg_at 0 rfl) ?_
  refine g_dup hX dX0_insert_59 rfl ?_
  refine g_getI hX hf fs_SlimeNet_287_1 rfl dX0_insert_60 (fun v60 hf => ?_)
  refine g_iconst hX dX0_insert_63 (1 : Int32) (by decide) ?_
  refine g_iadd hX dX0_insert_64 ?_
  refine g_putI hX hf fs_SlimeNet_287_1 ⟨_, rfl, Or.inl rfl⟩ rfl dX0_insert_65 (fun A65 hf => ?_)
  cases hf
  exact h_vret hM dX0_insert_68 hr rfl rfl

set_option maxRecDepth 100000 in
theorem w_s_X0_insert_5 {X : Ctx} (hM : MX X yX0_insert cX0_insert 3 "SlimeNet" none rm_X0_insert []) {this : Nat} {x1 : Int32} {st : Int32 × AH} {out : (Int32 × AH) ⊕ (Int32 × AH)} (hf : s_X0_insert_5 this x1 st = some out) (K : k_X0_insert_5 X this x1 out) : k_X0_insert_5 X this x1 (.inl st) := by
  have hX := hM.1
  obtain ⟨x2, A⟩ := st
  unfold s_X0_insert_5 at hf
  dsimp only at hf
  show G X 0 0 5 [(0, vr (some this)), (1, vi x1), (2, vi x2)] [] A
  refine g_iload_n hX dX0_insert_5 (lg_at 2 rfl) ?_
  refine g_if_le hX dX0_insert_6 51 hf (by decide) (fun c6 hf => ?_) (fun c6 hf => ?_)
  · cases hf
    exact g_pick (show G X _ _ _ _ _ _ from K) [0, 1, 2] rfl
  · refine g_aload_n hX dX0_insert_9 (lg_at 0 rfl) ?_
    refine g_getR hX hf fs_SlimeNet_56_1 rfl dX0_insert_10 (fun v10 hf => ?_)
    refine g_aload_n hX dX0_insert_13 (lg_at 0 rfl) ?_
    refine g_getR hX hf fs_SlimeNet_62_1 rfl dX0_insert_14 (fun v14 hf => ?_)
    refine g_iload_n hX dX0_insert_17 (lg_at 2 rfl) ?_
    refine g_iconst hX dX0_insert_18 (1 : Int32) (by decide) ?_
    refine g_isub hX dX0_insert_19 ?_
    refine g_iald hX hf dX0_insert_20 (fun v20 hf => ?_)
    refine g_iald hX hf dX0_insert_21 (fun v21 hf => ?_)
    refine g_aload_n hX dX0_insert_22 (lg_at 0 rfl) ?_
    refine g_getR hX hf fs_SlimeNet_56_1 rfl dX0_insert_23 (fun v23 hf => ?_)
    refine g_iload_n hX dX0_insert_26 (lg_at 1 rfl) ?_
    refine g_iald hX hf dX0_insert_27 (fun v27 hf => ?_)
    refine g_icmp_le hX dX0_insert_28 51 hf (by decide) (fun c28 hf => ?_) (fun c28 hf => ?_)
    · cases hf
      exact g_pick (show G X _ _ _ _ _ _ from K) [0, 1, 2] rfl
    · refine g_aload_n hX dX0_insert_31 (lg_at 0 rfl) ?_
      refine g_getR hX hf fs_SlimeNet_62_1 rfl dX0_insert_32 (fun v32 hf => ?_)
      refine g_iload_n hX dX0_insert_35 (lg_at 2 rfl) ?_
      refine g_aload_n hX dX0_insert_36 (lg_at 0 rfl) ?_
      refine g_getR hX hf fs_SlimeNet_62_1 rfl dX0_insert_37 (fun v37 hf => ?_)
      refine g_iload_n hX dX0_insert_40 (lg_at 2 rfl) ?_
      refine g_iconst hX dX0_insert_41 (1 : Int32) (by decide) ?_
      refine g_isub hX dX0_insert_42 ?_
      refine g_iald hX hf dX0_insert_43 (fun v43 hf => ?_)
      refine g_iast hX hf dX0_insert_44 (fun A44 hf => ?_)
      refine g_iinc hX dX0_insert_45 (-1 : Int32) (x2 + (-1 : Int32)) [(2, vi (x2 + (-1 : Int32))), (0, vr (some this)), (1, vi x1)] (by decide) rfl (lg_at 2 rfl) (by decide) rfl ?_
      refine g_goto hX dX0_insert_48 5 (by decide) ?_
      cases hf
      exact g_pick (show G X _ _ _ _ _ _ from K) [1, 2, 0] rfl

set_option maxRecDepth 100000 in
theorem w_l_X0_insert_5 {X : Ctx} (hM : MX X yX0_insert cX0_insert 3 "SlimeNet" none rm_X0_insert []) {this : Nat} {x1 : Int32} {x2 : Int32} {A : AH} {out : AH} (hf : l_X0_insert_5 this x1 x2 A = some out) (hr : c_res X = r_X0_insert A out) : G X 0 0 5 [(0, vr (some this)), (1, vi x1), (2, vi x2)] [] A := by
  have hX := hM.1
  unfold l_X0_insert_5 at hf
  obtain ⟨e, hw, hf⟩ := ob_some hf
  refine (whl_ind (k_X0_insert_5 X this x1) (fun st o hs K => w_s_X0_insert_5 hM hs K) hw ?_ : k_X0_insert_5 X this x1 (.inl (x2, A)))
  obtain ⟨x2, A⟩ := e
  dsimp only at hf
  show G X 0 0 51 [(0, vr (some this)), (1, vi x1), (2, vi x2)] [] A
  exact g_pick (w_f_X0_insert_51 hM hf hr) [0, 1, 2] rfl

set_option maxRecDepth 100000 in
theorem w_f_X0_insert {X : Ctx} (hM : MX X yX0_insert cX0_insert 3 "SlimeNet" none rm_X0_insert []) {this : Nat} {x1 : Int32} {A : AH} {out : AH} (hf : f_X0_insert this x1 A = some out) (hr : c_res X = r_X0_insert A out) : G X 0 0 0 [(0, vr (some this)), (1, vi x1)] [] A := by
  have hX := hM.1
  unfold f_X0_insert at hf
  refine g_aload_n hX dX0_insert_0 (lg_at 0 rfl) ?_
  refine g_getI hX hf fs_SlimeNet_287_1 rfl dX0_insert_1 (fun v1 hf => ?_)
  refine g_istore_n hX dX0_insert_4 [(2, vi v1), (0, vr (some this)), (1, vi x1)] (by decide) rfl ?_
  exact g_pick (w_l_X0_insert_5 hM hf hr) [1, 2, 0] rfl

theorem m_X0_insert {l : Launch} {this : Nat} {x1 : Int32} {A : AH} {out : AH} (h : f_X0_insert this x1 A = some out) : MetF l yX0_insert (Cond.code yX0_insert cX0_insert 3 none) rm_X0_insert [vr (some this), vi x1] A (r_X0_insert A out) :=
  metF_of rfl rfl (Nat.le_of_ble_eq_true rfl) fun X hX hl hR hnm hr h1 h2 hno => w_f_X0_insert (X := X) ⟨hX, hR, h1, h2, fun _ => ⟨hnm, hno⟩⟩ h hr

/-! SlimeNet.list()V -/
def rm_X0_list : Room := { frames := 7, cells := 0, slots := 0, locals := 160 }
def r_X0_list (_A : AH) (o : AH) : (Option AV × AH) ⊕ (Nat × AH) := .inl (none, o)
def k_X0_list_31 (X : Ctx) (this : Nat) : ((Int32 × AH) ⊕ (AH)) → Prop
  | .inl (x1, A) => G X 0 0 31 [(0, vr (some this)), (1, vi x1)] [] A
  | .inr A => G X 0 0 88 [(0, vr (some this))] [] A

def k_X0_list_95 (X : Ctx) (this : Nat) : ((Int32 × AH) ⊕ (AH)) → Prop
  | .inl (x1, A) => G X 0 0 95 [(0, vr (some this)), (1, vi x1)] [] A
  | .inr A => G X 0 0 132 [] [] A

set_option maxRecDepth 100000 in
theorem w_f_X0_list_67 {X : Ctx} (hM : MX X yX0_list cX0_list 2 "SlimeNet" none rm_X0_list []) {this : Nat} {x1 : Int32} {t0 : Int32} {t1 : Int32} {t2 : Option Nat} {A : AH} {out : (Int32 × AH) ⊕ (AH)} (hf : f_X0_list_67 this x1 t0 t1 t2 A = some out) (K : k_X0_list_31 X this out) : G X 0 0 67 [(0, vr (some this)), (1, vi x1)] [vi t0, vi t1, vr t2] A := by
  have hX := hM.1
  unfold f_X0_list_67 at hf
  refine g_iast hX hf dX0_list_67 (fun A67 hf => ?_)
  refine g_aload_n hX dX0_list_68 (lg_at 0 rfl) ?_
  refine g_getR hX hf fs_SlimeNet_59_1 rfl dX0_list_69 (fun v69 hf => ?_)
  refine g_iload_n hX dX0_list_72 (lg_at 1 rfl) ?_
  refine g_aload_n hX dX0_list_73 (lg_at 0 rfl) ?_
  refine g_getR hX hf fs_SlimeNet_27_1 rfl dX0_list_74 (fun v74 hf => ?_)
  refine g_iload_n hX dX0_list_77 (lg_at 1 rfl) ?_
  obtain ⟨k78, hk78, hf⟩ := ob_some hf
  obtain ⟨v78, hc78, hf⟩ := ob_some hf
  refine h_callV hM [vi x1] dX0_list_78 cs_SlimeNet_284_3 hk78 (m_X2_sure hc78) rfl rfl rfl rfl ?_
  refine g_iast hX hf dX0_list_81 (fun A81 hf => ?_)
  refine g_iinc hX dX0_list_82 (1 : Int32) (x1 + (1 : Int32)) [(1, vi (x1 + (1 : Int32))), (0, vr (some this))] (by decide) rfl (lg_at 1 rfl) (by decide) rfl ?_
  refine g_goto hX dX0_list_85 31 (by decide) ?_
  cases hf
  exact g_pick (show G X _ _ _ _ _ _ from K) [1, 0] rfl

set_option maxRecDepth 100000 in
theorem w_f_X0_list_126 {X : Ctx} (hM : MX X yX0_list cX0_list 2 "SlimeNet" none rm_X0_list []) {this : Nat} {x1 : Int32} {A : AH} {out : (Int32 × AH) ⊕ (AH)} (hf : f_X0_list_126 this x1 A = some out) (K : k_X0_list_95 X this out) : G X 0 0 126 [(0, vr (some this)), (1, vi x1)] [] A := by
  have hX := hM.1
  unfold f_X0_list_126 at hf
  refine g_iinc hX dX0_list_126 (1 : Int32) (x1 + (1 : Int32)) [(1, vi (x1 + (1 : Int32))), (0, vr (some this))] (by decide) rfl (lg_at 1 rfl) (by decide) rfl ?_
  refine g_goto hX dX0_list_129 95 (by decide) ?_
  cases hf
  exact g_pick (show G X _ _ _ _ _ _ from K) [1, 0] rfl

set_option maxRecDepth 100000 in
theorem w_s_X0_list_95 {X : Ctx} (hM : MX X yX0_list cX0_list 2 "SlimeNet" none rm_X0_list []) {this : Nat} {st : Int32 × AH} {out : (Int32 × AH) ⊕ (AH)} (hf : s_X0_list_95 this st = some out) (K : k_X0_list_95 X this out) : k_X0_list_95 X this (.inl st) := by
  have hX := hM.1
  obtain ⟨x1, A⟩ := st
  unfold s_X0_list_95 at hf
  dsimp only at hf
  show G X 0 0 95 [(0, vr (some this)), (1, vi x1)] [] A
  refine g_iload_n hX dX0_list_95 (lg_at 1 rfl) ?_
  refine g_aload_n hX dX0_list_96 (lg_at 0 rfl) ?_
  refine g_getI hX hf fs_SlimeNet_276_1 rfl dX0_list_97 (fun v97 hf => ?_)
  refine g_icmp_ge hX dX0_list_100 132 hf (by decide) (fun c100 hf => ?_) (fun c100 hf => ?_)
  · cases hf
    exact g_pick (show G X _ _ _ _ _ _ from K) [] rfl
  · refine g_aload_n hX dX0_list_103 (lg_at 0 rfl) ?_
    refine g_getR hX hf fs_SlimeNet_56_1 rfl dX0_list_104 (fun v104 hf => ?_)
    refine g_iload_n hX dX0_list_107 (lg_at 1 rfl) ?_
    refine g_iald hX hf dX0_list_108 (fun v108 hf => ?_)
    refine g_iconst hX dX0_list_109 (-1 : Int32) (by decide) ?_
    refine g_icmp_eq hX dX0_list_110 126 hf (by decide) (fun c110 hf => ?_) (fun c110 hf => ?_)
    · exact g_pick (w_f_X0_list_126 hM hf K) [0, 1] rfl
    · refine g_aload_n hX dX0_list_113 (lg_at 0 rfl) ?_
      refine g_iload_n hX dX0_list_114 (lg_at 1 rfl) ?_
      obtain ⟨k115, hk115, hf⟩ := ob_some hf
      obtain ⟨v115, hc115, hf⟩ := ob_some hf
      refine h_callV hM [vi x1] dX0_list_115 cs_SlimeNet_290_1 hk115 (m_X0_isGood hc115) rfl rfl rfl rfl ?_
      refine g_if_eq hX dX0_list_118 126 hf (by decide) (fun c118 hf => ?_) (fun c118 hf => ?_)
      · exact g_pick (w_f_X0_list_126 hM hf K) [0, 1] rfl
      · refine g_aload_n hX dX0_list_121 (lg_at 0 rfl) ?_
        refine g_iload_n hX dX0_list_122 (lg_at 1 rfl) ?_
        obtain ⟨k123, hk123, hf⟩ := ob_some hf
        obtain ⟨A123, hc123, hf⟩ := ob_some hf
        refine h_callV hM [vi x1] dX0_list_123 cs_SlimeNet_293_1 hk123 (m_X0_insert hc123) rfl rfl rfl rfl ?_
        exact g_pick (w_f_X0_list_126 hM hf K) [0, 1] rfl

set_option maxRecDepth 100000 in
theorem w_l_X0_list_95 {X : Ctx} (hM : MX X yX0_list cX0_list 2 "SlimeNet" none rm_X0_list []) {this : Nat} {x1 : Int32} {A : AH} {out : AH} (hf : l_X0_list_95 this x1 A = some out) (hr : c_res X = r_X0_list A out) : G X 0 0 95 [(0, vr (some this)), (1, vi x1)] [] A := by
  have hX := hM.1
  unfold l_X0_list_95 at hf
  obtain ⟨e, hw, hf⟩ := ob_some hf
  refine (whl_ind (k_X0_list_95 X this) (fun st o hs K => w_s_X0_list_95 hM hs K) hw ?_ : k_X0_list_95 X this (.inl (x1, A)))
  revert hf hw; generalize e = A; intro hw hf
  dsimp only at hf
  show G X 0 0 132 [] [] A
  cases hf
  exact h_vret hM dX0_list_132 hr rfl rfl

set_option maxRecDepth 100000 in
theorem w_s_X0_list_31 {X : Ctx} (hM : MX X yX0_list cX0_list 2 "SlimeNet" none rm_X0_list []) {this : Nat} {st : Int32 × AH} {out : (Int32 × AH) ⊕ (AH)} (hf : s_X0_list_31 this st = some out) (K : k_X0_list_31 X this out) : k_X0_list_31 X this (.inl st) := by
  have hX := hM.1
  obtain ⟨x1, A⟩ := st
  unfold s_X0_list_31 at hf
  dsimp only at hf
  show G X 0 0 31 [(0, vr (some this)), (1, vi x1)] [] A
  refine g_iload_n hX dX0_list_31 (lg_at 1 rfl) ?_
  refine g_aload_n hX dX0_list_32 (lg_at 0 rfl) ?_
  refine g_getI hX hf fs_SlimeNet_276_1 rfl dX0_list_33 (fun v33 hf => ?_)
  refine g_icmp_ge hX dX0_list_36 88 hf (by decide) (fun c36 hf => ?_) (fun c36 hf => ?_)
  · cases hf
    exact g_pick (show G X _ _ _ _ _ _ from K) [0] rfl
  · refine g_aload_n hX dX0_list_39 (lg_at 0 rfl) ?_
    refine g_getR hX hf fs_SlimeNet_56_1 rfl dX0_list_40 (fun v40 hf => ?_)
    refine g_iload_n hX dX0_list_43 (lg_at 1 rfl) ?_
    refine g_aload_n hX dX0_list_44 (lg_at 0 rfl) ?_
    refine g_getR hX hf fs_SlimeNet_27_1 rfl dX0_list_45 (fun v45 hf => ?_)
    refine g_iload_n hX dX0_list_48 (lg_at 1 rfl) ?_
    obtain ⟨k49, hk49, hf⟩ := ob_some hf
    obtain ⟨v49, hc49, hf⟩ := ob_some hf
    refine h_callV hM [vi x1] dX0_list_49 cs_SlimeNet_279_3 hk49 (m_X2_joins hc49) rfl rfl rfl rfl ?_
    refine g_if_eq hX dX0_list_52 66 hf (by decide) (fun c52 hf => ?_) (fun c52 hf => ?_)
    · refine g_iconst hX dX0_list_66 (-1 : Int32) (by decide) ?_
      exact g_pick (w_f_X0_list_67 hM hf K) [0, 1] rfl
    · refine g_aload_n hX dX0_list_55 (lg_at 0 rfl) ?_
      refine g_getR hX hf fs_SlimeNet_27_1 rfl dX0_list_56 (fun v56 hf => ?_)
      refine g_iload_n hX dX0_list_59 (lg_at 1 rfl) ?_
      obtain ⟨k60, hk60, hf⟩ := ob_some hf
      obtain ⟨v60, hc60, hf⟩ := ob_some hf
      refine h_callV hM [vi x1] dX0_list_60 cs_SlimeNet_282_3 hk60 (m_X2_length hc60) rfl rfl rfl rfl ?_
      refine g_goto hX dX0_list_63 67 (by decide) ?_
      exact g_pick (w_f_X0_list_67 hM hf K) [0, 1] rfl

set_option maxRecDepth 100000 in
theorem w_l_X0_list_31 {X : Ctx} (hM : MX X yX0_list cX0_list 2 "SlimeNet" none rm_X0_list []) {this : Nat} {x1 : Int32} {A : AH} {out : AH} (hf : l_X0_list_31 this x1 A = some out) (hr : c_res X = r_X0_list A out) : G X 0 0 31 [(0, vr (some this)), (1, vi x1)] [] A := by
  have hX := hM.1
  unfold l_X0_list_31 at hf
  obtain ⟨e, hw, hf⟩ := ob_some hf
  refine (whl_ind (k_X0_list_31 X this) (fun st o hs K => w_s_X0_list_31 hM hs K) hw ?_ : k_X0_list_31 X this (.inl (x1, A)))
  revert hf hw; generalize e = A; intro hw hf
  dsimp only at hf
  show G X 0 0 88 [(0, vr (some this))] [] A
  refine g_aload_n hX dX0_list_88 (lg_at 0 rfl) ?_
  refine g_iconst hX dX0_list_89 (0 : Int32) (by decide) ?_
  refine g_putI hX hf fs_SlimeNet_287_1 ⟨_, rfl, Or.inl rfl⟩ rfl dX0_list_90 (fun A90 hf => ?_)
  refine g_iconst hX dX0_list_93 (0 : Int32) (by decide) ?_
  refine g_istore_n hX dX0_list_94 [(1, vi (0 : Int32)), (0, vr (some this))] (by decide) rfl ?_
  exact g_pick (w_l_X0_list_95 hM hf hr) [1, 0] rfl

set_option maxRecDepth 100000 in
theorem w_f_X0_list {X : Ctx} (hM : MX X yX0_list cX0_list 2 "SlimeNet" none rm_X0_list []) {this : Nat} {A : AH} {out : AH} (hf : f_X0_list this A = some out) (hr : c_res X = r_X0_list A out) : G X 0 0 0 [(0, vr (some this))] [] A := by
  have hX := hM.1
  unfold f_X0_list at hf
  refine g_aload_n hX dX0_list_0 (lg_at 0 rfl) ?_
  refine g_getI hX hf fs_SlimeNet_136_1 rfl dX0_list_1 (fun v1 hf => ?_)
  refine g_if_eq hX dX0_list_4 8 hf (by decide) (fun c4 hf => ?_) (fun c4 hf => ?_)
  · refine g_aload_n hX dX0_list_8 (lg_at 0 rfl) ?_
    refine g_iconst hX dX0_list_9 (1 : Int32) (by decide) ?_
    refine g_putZ hX hf fs_SlimeNet_136_1 ⟨_, rfl, Or.inl rfl⟩ rfl dX0_list_10 (fun A10 hf => ?_)
    refine g_aload_n hX dX0_list_13 (lg_at 0 rfl) ?_
    refine g_iconst hX dX0_list_14 (1 : Int32) (by decide) ?_
    refine g_aload_n hX dX0_list_15 (lg_at 0 rfl) ?_
    refine g_getR hX hf fs_SlimeNet_27_1 rfl dX0_list_16 (fun v16 hf => ?_)
    refine g_getR hX hf fs_SlimeNet_143_3 rfl dX0_list_19 (fun v19 hf => ?_)
    obtain ⟨k22, hk22, hf⟩ := ob_some hf
    obtain ⟨v22, hc22, hf⟩ := ob_some hf
    refine h_callV hM [] dX0_list_22 cs_SlimeNet_147_8 hk22 (m_J4_size hc22) rfl rfl rfl rfl ?_
    refine g_ishl hX dX0_list_25 ?_
    refine g_putI hX hf fs_SlimeNet_276_1 ⟨_, rfl, Or.inl rfl⟩ rfl dX0_list_26 (fun A26 hf => ?_)
    refine g_iconst hX dX0_list_29 (0 : Int32) (by decide) ?_
    refine g_istore_n hX dX0_list_30 [(1, vi (0 : Int32)), (0, vr (some this))] (by decide) rfl ?_
    exact g_pick (w_l_X0_list_31 hM hf hr) [1, 0] rfl
  · cases hf
    exact h_vret hM dX0_list_7 hr rfl rfl

theorem m_X0_list {l : Launch} {this : Nat} {A : AH} {out : AH} (h : f_X0_list this A = some out) : MetF l yX0_list (Cond.code yX0_list cX0_list 2 none) rm_X0_list [vr (some this)] A (r_X0_list A out) :=
  metF_of rfl rfl (Nat.le_of_ble_eq_true rfl) fun X hX hl hR hnm hr h1 h2 hno => w_f_X0_list (X := X) ⟨hX, hR, h1, h2, fun _ => ⟨hnm, hno⟩⟩ h hr

/-! SlimeNet.beside(I)I -/
def rm_X0_beside : Room := { frames := 8, cells := 0, slots := 0, locals := 181 }
def r_X0_beside (_A : AH) (o : Int32 × AH) : (Option AV × AH) ⊕ (Nat × AH) := .inl (some (vi o.1), o.2)
def k_X0_beside_18 (X : Ctx) (this : Nat) (x1 : Int32) (x2 : Int32) (A : AH) : ((Int32 × Int32) ⊕ (Int32)) → Prop
  | .inl (x3, x4) => G X 0 0 18 [(0, vr (some this)), (1, vi x1), (2, vi x2), (3, vi x3), (4, vi x4)] [] A
  | .inr x3 => G X 0 0 79 [(3, vi x3)] [] A

set_option maxRecDepth 100000 in
theorem w_f_X0_beside_71 {X : Ctx} (hM : MX X yX0_beside cX0_beside 5 "SlimeNet" (some Jvm.ClassFile.FieldType.int) rm_X0_beside []) {this : Nat} {x1 : Int32} {x2 : Int32} {x4 : Int32} {t0 : Int32} {t1 : Int32} {A : AH} {out : (Int32 × Int32) ⊕ (Int32)} (hf : f_X0_beside_71 this x1 x2 x4 t0 t1 A = some out) (K : k_X0_beside_18 X this x1 x2 A out) : G X 0 0 71 [(0, vr (some this)), (1, vi x1), (2, vi x2), (4, vi x4)] [vi t0, vi t1] A := by
  have hX := hM.1
  unfold f_X0_beside_71 at hf
  refine g_iadd hX dX0_beside_71 ?_
  refine g_istore_n hX dX0_beside_72 [(3, vi (t1 + t0)), (0, vr (some this)), (1, vi x1), (2, vi x2), (4, vi x4)] (by decide) rfl ?_
  refine g_iinc hX dX0_beside_73 (1 : Int32) (x4 + (1 : Int32)) [(4, vi (x4 + (1 : Int32))), (3, vi (t1 + t0)), (0, vr (some this)), (1, vi x1), (2, vi x2)] (by decide) rfl (lg_at 4 rfl) (by decide) rfl ?_
  refine g_goto hX dX0_beside_76 18 (by decide) ?_
  cases hf
  exact g_pick (show G X _ _ _ _ _ _ from K) [2, 3, 4, 1, 0] rfl

set_option maxRecDepth 100000 in
theorem w_f_X0_beside_70 {X : Ctx} (hM : MX X yX0_beside cX0_beside 5 "SlimeNet" (some Jvm.ClassFile.FieldType.int) rm_X0_beside []) {this : Nat} {x1 : Int32} {x2 : Int32} {x4 : Int32} {t0 : Int32} {A : AH} {out : (Int32 × Int32) ⊕ (Int32)} (hf : f_X0_beside_70 this x1 x2 x4 t0 A = some out) (K : k_X0_beside_18 X this x1 x2 A out) : G X 0 0 70 [(0, vr (some this)), (1, vi x1), (2, vi x2), (4, vi x4)] [vi t0] A := by
  have hX := hM.1
  unfold f_X0_beside_70 at hf
  refine g_iconst hX dX0_beside_70 (0 : Int32) (by decide) ?_
  exact g_pick (w_f_X0_beside_71 hM hf K) [0, 1, 2, 3] rfl

set_option maxRecDepth 100000 in
theorem w_s_X0_beside_18 {X : Ctx} (hM : MX X yX0_beside cX0_beside 5 "SlimeNet" (some Jvm.ClassFile.FieldType.int) rm_X0_beside []) {this : Nat} {x1 : Int32} {x2 : Int32} {A : AH} {st : Int32 × Int32} {out : (Int32 × Int32) ⊕ (Int32)} (hf : s_X0_beside_18 this x1 x2 A st = some out) (K : k_X0_beside_18 X this x1 x2 A out) : k_X0_beside_18 X this x1 x2 A (.inl st) := by
  have hX := hM.1
  obtain ⟨x3, x4⟩ := st
  unfold s_X0_beside_18 at hf
  dsimp only at hf
  show G X 0 0 18 [(0, vr (some this)), (1, vi x1), (2, vi x2), (3, vi x3), (4, vi x4)] [] A
  refine g_iload hX dX0_beside_18 (lg_at 4 rfl) ?_
  refine g_aload_n hX dX0_beside_20 (lg_at 0 rfl) ?_
  refine g_getI hX hf fs_SlimeNet_276_1 rfl dX0_beside_21 (fun v21 hf => ?_)
  refine g_icmp_ge hX dX0_beside_24 79 hf (by decide) (fun c24 hf => ?_) (fun c24 hf => ?_)
  · cases hf
    exact g_pick (show G X _ _ _ _ _ _ from K) [3] rfl
  · refine g_iload_n hX dX0_beside_27 (lg_at 3 rfl) ?_
    refine g_aload_n hX dX0_beside_28 (lg_at 0 rfl) ?_
    refine g_getR hX hf fs_SlimeNet_56_1 rfl dX0_beside_29 (fun v29 hf => ?_)
    refine g_iload hX dX0_beside_32 (lg_at 4 rfl) ?_
    refine g_iald hX hf dX0_beside_34 (fun v34 hf => ?_)
    refine g_iconst hX dX0_beside_35 (-1 : Int32) (by decide) ?_
    refine g_icmp_eq hX dX0_beside_36 70 hf (by decide) (fun c36 hf => ?_) (fun c36 hf => ?_)
    · exact g_pick (w_f_X0_beside_70 hM hf K) [0, 1, 2, 4] rfl
    · refine g_aload_n hX dX0_beside_39 (lg_at 0 rfl) ?_
      refine g_getR hX hf fs_SlimeNet_56_1 rfl dX0_beside_40 (fun v40 hf => ?_)
      refine g_iload hX dX0_beside_43 (lg_at 4 rfl) ?_
      refine g_iald hX hf dX0_beside_45 (fun v45 hf => ?_)
      refine g_iload_n hX dX0_beside_46 (lg_at 2 rfl) ?_
      refine g_icmp_gt hX dX0_beside_47 70 hf (by decide) (fun c47 hf => ?_) (fun c47 hf => ?_)
      · exact g_pick (w_f_X0_beside_70 hM hf K) [0, 1, 2, 4] rfl
      · refine g_aload_n hX dX0_beside_50 (lg_at 0 rfl) ?_
        refine g_getR hX hf fs_SlimeNet_59_1 rfl dX0_beside_51 (fun v51 hf => ?_)
        refine g_iload hX dX0_beside_54 (lg_at 4 rfl) ?_
        refine g_iald hX hf dX0_beside_56 (fun v56 hf => ?_)
        refine g_aload_n hX dX0_beside_57 (lg_at 0 rfl) ?_
        refine g_getR hX hf fs_SlimeNet_59_1 rfl dX0_beside_58 (fun v58 hf => ?_)
        refine g_iload_n hX dX0_beside_61 (lg_at 1 rfl) ?_
        refine g_iald hX hf dX0_beside_62 (fun v62 hf => ?_)
        refine g_icmp_le hX dX0_beside_63 70 hf (by decide) (fun c63 hf => ?_) (fun c63 hf => ?_)
        · exact g_pick (w_f_X0_beside_70 hM hf K) [0, 1, 2, 4] rfl
        · refine g_iconst hX dX0_beside_66 (1 : Int32) (by decide) ?_
          refine g_goto hX dX0_beside_67 71 (by decide) ?_
          exact g_pick (w_f_X0_beside_71 hM hf K) [0, 1, 2, 4] rfl

set_option maxRecDepth 100000 in
theorem w_l_X0_beside_18 {X : Ctx} (hM : MX X yX0_beside cX0_beside 5 "SlimeNet" (some Jvm.ClassFile.FieldType.int) rm_X0_beside []) {this : Nat} {x1 : Int32} {x2 : Int32} {x3 : Int32} {x4 : Int32} {A : AH} {out : Int32 × AH} (hf : l_X0_beside_18 this x1 x2 x3 x4 A = some out) (hr : c_res X = r_X0_beside A out) : G X 0 0 18 [(0, vr (some this)), (1, vi x1), (2, vi x2), (3, vi x3), (4, vi x4)] [] A := by
  have hX := hM.1
  unfold l_X0_beside_18 at hf
  obtain ⟨e, hw, hf⟩ := ob_some hf
  refine (whl_ind (k_X0_beside_18 X this x1 x2 A) (fun st o hs K => w_s_X0_beside_18 hM hs K) hw ?_ : k_X0_beside_18 X this x1 x2 A (.inl (x3, x4)))
  revert hf hw; generalize e = x3; intro hw hf
  dsimp only at hf
  show G X 0 0 79 [(3, vi x3)] [] A
  refine g_iload_n hX dX0_beside_79 (lg_at 0 rfl) ?_
  cases hf
  exact h_iret hM dX0_beside_80 hr rfl rfl

set_option maxRecDepth 100000 in
theorem w_f_X0_beside {X : Ctx} (hM : MX X yX0_beside cX0_beside 5 "SlimeNet" (some Jvm.ClassFile.FieldType.int) rm_X0_beside []) {this : Nat} {x1 : Int32} {A : AH} {out : Int32 × AH} (hf : f_X0_beside this x1 A = some out) (hr : c_res X = r_X0_beside A out) : G X 0 0 0 [(0, vr (some this)), (1, vi x1)] [] A := by
  have hX := hM.1
  unfold f_X0_beside at hf
  refine g_aload_n hX dX0_beside_0 (lg_at 0 rfl) ?_
  obtain ⟨k1, hk1, hf⟩ := ob_some hf
  obtain ⟨A1, hc1, hf⟩ := ob_some hf
  refine h_callV hM [] dX0_beside_1 cs_SlimeNet_305_1 hk1 (m_X0_list hc1) rfl rfl rfl rfl ?_
  refine g_aload_n hX dX0_beside_4 (lg_at 0 rfl) ?_
  refine g_getR hX hf fs_SlimeNet_27_1 rfl dX0_beside_5 (fun v5 hf => ?_)
  refine g_iload_n hX dX0_beside_8 (lg_at 1 rfl) ?_
  obtain ⟨k9, hk9, hf⟩ := ob_some hf
  obtain ⟨v9, hc9, hf⟩ := ob_some hf
  refine h_callV hM [vi x1] dX0_beside_9 cs_SlimeNet_282_3 hk9 (m_X2_length hc9) rfl rfl rfl rfl ?_
  refine g_istore_n hX dX0_beside_12 [(2, vi v9), (0, vr (some this)), (1, vi x1)] (by decide) rfl ?_
  refine g_iconst hX dX0_beside_13 (0 : Int32) (by decide) ?_
  refine g_istore_n hX dX0_beside_14 [(3, vi (0 : Int32)), (2, vi v9), (0, vr (some this)), (1, vi x1)] (by decide) rfl ?_
  refine g_iconst hX dX0_beside_15 (0 : Int32) (by decide) ?_
  refine g_istore hX dX0_beside_16 [(4, vi (0 : Int32)), (3, vi (0 : Int32)), (2, vi v9), (0, vr (some this)), (1, vi x1)] (by decide) rfl ?_
  exact g_pick (w_l_X0_beside_18 hM hf hr) [3, 4, 2, 1, 0] rfl

theorem m_X0_beside {l : Launch} {this : Nat} {x1 : Int32} {A : AH} {out : Int32 × AH} (h : f_X0_beside this x1 A = some out) : MetF l yX0_beside (Cond.code yX0_beside cX0_beside 5 (some Jvm.ClassFile.FieldType.int)) rm_X0_beside [vr (some this), vi x1] A (r_X0_beside A out) :=
  metF_of rfl rfl (Nat.le_of_ble_eq_true rfl) fun X hX hl hR hnm hr h1 h2 hno => w_f_X0_beside (X := X) ⟨hX, hR, h1, h2, fun _ => ⟨hnm, hno⟩⟩ h hr

/-! SlimeNet.net(II)I -/
def rm_X0_net : Room := { frames := 9, cells := 0, slots := 0, locals := 205 }
def r_X0_net (_A : AH) (o : Int32 × AH) : (Option AV × AH) ⊕ (Nat × AH) := .inl (some (vi o.1), o.2)
set_option maxRecDepth 100000 in
theorem w_f_X0_net_17 {X : Ctx} (hM : MX X yX0_net cX0_net 3 "SlimeNet" (some Jvm.ClassFile.FieldType.int) rm_X0_net []) {A : AH} {out : Int32 × AH} (hf : f_X0_net_17 A = some out) (hr : c_res X = r_X0_net A out) : G X 0 0 17 [] [] A := by
  have hX := hM.1
  unfold f_X0_net_17 at hf
  refine g_bipush hX dX0_net_17 (-2 : Int32) (by decide) ?_
  cases hf
  exact h_iret hM dX0_net_19 hr rfl rfl

set_option maxRecDepth 100000 in
theorem w_f_X0_net_77 {X : Ctx} (hM : MX X yX0_net cX0_net 3 "SlimeNet" (some Jvm.ClassFile.FieldType.int) rm_X0_net []) {t0 : Int32} {A : AH} {out : Int32 × AH} (hf : f_X0_net_77 t0 A = some out) (hr : c_res X = r_X0_net A out) : G X 0 0 77 [] [vi t0] A := by
  have hX := hM.1
  unfold f_X0_net_77 at hf
  cases hf
  exact h_iret hM dX0_net_77 hr rfl rfl

set_option maxRecDepth 100000 in
theorem w_f_X0_net_110 {X : Ctx} (hM : MX X yX0_net cX0_net 3 "SlimeNet" (some Jvm.ClassFile.FieldType.int) rm_X0_net []) {t0 : Int32} {A : AH} {out : Int32 × AH} (hf : f_X0_net_110 t0 A = some out) (hr : c_res X = r_X0_net A out) : G X 0 0 110 [] [vi t0] A := by
  have hX := hM.1
  unfold f_X0_net_110 at hf
  cases hf
  exact h_iret hM dX0_net_110 hr rfl rfl

set_option maxRecDepth 100000 in
theorem w_f_X0_net {X : Ctx} (hM : MX X yX0_net cX0_net 3 "SlimeNet" (some Jvm.ClassFile.FieldType.int) rm_X0_net []) {this : Nat} {x1 : Int32} {x2 : Int32} {A : AH} {out : Int32 × AH} (hf : f_X0_net this x1 x2 A = some out) (hr : c_res X = r_X0_net A out) : G X 0 0 0 [(0, vr (some this)), (1, vi x1), (2, vi x2)] [] A := by
  have hX := hM.1
  unfold f_X0_net at hf
  refine g_aload_n hX dX0_net_0 (lg_at 0 rfl) ?_
  refine g_iload_n hX dX0_net_1 (lg_at 1 rfl) ?_
  obtain ⟨k2, hk2, hf⟩ := ob_some hf
  obtain ⟨v2, hc2, hf⟩ := ob_some hf
  refine h_callV hM [vi x1] dX0_net_2 cs_SlimeNet_296_1 hk2 (m_X0_isNet hc2) rfl rfl rfl rfl ?_
  refine g_if_eq hX dX0_net_5 17 hf (by decide) (fun c5 hf => ?_) (fun c5 hf => ?_)
  · exact g_pick (w_f_X0_net_17 hM hf hr) [] rfl
  · refine g_iload_n hX dX0_net_8 (lg_at 2 rfl) ?_
    refine g_iconst hX dX0_net_9 (0 : Int32) (by decide) ?_
    refine g_iconst hX dX0_net_10 (4 : Int32) (by decide) ?_
    obtain ⟨v11, hc11, hf⟩ := ob_some hf
    refine h_callS hM [vi x2, vi (0 : Int32), vi (4 : Int32)] dX0_net_11 cs_SlimeNet_153_s (m_X0_in hc11) rfl rfl rfl rfl ?_
    refine g_if_ne hX dX0_net_14 20 hf (by decide) (fun c14 hf => ?_) (fun c14 hf => ?_)
    · refine g_iload_n hX dX0_net_20 (lg_at 2 rfl) ?_
      by_cases hd : Int32.toInt x2 < 0 ∨ 3 < Int32.toInt x2
      · rw [if_pos hd] at hf
        refine g_tblO hX dX0_net_21 111 hd (by decide) ?_
        refine g_aload_n hX dX0_net_111 (lg_at 0 rfl) ?_
        refine g_iload_n hX dX0_net_112 (lg_at 1 rfl) ?_
        obtain ⟨k113, hk113, hf⟩ := ob_some hf
        obtain ⟨⟨v113, A113⟩, hc113, hf⟩ := ob_some hf
        refine h_callV hM [vi x1] dX0_net_113 cs_SlimeNet_302_1 hk113 (m_X0_beside hc113) rfl rfl rfl rfl ?_
        dsimp only at hf
        cases hf
        exact h_iret hM dX0_net_116 hr rfl rfl
      rw [if_neg hd] at hf
      by_cases hc0 : x2 = (0 : Int32)
      · rw [if_pos hc0] at hf
        refine g_tblI hX dX0_net_21 (0 : Int32) 0 (31) 52 (by decide) (by decide) rfl (by decide) hc0 ?_
        refine g_aload_n hX dX0_net_52 (lg_at 0 rfl) ?_
        refine g_getR hX hf fs_SlimeNet_27_1 rfl dX0_net_53 (fun v53 hf => ?_)
        refine g_iload_n hX dX0_net_56 (lg_at 1 rfl) ?_
        obtain ⟨k57, hk57, hf⟩ := ob_some hf
        obtain ⟨v57, hc57, hf⟩ := ob_some hf
        refine h_callV hM [vi x1] dX0_net_57 cs_SlimeNet_282_3 hk57 (m_X2_length hc57) rfl rfl rfl rfl ?_
        cases hf
        exact h_iret hM dX0_net_60 hr rfl rfl
      rw [if_neg hc0] at hf
      by_cases hc1 : x2 = (1 : Int32)
      · rw [if_pos hc1] at hf
        refine g_tblI hX dX0_net_21 (1 : Int32) 1 (40) 61 (by decide) (by decide) rfl (by decide) hc1 ?_
        refine g_aload_n hX dX0_net_61 (lg_at 0 rfl) ?_
        refine g_getR hX hf fs_SlimeNet_27_1 rfl dX0_net_62 (fun v62 hf => ?_)
        refine g_iload_n hX dX0_net_65 (lg_at 1 rfl) ?_
        obtain ⟨k66, hk66, hf⟩ := ob_some hf
        obtain ⟨v66, hc66, hf⟩ := ob_some hf
        refine h_callV hM [vi x1] dX0_net_66 cs_SlimeNet_279_3 hk66 (m_X2_joins hc66) rfl rfl rfl rfl ?_
        refine g_if_eq hX dX0_net_69 76 hf (by decide) (fun c69 hf => ?_) (fun c69 hf => ?_)
        · refine g_iconst hX dX0_net_76 (0 : Int32) (by decide) ?_
          exact g_pick (w_f_X0_net_77 hM hf hr) [] rfl
        · refine g_iconst hX dX0_net_72 (1 : Int32) (by decide) ?_
          refine g_goto hX dX0_net_73 77 (by decide) ?_
          exact g_pick (w_f_X0_net_77 hM hf hr) [] rfl
      rw [if_neg hc1] at hf
      by_cases hc2 : x2 = (2 : Int32)
      · rw [if_pos hc2] at hf
        refine g_tblI hX dX0_net_21 (2 : Int32) 2 (57) 78 (by decide) (by decide) rfl (by decide) hc2 ?_
        refine g_aload_n hX dX0_net_78 (lg_at 0 rfl) ?_
        refine g_getR hX hf fs_SlimeNet_27_1 rfl dX0_net_79 (fun v79 hf => ?_)
        refine g_iload_n hX dX0_net_82 (lg_at 1 rfl) ?_
        obtain ⟨k83, hk83, hf⟩ := ob_some hf
        obtain ⟨v83, hc83, hf⟩ := ob_some hf
        refine h_callV hM [vi x1] dX0_net_83 cs_SlimeNet_284_3 hk83 (m_X2_sure hc83) rfl rfl rfl rfl ?_
        cases hf
        exact h_iret hM dX0_net_86 hr rfl rfl
      rw [if_neg hc2] at hf
      by_cases hc3 : x2 = (3 : Int32)
      · rw [if_pos hc3] at hf
        refine g_tblI hX dX0_net_21 (3 : Int32) 3 (66) 87 (by decide) (by decide) rfl (by decide) hc3 ?_
        refine g_aload_n hX dX0_net_87 (lg_at 0 rfl) ?_
        refine g_getR hX hf fs_SlimeNet_27_1 rfl dX0_net_88 (fun v88 hf => ?_)
        refine g_iload_n hX dX0_net_91 (lg_at 1 rfl) ?_
        obtain ⟨k92, hk92, hf⟩ := ob_some hf
        obtain ⟨v92, hc92, hf⟩ := ob_some hf
        refine h_callV hM [vi x1] dX0_net_92 cs_SlimeNet_279_3 hk92 (m_X2_joins hc92) rfl rfl rfl rfl ?_
        refine g_if_eq hX dX0_net_95 109 hf (by decide) (fun c95 hf => ?_) (fun c95 hf => ?_)
        · refine g_iconst hX dX0_net_109 (-1 : Int32) (by decide) ?_
          exact g_pick (w_f_X0_net_110 hM hf hr) [] rfl
        · refine g_aload_n hX dX0_net_98 (lg_at 0 rfl) ?_
          refine g_getR hX hf fs_SlimeNet_27_1 rfl dX0_net_99 (fun v99 hf => ?_)
          refine g_iload_n hX dX0_net_102 (lg_at 1 rfl) ?_
          obtain ⟨k103, hk103, hf⟩ := ob_some hf
          obtain ⟨⟨v103, A103⟩, hc103, hf⟩ := ob_some hf
          refine h_callV hM [vi x1] dX0_net_103 cs_SlimeNet_299_3 hk103 (m_X2_ways hc103) rfl rfl rfl rfl ?_
          dsimp only at hf
          refine g_goto hX dX0_net_106 110 (by decide) ?_
          exact g_pick (w_f_X0_net_110 hM hf hr) [] rfl
      rw [if_neg hc3] at hf
      cases hf
    · exact g_pick (w_f_X0_net_17 hM hf hr) [] rfl

theorem m_X0_net {l : Launch} {this : Nat} {x1 : Int32} {x2 : Int32} {A : AH} {out : Int32 × AH} (h : f_X0_net this x1 x2 A = some out) : MetF l yX0_net (Cond.code yX0_net cX0_net 3 (some Jvm.ClassFile.FieldType.int)) rm_X0_net [vr (some this), vi x1, vi x2] A (r_X0_net A out) :=
  metF_of rfl rfl (Nat.le_of_ble_eq_true rfl) fun X hX hl hR hnm hr h1 h2 hno => w_f_X0_net (X := X) ⟨hX, hR, h1, h2, fun _ => ⟨hnm, hno⟩⟩ h hr

/-! SlimeNetModel.isNet(I)Z -/
def rm_X4_isNet : Room := { frames := 2, cells := 0, slots := 0, locals := 49 }
def r_X4_isNet (A : AH) (o : Int32) : (Option AV × AH) ⊕ (Nat × AH) := .inl (some (vi o), A)
set_option maxRecDepth 100000 in
theorem w_f_X4_isNet {X : Ctx} (hM : MX X yX4_isNet cX4_isNet 2 "SlimeNetModel" (some Jvm.ClassFile.FieldType.boolean) rm_X4_isNet []) {this : Nat} {x1 : Int32} {A : AH} {out : Int32} (hf : f_X4_isNet this x1 A = some out) (hr : c_res X = r_X4_isNet A out) : G X 0 0 0 [(0, vr (some this)), (1, vi x1)] [] A := by
  have hX := hM.1
  unfold f_X4_isNet at hf
  refine g_iload_n hX dX4_isNet_0 (lg_at 1 rfl) ?_
  refine g_i2l hX dX4_isNet_1 ?_
  refine g_lconst hX dX4_isNet_2 (0 : Int64) (by decide) ?_
  refine g_lconst hX dX4_isNet_3 (1 : Int64) (by decide) ?_
  refine g_aload_n hX dX4_isNet_4 (lg_at 0 rfl) ?_
  refine g_getI hX hf fs_SlimeNetModel_297_5 rfl dX4_isNet_5 (fun v5 hf => ?_)
  refine g_lshl hX dX4_isNet_8 ?_
  refine g_lconst hX dX4_isNet_9 (1 : Int64) (by decide) ?_
  refine g_lsub hX dX4_isNet_10 ?_
  obtain ⟨v11, hc11, hf⟩ := ob_some hf
  refine h_callS hM [vl (Int32.toInt64 x1), vl (0 : Int64), vl (((1 : Int64) <<< (Int32.toInt64 v5 &&& 63)) - (1 : Int64))] dX4_isNet_11 cs_SlimeNetModel_52_s (m_X4_in hc11) rfl rfl rfl rfl ?_
  obtain ⟨w14, hz14, hf⟩ := ob_some hf
  cases hf
  exact h_zret hM dX4_isNet_14 hr rfl (ckZ_nar hz14).2 rfl

theorem m_X4_isNet {l : Launch} {this : Nat} {x1 : Int32} {A : AH} {out : Int32} (h : f_X4_isNet this x1 A = some out) : MetF l yX4_isNet (Cond.code yX4_isNet cX4_isNet 2 (some Jvm.ClassFile.FieldType.boolean)) rm_X4_isNet [vr (some this), vi x1] A (r_X4_isNet A out) :=
  metF_of rfl rfl (Nat.le_of_ble_eq_true rfl) fun X hX hl hR hnm hr h1 h2 hno => w_f_X4_isNet (X := X) ⟨hX, hR, h1, h2, fun _ => ⟨hnm, hno⟩⟩ h hr

/-! SlimeNetModel.lengthOf(I)I -/
def rm_X4_lengthOf : Room := { frames := 1, cells := 0, slots := 0, locals := 24 }
def r_X4_lengthOf (A : AH) (o : Int32) : (Option AV × AH) ⊕ (Nat × AH) := .inl (some (vi o), A)
def k_X4_lengthOf_4 (X : Ctx) (this : Nat) (x1 : Int32) (A : AH) : ((Int32 × Int32) ⊕ (Int32)) → Prop
  | .inl (x2, x3) => G X 0 0 4 [(0, vr (some this)), (1, vi x1), (2, vi x2), (3, vi x3)] [] A
  | .inr x2 => G X 0 0 40 [(2, vi x2)] [] A

set_option maxRecDepth 100000 in
theorem w_f_X4_lengthOf_32 {X : Ctx} (hM : MX X yX4_lengthOf cX4_lengthOf 4 "SlimeNetModel" (some Jvm.ClassFile.FieldType.int) rm_X4_lengthOf []) {this : Nat} {x1 : Int32} {x3 : Int32} {t0 : Int32} {t1 : Int32} {A : AH} {out : (Int32 × Int32) ⊕ (Int32)} (hf : f_X4_lengthOf_32 this x1 x3 t0 t1 A = some out) (K : k_X4_lengthOf_4 X this x1 A out) : G X 0 0 32 [(0, vr (some this)), (1, vi x1), (3, vi x3)] [vi t0, vi t1] A := by
  have hX := hM.1
  unfold f_X4_lengthOf_32 at hf
  refine g_iadd hX dX4_lengthOf_32 ?_
  refine g_istore_n hX dX4_lengthOf_33 [(2, vi (t1 + t0)), (0, vr (some this)), (1, vi x1), (3, vi x3)] (by decide) rfl ?_
  refine g_iinc hX dX4_lengthOf_34 (1 : Int32) (x3 + (1 : Int32)) [(3, vi (x3 + (1 : Int32))), (2, vi (t1 + t0)), (0, vr (some this)), (1, vi x1)] (by decide) rfl (lg_at 3 rfl) (by decide) rfl ?_
  refine g_goto hX dX4_lengthOf_37 4 (by decide) ?_
  cases hf
  exact g_pick (show G X _ _ _ _ _ _ from K) [2, 3, 1, 0] rfl

set_option maxRecDepth 100000 in
theorem w_s_X4_lengthOf_4 {X : Ctx} (hM : MX X yX4_lengthOf cX4_lengthOf 4 "SlimeNetModel" (some Jvm.ClassFile.FieldType.int) rm_X4_lengthOf []) {this : Nat} {x1 : Int32} {A : AH} {st : Int32 × Int32} {out : (Int32 × Int32) ⊕ (Int32)} (hf : s_X4_lengthOf_4 this x1 A st = some out) (K : k_X4_lengthOf_4 X this x1 A out) : k_X4_lengthOf_4 X this x1 A (.inl st) := by
  have hX := hM.1
  obtain ⟨x2, x3⟩ := st
  unfold s_X4_lengthOf_4 at hf
  dsimp only at hf
  show G X 0 0 4 [(0, vr (some this)), (1, vi x1), (2, vi x2), (3, vi x3)] [] A
  refine g_iload_n hX dX4_lengthOf_4 (lg_at 3 rfl) ?_
  refine g_aload_n hX dX4_lengthOf_5 (lg_at 0 rfl) ?_
  refine g_getI hX hf fs_SlimeNetModel_297_5 rfl dX4_lengthOf_6 (fun v6 hf => ?_)
  refine g_icmp_ge hX dX4_lengthOf_9 40 hf (by decide) (fun c9 hf => ?_) (fun c9 hf => ?_)
  · cases hf
    exact g_pick (show G X _ _ _ _ _ _ from K) [2] rfl
  · refine g_iload_n hX dX4_lengthOf_12 (lg_at 2 rfl) ?_
    refine g_iload_n hX dX4_lengthOf_13 (lg_at 1 rfl) ?_
    refine g_iload_n hX dX4_lengthOf_14 (lg_at 3 rfl) ?_
    refine g_ishr hX dX4_lengthOf_15 ?_
    refine g_iconst hX dX4_lengthOf_16 (1 : Int32) (by decide) ?_
    refine g_iand hX dX4_lengthOf_17 ?_
    refine g_iconst hX dX4_lengthOf_18 (1 : Int32) (by decide) ?_
    refine g_icmp_ne hX dX4_lengthOf_19 31 hf (by decide) (fun c19 hf => ?_) (fun c19 hf => ?_)
    · refine g_iconst hX dX4_lengthOf_31 (0 : Int32) (by decide) ?_
      exact g_pick (w_f_X4_lengthOf_32 hM hf K) [0, 1, 3] rfl
    · refine g_aload_n hX dX4_lengthOf_22 (lg_at 0 rfl) ?_
      refine g_getR hX hf fs_SlimeNetModel_194_5 rfl dX4_lengthOf_23 (fun v23 hf => ?_)
      refine g_iload_n hX dX4_lengthOf_26 (lg_at 3 rfl) ?_
      refine g_iald hX hf dX4_lengthOf_27 (fun v27 hf => ?_)
      refine g_goto hX dX4_lengthOf_28 32 (by decide) ?_
      exact g_pick (w_f_X4_lengthOf_32 hM hf K) [0, 1, 3] rfl

set_option maxRecDepth 100000 in
theorem w_l_X4_lengthOf_4 {X : Ctx} (hM : MX X yX4_lengthOf cX4_lengthOf 4 "SlimeNetModel" (some Jvm.ClassFile.FieldType.int) rm_X4_lengthOf []) {this : Nat} {x1 : Int32} {x2 : Int32} {x3 : Int32} {A : AH} {out : Int32} (hf : l_X4_lengthOf_4 this x1 x2 x3 A = some out) (hr : c_res X = r_X4_lengthOf A out) : G X 0 0 4 [(0, vr (some this)), (1, vi x1), (2, vi x2), (3, vi x3)] [] A := by
  have hX := hM.1
  unfold l_X4_lengthOf_4 at hf
  obtain ⟨e, hw, hf⟩ := ob_some hf
  refine (whl_ind (k_X4_lengthOf_4 X this x1 A) (fun st o hs K => w_s_X4_lengthOf_4 hM hs K) hw ?_ : k_X4_lengthOf_4 X this x1 A (.inl (x2, x3)))
  revert hf hw; generalize e = x2; intro hw hf
  dsimp only at hf
  show G X 0 0 40 [(2, vi x2)] [] A
  refine g_iload_n hX dX4_lengthOf_40 (lg_at 0 rfl) ?_
  cases hf
  exact h_iret hM dX4_lengthOf_41 hr rfl rfl

set_option maxRecDepth 100000 in
theorem w_f_X4_lengthOf {X : Ctx} (hM : MX X yX4_lengthOf cX4_lengthOf 4 "SlimeNetModel" (some Jvm.ClassFile.FieldType.int) rm_X4_lengthOf []) {this : Nat} {x1 : Int32} {A : AH} {out : Int32} (hf : f_X4_lengthOf this x1 A = some out) (hr : c_res X = r_X4_lengthOf A out) : G X 0 0 0 [(0, vr (some this)), (1, vi x1)] [] A := by
  have hX := hM.1
  unfold f_X4_lengthOf at hf
  refine g_iconst hX dX4_lengthOf_0 (0 : Int32) (by decide) ?_
  refine g_istore_n hX dX4_lengthOf_1 [(2, vi (0 : Int32)), (0, vr (some this)), (1, vi x1)] (by decide) rfl ?_
  refine g_iconst hX dX4_lengthOf_2 (0 : Int32) (by decide) ?_
  refine g_istore_n hX dX4_lengthOf_3 [(3, vi (0 : Int32)), (2, vi (0 : Int32)), (0, vr (some this)), (1, vi x1)] (by decide) rfl ?_
  exact g_pick (w_l_X4_lengthOf_4 hM hf hr) [2, 3, 1, 0] rfl

theorem m_X4_lengthOf {l : Launch} {this : Nat} {x1 : Int32} {A : AH} {out : Int32} (h : f_X4_lengthOf this x1 A = some out) : MetF l yX4_lengthOf (Cond.code yX4_lengthOf cX4_lengthOf 4 (some Jvm.ClassFile.FieldType.int)) rm_X4_lengthOf [vr (some this), vi x1] A (r_X4_lengthOf A out) :=
  metF_of rfl rfl (Nat.le_of_ble_eq_true rfl) fun X hX hl hR hnm hr h1 h2 hno => w_f_X4_lengthOf (X := X) ⟨hX, hR, h1, h2, fun _ => ⟨hnm, hno⟩⟩ h hr

/-! SlimeNetModel.joins(I)Z -/
def rm_X4_joins : Room := { frames := 2, cells := 0, slots := 0, locals := 49 }
def r_X4_joins (A : AH) (o : Int32) : (Option AV × AH) ⊕ (Nat × AH) := .inl (some (vi o), A)
def k_X4_joins_24 (X : Ctx) (this : Nat) (x2 : Int32) (A : AH) : ((Int32) ⊕ ((Unit) ⊕ (Unit))) → Prop
  | .inl x3 => G X 0 0 24 [(0, vr (some this)), (2, vi x2), (3, vi x3)] [] A
  | .inr (.inl ()) => G X 0 0 45 [] [] A
  | .inr (.inr ()) => G X 0 0 53 [] [] A

set_option maxRecDepth 100000 in
theorem w_s_X4_joins_24 {X : Ctx} (hM : MX X yX4_joins cX4_joins 4 "SlimeNetModel" (some Jvm.ClassFile.FieldType.boolean) rm_X4_joins []) {this : Nat} {x2 : Int32} {A : AH} {st : Int32} {out : (Int32) ⊕ ((Unit) ⊕ (Unit))} (hf : s_X4_joins_24 this x2 A st = some out) (K : k_X4_joins_24 X this x2 A out) : k_X4_joins_24 X this x2 A (.inl st) := by
  have hX := hM.1
  revert hf; generalize st = x3; intro hf
  unfold s_X4_joins_24 at hf
  dsimp only at hf
  show G X 0 0 24 [(0, vr (some this)), (2, vi x2), (3, vi x3)] [] A
  refine g_iload_n hX dX4_joins_24 (lg_at 2 rfl) ?_
  refine g_aload_n hX dX4_joins_25 (lg_at 0 rfl) ?_
  refine g_getI hX hf fs_SlimeNetModel_300_5 rfl dX4_joins_26 (fun v26 hf => ?_)
  refine g_icmp_ge hX dX4_joins_29 53 hf (by decide) (fun c29 hf => ?_) (fun c29 hf => ?_)
  · cases hf
    exact g_pick (show G X _ _ _ _ _ _ from K) [] rfl
  · refine g_iload_n hX dX4_joins_32 (lg_at 1 rfl) ?_
    refine g_aload_n hX dX4_joins_33 (lg_at 0 rfl) ?_
    refine g_getR hX hf fs_SlimeNetModel_197_5 rfl dX4_joins_34 (fun v34 hf => ?_)
    refine g_iload_n hX dX4_joins_37 (lg_at 2 rfl) ?_
    refine g_iald hX hf dX4_joins_38 (fun v38 hf => ?_)
    refine g_ishr hX dX4_joins_39 ?_
    refine g_iconst hX dX4_joins_40 (1 : Int32) (by decide) ?_
    refine g_iand hX dX4_joins_41 ?_
    refine g_if_ne hX dX4_joins_42 47 hf (by decide) (fun c42 hf => ?_) (fun c42 hf => ?_)
    · refine g_iinc hX dX4_joins_47 (1 : Int32) (x3 + (1 : Int32)) [(3, vi (x3 + (1 : Int32))), (0, vr (some this)), (2, vi x2)] (by decide) rfl (lg_at 2 rfl) (by decide) rfl ?_
      refine g_goto hX dX4_joins_50 24 (by decide) ?_
      cases hf
      exact g_pick (show G X _ _ _ _ _ _ from K) [1, 2, 0] rfl
    · cases hf
      exact g_pick (show G X _ _ _ _ _ _ from K) [] rfl

set_option maxRecDepth 100000 in
theorem w_l_X4_joins_24 {X : Ctx} (hM : MX X yX4_joins cX4_joins 4 "SlimeNetModel" (some Jvm.ClassFile.FieldType.boolean) rm_X4_joins []) {this : Nat} {x2 : Int32} {x3 : Int32} {A : AH} {out : Int32} (hf : l_X4_joins_24 this x2 x3 A = some out) (hr : c_res X = r_X4_joins A out) : G X 0 0 24 [(0, vr (some this)), (2, vi x2), (3, vi x3)] [] A := by
  have hX := hM.1
  unfold l_X4_joins_24 at hf
  obtain ⟨e, hw, hf⟩ := ob_some hf
  refine (whl_ind (k_X4_joins_24 X this x2 A) (fun st o hs K => w_s_X4_joins_24 hM hs K) hw ?_ : k_X4_joins_24 X this x2 A (.inl x3))
  rcases e with ⟨⟩ | ⟨⟩
  · dsimp only at hf
    show G X 0 0 45 [] [] A
    refine g_iconst hX dX4_joins_45 (0 : Int32) (by decide) ?_
    cases hf
    exact h_zret hM dX4_joins_46 hr rfl (by decide) rfl
  · dsimp only at hf
    show G X 0 0 53 [] [] A
    refine g_iconst hX dX4_joins_53 (1 : Int32) (by decide) ?_
    cases hf
    exact h_zret hM dX4_joins_54 hr rfl (by decide) rfl

set_option maxRecDepth 100000 in
theorem w_f_X4_joins {X : Ctx} (hM : MX X yX4_joins cX4_joins 4 "SlimeNetModel" (some Jvm.ClassFile.FieldType.boolean) rm_X4_joins []) {this : Nat} {x1 : Int32} {A : AH} {out : Int32} (hf : f_X4_joins this x1 A = some out) (hr : c_res X = r_X4_joins A out) : G X 0 0 0 [(0, vr (some this)), (1, vi x1)] [] A := by
  have hX := hM.1
  unfold f_X4_joins at hf
  refine g_aload_n hX dX4_joins_0 (lg_at 0 rfl) ?_
  refine g_getI hX hf fs_SlimeNetModel_300_5 rfl dX4_joins_1 (fun v1 hf => ?_)
  refine g_iconst hX dX4_joins_4 (2 : Int32) (by decide) ?_
  refine g_icmp_ge hX dX4_joins_5 10 hf (by decide) (fun c5 hf => ?_) (fun c5 hf => ?_)
  · refine g_aload_n hX dX4_joins_10 (lg_at 0 rfl) ?_
    refine g_iload_n hX dX4_joins_11 (lg_at 1 rfl) ?_
    refine g_aload_n hX dX4_joins_12 (lg_at 0 rfl) ?_
    refine g_getR hX hf fs_SlimeNetModel_197_5 rfl dX4_joins_13 (fun v13 hf => ?_)
    refine g_iconst hX dX4_joins_16 (0 : Int32) (by decide) ?_
    refine g_iald hX hf dX4_joins_17 (fun v17 hf => ?_)
    obtain ⟨k18, hk18, hf⟩ := ob_some hf
    obtain ⟨v18, hc18, hf⟩ := ob_some hf
    refine h_callV hM [vi x1, vi v17] dX4_joins_18 cs_SlimeNetModel_355_5 hk18 (m_X4_reach hc18) rfl rfl rfl rfl ?_
    refine g_istore_n hX dX4_joins_21 [(2, vi v18), (0, vr (some this)), (1, vi x1)] (by decide) rfl ?_
    refine g_iconst hX dX4_joins_22 (1 : Int32) (by decide) ?_
    refine g_istore_n hX dX4_joins_23 [(3, vi (1 : Int32)), (2, vi v18), (0, vr (some this)), (1, vi x1)] (by decide) rfl ?_
    exact g_pick (w_l_X4_joins_24 hM hf hr) [2, 1, 0] rfl
  · refine g_iconst hX dX4_joins_8 (1 : Int32) (by decide) ?_
    cases hf
    exact h_zret hM dX4_joins_9 hr rfl (by decide) rfl

theorem m_X4_joins {l : Launch} {this : Nat} {x1 : Int32} {A : AH} {out : Int32} (h : f_X4_joins this x1 A = some out) : MetF l yX4_joins (Cond.code yX4_joins cX4_joins 4 (some Jvm.ClassFile.FieldType.boolean)) rm_X4_joins [vr (some this), vi x1] A (r_X4_joins A out) :=
  metF_of rfl rfl (Nat.le_of_ble_eq_true rfl) fun X hX hl hR hnm hr h1 h2 hno => w_f_X4_joins (X := X) ⟨hX, hR, h1, h2, fun _ => ⟨hnm, hno⟩⟩ h hr

/-! SlimeNetModel.sureOf(I)I -/
def rm_X4_sureOf : Room := { frames := 3, cells := 0, slots := 0, locals := 72 }
def r_X4_sureOf (A : AH) (o : Int32) : (Option AV × AH) ⊕ (Nat × AH) := .inl (some (vi o), A)
def k_X4_sureOf_14 (X : Ctx) (this : Nat) (x1 : Int32) (A : AH) : ((Int32 × Int32) ⊕ (Int32)) → Prop
  | .inl (x2, x3) => G X 0 0 14 [(0, vr (some this)), (1, vi x1), (2, vi x2), (3, vi x3)] [] A
  | .inr x2 => G X 0 0 59 [(2, vi x2)] [] A

set_option maxRecDepth 100000 in
theorem w_f_X4_sureOf_51 {X : Ctx} (hM : MX X yX4_sureOf cX4_sureOf 4 "SlimeNetModel" (some Jvm.ClassFile.FieldType.int) rm_X4_sureOf []) {this : Nat} {x1 : Int32} {x3 : Int32} {t0 : Int32} {t1 : Int32} {A : AH} {out : (Int32 × Int32) ⊕ (Int32)} (hf : f_X4_sureOf_51 this x1 x3 t0 t1 A = some out) (K : k_X4_sureOf_14 X this x1 A out) : G X 0 0 51 [(0, vr (some this)), (1, vi x1), (3, vi x3)] [vi t0, vi t1] A := by
  have hX := hM.1
  unfold f_X4_sureOf_51 at hf
  refine g_iadd hX dX4_sureOf_51 ?_
  refine g_istore_n hX dX4_sureOf_52 [(2, vi (t1 + t0)), (0, vr (some this)), (1, vi x1), (3, vi x3)] (by decide) rfl ?_
  refine g_iinc hX dX4_sureOf_53 (1 : Int32) (x3 + (1 : Int32)) [(3, vi (x3 + (1 : Int32))), (2, vi (t1 + t0)), (0, vr (some this)), (1, vi x1)] (by decide) rfl (lg_at 3 rfl) (by decide) rfl ?_
  refine g_goto hX dX4_sureOf_56 14 (by decide) ?_
  cases hf
  exact g_pick (show G X _ _ _ _ _ _ from K) [2, 3, 1, 0] rfl

set_option maxRecDepth 100000 in
theorem w_f_X4_sureOf_50 {X : Ctx} (hM : MX X yX4_sureOf cX4_sureOf 4 "SlimeNetModel" (some Jvm.ClassFile.FieldType.int) rm_X4_sureOf []) {this : Nat} {x1 : Int32} {x3 : Int32} {t0 : Int32} {A : AH} {out : (Int32 × Int32) ⊕ (Int32)} (hf : f_X4_sureOf_50 this x1 x3 t0 A = some out) (K : k_X4_sureOf_14 X this x1 A out) : G X 0 0 50 [(0, vr (some this)), (1, vi x1), (3, vi x3)] [vi t0] A := by
  have hX := hM.1
  unfold f_X4_sureOf_50 at hf
  refine g_iconst hX dX4_sureOf_50 (0 : Int32) (by decide) ?_
  exact g_pick (w_f_X4_sureOf_51 hM hf K) [0, 1, 2] rfl

set_option maxRecDepth 100000 in
theorem w_s_X4_sureOf_14 {X : Ctx} (hM : MX X yX4_sureOf cX4_sureOf 4 "SlimeNetModel" (some Jvm.ClassFile.FieldType.int) rm_X4_sureOf []) {this : Nat} {x1 : Int32} {A : AH} {st : Int32 × Int32} {out : (Int32 × Int32) ⊕ (Int32)} (hf : s_X4_sureOf_14 this x1 A st = some out) (K : k_X4_sureOf_14 X this x1 A out) : k_X4_sureOf_14 X this x1 A (.inl st) := by
  have hX := hM.1
  obtain ⟨x2, x3⟩ := st
  unfold s_X4_sureOf_14 at hf
  dsimp only at hf
  show G X 0 0 14 [(0, vr (some this)), (1, vi x1), (2, vi x2), (3, vi x3)] [] A
  refine g_iload_n hX dX4_sureOf_14 (lg_at 3 rfl) ?_
  refine g_aload_n hX dX4_sureOf_15 (lg_at 0 rfl) ?_
  refine g_getI hX hf fs_SlimeNetModel_297_5 rfl dX4_sureOf_16 (fun v16 hf => ?_)
  refine g_icmp_ge hX dX4_sureOf_19 59 hf (by decide) (fun c19 hf => ?_) (fun c19 hf => ?_)
  · cases hf
    exact g_pick (show G X _ _ _ _ _ _ from K) [2] rfl
  · refine g_iload_n hX dX4_sureOf_22 (lg_at 2 rfl) ?_
    refine g_iload_n hX dX4_sureOf_23 (lg_at 1 rfl) ?_
    refine g_iload_n hX dX4_sureOf_24 (lg_at 3 rfl) ?_
    refine g_ishr hX dX4_sureOf_25 ?_
    refine g_iconst hX dX4_sureOf_26 (1 : Int32) (by decide) ?_
    refine g_iand hX dX4_sureOf_27 ?_
    refine g_iconst hX dX4_sureOf_28 (1 : Int32) (by decide) ?_
    refine g_icmp_ne hX dX4_sureOf_29 50 hf (by decide) (fun c29 hf => ?_) (fun c29 hf => ?_)
    · exact g_pick (w_f_X4_sureOf_50 hM hf K) [0, 1, 3] rfl
    · refine g_aload_n hX dX4_sureOf_32 (lg_at 0 rfl) ?_
      refine g_iload_n hX dX4_sureOf_33 (lg_at 1 rfl) ?_
      refine g_iconst hX dX4_sureOf_34 (1 : Int32) (by decide) ?_
      refine g_iload_n hX dX4_sureOf_35 (lg_at 3 rfl) ?_
      refine g_ishl hX dX4_sureOf_36 ?_
      refine g_iconst hX dX4_sureOf_37 (-1 : Int32) (by decide) ?_
      refine g_ixor hX dX4_sureOf_38 ?_
      refine g_iand hX dX4_sureOf_39 ?_
      obtain ⟨k40, hk40, hf⟩ := ob_some hf
      obtain ⟨v40, hc40, hf⟩ := ob_some hf
      refine h_callV hM [vi (x1 &&& (((1 : Int32) <<< (x3 &&& 31)) ^^^ (-1 : Int32)))] dX4_sureOf_40 cs_SlimeNetModel_411_5 hk40 (m_X4_joins hc40) rfl rfl rfl rfl ?_
      refine g_if_eq hX dX4_sureOf_43 50 hf (by decide) (fun c43 hf => ?_) (fun c43 hf => ?_)
      · exact g_pick (w_f_X4_sureOf_50 hM hf K) [0, 1, 3] rfl
      · refine g_iconst hX dX4_sureOf_46 (1 : Int32) (by decide) ?_
        refine g_goto hX dX4_sureOf_47 51 (by decide) ?_
        exact g_pick (w_f_X4_sureOf_51 hM hf K) [0, 1, 3] rfl

set_option maxRecDepth 100000 in
theorem w_l_X4_sureOf_14 {X : Ctx} (hM : MX X yX4_sureOf cX4_sureOf 4 "SlimeNetModel" (some Jvm.ClassFile.FieldType.int) rm_X4_sureOf []) {this : Nat} {x1 : Int32} {x2 : Int32} {x3 : Int32} {A : AH} {out : Int32} (hf : l_X4_sureOf_14 this x1 x2 x3 A = some out) (hr : c_res X = r_X4_sureOf A out) : G X 0 0 14 [(0, vr (some this)), (1, vi x1), (2, vi x2), (3, vi x3)] [] A := by
  have hX := hM.1
  unfold l_X4_sureOf_14 at hf
  obtain ⟨e, hw, hf⟩ := ob_some hf
  refine (whl_ind (k_X4_sureOf_14 X this x1 A) (fun st o hs K => w_s_X4_sureOf_14 hM hs K) hw ?_ : k_X4_sureOf_14 X this x1 A (.inl (x2, x3)))
  revert hf hw; generalize e = x2; intro hw hf
  dsimp only at hf
  show G X 0 0 59 [(2, vi x2)] [] A
  refine g_iload_n hX dX4_sureOf_59 (lg_at 0 rfl) ?_
  cases hf
  exact h_iret hM dX4_sureOf_60 hr rfl rfl

set_option maxRecDepth 100000 in
theorem w_f_X4_sureOf {X : Ctx} (hM : MX X yX4_sureOf cX4_sureOf 4 "SlimeNetModel" (some Jvm.ClassFile.FieldType.int) rm_X4_sureOf []) {this : Nat} {x1 : Int32} {A : AH} {out : Int32} (hf : f_X4_sureOf this x1 A = some out) (hr : c_res X = r_X4_sureOf A out) : G X 0 0 0 [(0, vr (some this)), (1, vi x1)] [] A := by
  have hX := hM.1
  unfold f_X4_sureOf at hf
  refine g_aload_n hX dX4_sureOf_0 (lg_at 0 rfl) ?_
  refine g_iload_n hX dX4_sureOf_1 (lg_at 1 rfl) ?_
  obtain ⟨k2, hk2, hf⟩ := ob_some hf
  obtain ⟨v2, hc2, hf⟩ := ob_some hf
  refine h_callV hM [vi x1] dX4_sureOf_2 cs_SlimeNetModel_411_5 hk2 (m_X4_joins hc2) rfl rfl rfl rfl ?_
  refine g_if_ne hX dX4_sureOf_5 10 hf (by decide) (fun c5 hf => ?_) (fun c5 hf => ?_)
  · refine g_iconst hX dX4_sureOf_10 (0 : Int32) (by decide) ?_
    refine g_istore_n hX dX4_sureOf_11 [(2, vi (0 : Int32)), (0, vr (some this)), (1, vi x1)] (by decide) rfl ?_
    refine g_iconst hX dX4_sureOf_12 (0 : Int32) (by decide) ?_
    refine g_istore_n hX dX4_sureOf_13 [(3, vi (0 : Int32)), (2, vi (0 : Int32)), (0, vr (some this)), (1, vi x1)] (by decide) rfl ?_
    exact g_pick (w_l_X4_sureOf_14 hM hf hr) [2, 3, 1, 0] rfl
  · refine g_iconst hX dX4_sureOf_8 (0 : Int32) (by decide) ?_
    cases hf
    exact h_iret hM dX4_sureOf_9 hr rfl rfl

theorem m_X4_sureOf {l : Launch} {this : Nat} {x1 : Int32} {A : AH} {out : Int32} (h : f_X4_sureOf this x1 A = some out) : MetF l yX4_sureOf (Cond.code yX4_sureOf cX4_sureOf 4 (some Jvm.ClassFile.FieldType.int)) rm_X4_sureOf [vr (some this), vi x1] A (r_X4_sureOf A out) :=
  metF_of rfl rfl (Nat.le_of_ble_eq_true rfl) fun X hX hl hR hnm hr h1 h2 hno => w_f_X4_sureOf (X := X) ⟨hX, hR, h1, h2, fun _ => ⟨hnm, hno⟩⟩ h hr

/-! SlimeNetModel.way(III)I -/
def rm_X4_way : Room := { frames := 1, cells := 0, slots := 0, locals := 24 }
def r_X4_way (_A : AH) (o : Int32 × AH) : (Option AV × AH) ⊕ (Nat × AH) := .inl (some (vi o.1), o.2)
def k_X4_way_3 (X : Ctx) (this : Nat) (x1 : Int32) (x2 : Int32) (x3 : Int32) : ((Int32 × AH) ⊕ (AH)) → Prop
  | .inl (x4, A) => G X 0 0 3 [(0, vr (some this)), (1, vi x1), (2, vi x2), (3, vi x3), (4, vi x4)] [] A
  | .inr A => G X 0 0 36 [(0, vr (some this)), (1, vi x1), (3, vi x3)] [] A

def k_X4_way_39 (X : Ctx) (this : Nat) (x1 : Int32) (x3 : Int32) : ((Int32 × AH) ⊕ (AH)) → Prop
  | .inl (x4, A) => G X 0 0 39 [(0, vr (some this)), (1, vi x1), (3, vi x3), (4, vi x4)] [] A
  | .inr A => G X 0 0 178 [(0, vr (some this)), (3, vi x3)] [] A

def k_X4_way_51 (X : Ctx) (this : Nat) (x1 : Int32) (x3 : Int32) (x4 : Int32) : ((Int32 × AH) ⊕ (AH)) → Prop
  | .inl (x5, A) => G X 0 0 51 [(0, vr (some this)), (1, vi x1), (3, vi x3), (4, vi x4), (5, vi x5)] [] A
  | .inr A => G X 0 0 172 [(0, vr (some this)), (1, vi x1), (3, vi x3), (4, vi x4)] [] A

set_option maxRecDepth 100000 in
theorem w_f_X4_way_29 {X : Ctx} (hM : MX X yX4_way cX4_way 6 "SlimeNetModel" (some Jvm.ClassFile.FieldType.int) rm_X4_way []) {this : Nat} {x1 : Int32} {x2 : Int32} {x3 : Int32} {x4 : Int32} {t0 : Int32} {t1 : Int32} {t2 : Option Nat} {A : AH} {out : (Int32 × AH) ⊕ (AH)} (hf : f_X4_way_29 this x1 x2 x3 x4 t0 t1 t2 A = some out) (K : k_X4_way_3 X this x1 x2 x3 out) : G X 0 0 29 [(0, vr (some this)), (1, vi x1), (2, vi x2), (3, vi x3), (4, vi x4)] [vi t0, vi t1, vr t2] A := by
  have hX := hM.1
  unfold f_X4_way_29 at hf
  refine g_iast hX hf dX4_way_29 (fun A29 hf => ?_)
  refine g_iinc hX dX4_way_30 (1 : Int32) (x4 + (1 : Int32)) [(4, vi (x4 + (1 : Int32))), (0, vr (some this)), (1, vi x1), (2, vi x2), (3, vi x3)] (by decide) rfl (lg_at 4 rfl) (by decide) rfl ?_
  refine g_goto hX dX4_way_33 3 (by decide) ?_
  cases hf
  exact g_pick (show G X _ _ _ _ _ _ from K) [1, 2, 3, 4, 0] rfl

set_option maxRecDepth 100000 in
theorem w_f_X4_way_166 {X : Ctx} (hM : MX X yX4_way cX4_way 6 "SlimeNetModel" (some Jvm.ClassFile.FieldType.int) rm_X4_way []) {this : Nat} {x1 : Int32} {x3 : Int32} {x4 : Int32} {x5 : Int32} {A : AH} {out : (Int32 × AH) ⊕ (AH)} (hf : f_X4_way_166 this x1 x3 x4 x5 A = some out) (K : k_X4_way_51 X this x1 x3 x4 out) : G X 0 0 166 [(0, vr (some this)), (1, vi x1), (3, vi x3), (4, vi x4), (5, vi x5)] [] A := by
  have hX := hM.1
  unfold f_X4_way_166 at hf
  refine g_iinc hX dX4_way_166 (1 : Int32) (x5 + (1 : Int32)) [(5, vi (x5 + (1 : Int32))), (0, vr (some this)), (1, vi x1), (3, vi x3), (4, vi x4)] (by decide) rfl (lg_at 4 rfl) (by decide) rfl ?_
  refine g_goto hX dX4_way_169 51 (by decide) ?_
  cases hf
  exact g_pick (show G X _ _ _ _ _ _ from K) [1, 2, 3, 4, 0] rfl

set_option maxRecDepth 100000 in
theorem w_s_X4_way_51 {X : Ctx} (hM : MX X yX4_way cX4_way 6 "SlimeNetModel" (some Jvm.ClassFile.FieldType.int) rm_X4_way []) {this : Nat} {x1 : Int32} {x3 : Int32} {x4 : Int32} {st : Int32 × AH} {out : (Int32 × AH) ⊕ (AH)} (hf : s_X4_way_51 this x1 x3 x4 st = some out) (K : k_X4_way_51 X this x1 x3 x4 out) : k_X4_way_51 X this x1 x3 x4 (.inl st) := by
  have hX := hM.1
  obtain ⟨x5, A⟩ := st
  unfold s_X4_way_51 at hf
  dsimp only at hf
  show G X 0 0 51 [(0, vr (some this)), (1, vi x1), (3, vi x3), (4, vi x4), (5, vi x5)] [] A
  refine g_iload hX dX4_way_51 (lg_at 4 rfl) ?_
  refine g_aload_n hX dX4_way_53 (lg_at 0 rfl) ?_
  refine g_getI hX hf fs_SlimeNetModel_297_5 rfl dX4_way_54 (fun v54 hf => ?_)
  refine g_icmp_ge hX dX4_way_57 172 hf (by decide) (fun c57 hf => ?_) (fun c57 hf => ?_)
  · cases hf
    exact g_pick (show G X _ _ _ _ _ _ from K) [0, 1, 2, 3] rfl
  · refine g_iload_n hX dX4_way_60 (lg_at 1 rfl) ?_
    refine g_iload hX dX4_way_61 (lg_at 4 rfl) ?_
    refine g_ishr hX dX4_way_63 ?_
    refine g_iconst hX dX4_way_64 (1 : Int32) (by decide) ?_
    refine g_iand hX dX4_way_65 ?_
    refine g_if_ne hX dX4_way_66 72 hf (by decide) (fun c66 hf => ?_) (fun c66 hf => ?_)
    · refine g_aload_n hX dX4_way_72 (lg_at 0 rfl) ?_
      refine g_getR hX hf fs_SlimeNetModel_242_5 rfl dX4_way_73 (fun v73 hf => ?_)
      refine g_aload_n hX dX4_way_76 (lg_at 0 rfl) ?_
      refine g_getR hX hf fs_SlimeNetModel_188_5 rfl dX4_way_77 (fun v77 hf => ?_)
      refine g_iload hX dX4_way_80 (lg_at 4 rfl) ?_
      refine g_iald hX hf dX4_way_82 (fun v82 hf => ?_)
      refine g_aload_n hX dX4_way_83 (lg_at 0 rfl) ?_
      refine g_getR hX hf fs_SlimeNetModel_242_5 rfl dX4_way_84 (fun v84 hf => ?_)
      refine g_aload_n hX dX4_way_87 (lg_at 0 rfl) ?_
      refine g_getR hX hf fs_SlimeNetModel_188_5 rfl dX4_way_88 (fun v88 hf => ?_)
      refine g_iload hX dX4_way_91 (lg_at 4 rfl) ?_
      refine g_iald hX hf dX4_way_93 (fun v93 hf => ?_)
      refine g_iald hX hf dX4_way_94 (fun v94 hf => ?_)
      refine g_aload_n hX dX4_way_95 (lg_at 0 rfl) ?_
      refine g_getR hX hf fs_SlimeNetModel_242_5 rfl dX4_way_96 (fun v96 hf => ?_)
      refine g_aload_n hX dX4_way_99 (lg_at 0 rfl) ?_
      refine g_getR hX hf fs_SlimeNetModel_191_5 rfl dX4_way_100 (fun v100 hf => ?_)
      refine g_iload hX dX4_way_103 (lg_at 4 rfl) ?_
      refine g_iald hX hf dX4_way_105 (fun v105 hf => ?_)
      refine g_iald hX hf dX4_way_106 (fun v106 hf => ?_)
      refine g_aload_n hX dX4_way_107 (lg_at 0 rfl) ?_
      refine g_getR hX hf fs_SlimeNetModel_194_5 rfl dX4_way_108 (fun v108 hf => ?_)
      refine g_iload hX dX4_way_111 (lg_at 4 rfl) ?_
      refine g_iald hX hf dX4_way_113 (fun v113 hf => ?_)
      refine g_iadd hX dX4_way_114 ?_
      refine g_mmin hM dX4_way_115 (lw_LW q1038) (lw_LW q717) (lw_LW q80) (lw_LW q718) rfl rfl ?_
      refine g_iast hX hf dX4_way_118 (fun A118 hf => ?_)
      refine g_aload_n hX dX4_way_119 (lg_at 0 rfl) ?_
      refine g_getR hX hf fs_SlimeNetModel_242_5 rfl dX4_way_120 (fun v120 hf => ?_)
      refine g_aload_n hX dX4_way_123 (lg_at 0 rfl) ?_
      refine g_getR hX hf fs_SlimeNetModel_191_5 rfl dX4_way_124 (fun v124 hf => ?_)
      refine g_iload hX dX4_way_127 (lg_at 4 rfl) ?_
      refine g_iald hX hf dX4_way_129 (fun v129 hf => ?_)
      refine g_aload_n hX dX4_way_130 (lg_at 0 rfl) ?_
      refine g_getR hX hf fs_SlimeNetModel_242_5 rfl dX4_way_131 (fun v131 hf => ?_)
      refine g_aload_n hX dX4_way_134 (lg_at 0 rfl) ?_
      refine g_getR hX hf fs_SlimeNetModel_191_5 rfl dX4_way_135 (fun v135 hf => ?_)
      refine g_iload hX dX4_way_138 (lg_at 4 rfl) ?_
      refine g_iald hX hf dX4_way_140 (fun v140 hf => ?_)
      refine g_iald hX hf dX4_way_141 (fun v141 hf => ?_)
      refine g_aload_n hX dX4_way_142 (lg_at 0 rfl) ?_
      refine g_getR hX hf fs_SlimeNetModel_242_5 rfl dX4_way_143 (fun v143 hf => ?_)
      refine g_aload_n hX dX4_way_146 (lg_at 0 rfl) ?_
      refine g_getR hX hf fs_SlimeNetModel_188_5 rfl dX4_way_147 (fun v147 hf => ?_)
      refine g_iload hX dX4_way_150 (lg_at 4 rfl) ?_
      refine g_iald hX hf dX4_way_152 (fun v152 hf => ?_)
      refine g_iald hX hf dX4_way_153 (fun v153 hf => ?_)
      refine g_aload_n hX dX4_way_154 (lg_at 0 rfl) ?_
      refine g_getR hX hf fs_SlimeNetModel_194_5 rfl dX4_way_155 (fun v155 hf => ?_)
      refine g_iload hX dX4_way_158 (lg_at 4 rfl) ?_
      refine g_iald hX hf dX4_way_160 (fun v160 hf => ?_)
      refine g_iadd hX dX4_way_161 ?_
      refine g_mmin hM dX4_way_162 (lw_LW q1038) (lw_LW q717) (lw_LW q80) (lw_LW q718) rfl rfl ?_
      refine g_iast hX hf dX4_way_165 (fun A165 hf => ?_)
      exact g_pick (w_f_X4_way_166 hM hf K) [0, 1, 2, 3, 4] rfl
    · refine g_goto hX dX4_way_69 166 (by decide) ?_
      exact g_pick (w_f_X4_way_166 hM hf K) [0, 1, 2, 3, 4] rfl

set_option maxRecDepth 100000 in
theorem w_l_X4_way_51 {X : Ctx} (hM : MX X yX4_way cX4_way 6 "SlimeNetModel" (some Jvm.ClassFile.FieldType.int) rm_X4_way []) {this : Nat} {x1 : Int32} {x3 : Int32} {x4 : Int32} {x5 : Int32} {A : AH} {out : (Int32 × AH) ⊕ (AH)} (hf : l_X4_way_51 this x1 x3 x4 x5 A = some out) (K : k_X4_way_39 X this x1 x3 out) : G X 0 0 51 [(0, vr (some this)), (1, vi x1), (3, vi x3), (4, vi x4), (5, vi x5)] [] A := by
  have hX := hM.1
  unfold l_X4_way_51 at hf
  obtain ⟨e, hw, hf⟩ := ob_some hf
  refine (whl_ind (k_X4_way_51 X this x1 x3 x4) (fun st o hs K => w_s_X4_way_51 hM hs K) hw ?_ : k_X4_way_51 X this x1 x3 x4 (.inl (x5, A)))
  revert hf hw; generalize e = A; intro hw hf
  dsimp only at hf
  show G X 0 0 172 [(0, vr (some this)), (1, vi x1), (3, vi x3), (4, vi x4)] [] A
  refine g_iinc hX dX4_way_172 (1 : Int32) (x4 + (1 : Int32)) [(4, vi (x4 + (1 : Int32))), (0, vr (some this)), (1, vi x1), (3, vi x3)] (by decide) rfl (lg_at 3 rfl) (by decide) rfl ?_
  refine g_goto hX dX4_way_175 39 (by decide) ?_
  cases hf
  exact g_pick (show G X _ _ _ _ _ _ from K) [1, 2, 3, 0] rfl

set_option maxRecDepth 100000 in
theorem w_s_X4_way_39 {X : Ctx} (hM : MX X yX4_way cX4_way 6 "SlimeNetModel" (some Jvm.ClassFile.FieldType.int) rm_X4_way []) {this : Nat} {x1 : Int32} {x3 : Int32} {st : Int32 × AH} {out : (Int32 × AH) ⊕ (AH)} (hf : s_X4_way_39 this x1 x3 st = some out) (K : k_X4_way_39 X this x1 x3 out) : k_X4_way_39 X this x1 x3 (.inl st) := by
  have hX := hM.1
  obtain ⟨x4, A⟩ := st
  unfold s_X4_way_39 at hf
  dsimp only at hf
  show G X 0 0 39 [(0, vr (some this)), (1, vi x1), (3, vi x3), (4, vi x4)] [] A
  refine g_iload hX dX4_way_39 (lg_at 3 rfl) ?_
  refine g_aload_n hX dX4_way_41 (lg_at 0 rfl) ?_
  refine g_getI hX hf fs_SlimeNetModel_294_5 rfl dX4_way_42 (fun v42 hf => ?_)
  refine g_icmp_ge hX dX4_way_45 178 hf (by decide) (fun c45 hf => ?_) (fun c45 hf => ?_)
  · cases hf
    exact g_pick (show G X _ _ _ _ _ _ from K) [0, 2] rfl
  · refine g_iconst hX dX4_way_48 (0 : Int32) (by decide) ?_
    refine g_istore hX dX4_way_49 [(5, vi (0 : Int32)), (0, vr (some this)), (1, vi x1), (3, vi x3), (4, vi x4)] (by decide) rfl ?_
    exact g_pick (w_l_X4_way_51 hM hf K) [1, 2, 3, 4, 0] rfl

set_option maxRecDepth 100000 in
theorem w_l_X4_way_39 {X : Ctx} (hM : MX X yX4_way cX4_way 6 "SlimeNetModel" (some Jvm.ClassFile.FieldType.int) rm_X4_way []) {this : Nat} {x1 : Int32} {x3 : Int32} {x4 : Int32} {A : AH} {out : Int32 × AH} (hf : l_X4_way_39 this x1 x3 x4 A = some out) (hr : c_res X = r_X4_way A out) : G X 0 0 39 [(0, vr (some this)), (1, vi x1), (3, vi x3), (4, vi x4)] [] A := by
  have hX := hM.1
  unfold l_X4_way_39 at hf
  obtain ⟨e, hw, hf⟩ := ob_some hf
  refine (whl_ind (k_X4_way_39 X this x1 x3) (fun st o hs K => w_s_X4_way_39 hM hs K) hw ?_ : k_X4_way_39 X this x1 x3 (.inl (x4, A)))
  revert hf hw; generalize e = A; intro hw hf
  dsimp only at hf
  show G X 0 0 178 [(0, vr (some this)), (3, vi x3)] [] A
  refine g_aload_n hX dX4_way_178 (lg_at 0 rfl) ?_
  refine g_getR hX hf fs_SlimeNetModel_242_5 rfl dX4_way_179 (fun v179 hf => ?_)
  refine g_iload_n hX dX4_way_182 (lg_at 1 rfl) ?_
  refine g_iald hX hf dX4_way_183 (fun v183 hf => ?_)
  cases hf
  exact h_iret hM dX4_way_184 hr rfl rfl

set_option maxRecDepth 100000 in
theorem w_s_X4_way_3 {X : Ctx} (hM : MX X yX4_way cX4_way 6 "SlimeNetModel" (some Jvm.ClassFile.FieldType.int) rm_X4_way []) {this : Nat} {x1 : Int32} {x2 : Int32} {x3 : Int32} {st : Int32 × AH} {out : (Int32 × AH) ⊕ (AH)} (hf : s_X4_way_3 this x1 x2 x3 st = some out) (K : k_X4_way_3 X this x1 x2 x3 out) : k_X4_way_3 X this x1 x2 x3 (.inl st) := by
  have hX := hM.1
  obtain ⟨x4, A⟩ := st
  unfold s_X4_way_3 at hf
  dsimp only at hf
  show G X 0 0 3 [(0, vr (some this)), (1, vi x1), (2, vi x2), (3, vi x3), (4, vi x4)] [] A
  refine g_iload hX dX4_way_3 (lg_at 4 rfl) ?_
  refine g_bipush hX dX4_way_5 (6 : Int32) (by decide) ?_
  refine g_icmp_ge hX dX4_way_7 36 hf (by decide) (fun c7 hf => ?_) (fun c7 hf => ?_)
  · cases hf
    exact g_pick (show G X _ _ _ _ _ _ from K) [0, 1, 3] rfl
  · refine g_aload_n hX dX4_way_10 (lg_at 0 rfl) ?_
    refine g_getR hX hf fs_SlimeNetModel_242_5 rfl dX4_way_11 (fun v11 hf => ?_)
    refine g_iload hX dX4_way_14 (lg_at 4 rfl) ?_
    refine g_iload hX dX4_way_16 (lg_at 4 rfl) ?_
    refine g_iload_n hX dX4_way_18 (lg_at 2 rfl) ?_
    refine g_icmp_ne hX dX4_way_19 26 hf (by decide) (fun c19 hf => ?_) (fun c19 hf => ?_)
    · refine g_ldcw hX dX4_way_26 (v := (1000000 : Int32)) (lw_LW q1516) ?_
      exact g_pick (w_f_X4_way_29 hM hf K) [0, 1, 2, 3, 4] rfl
    · refine g_iconst hX dX4_way_22 (0 : Int32) (by decide) ?_
      refine g_goto hX dX4_way_23 29 (by decide) ?_
      exact g_pick (w_f_X4_way_29 hM hf K) [0, 1, 2, 3, 4] rfl

set_option maxRecDepth 100000 in
theorem w_l_X4_way_3 {X : Ctx} (hM : MX X yX4_way cX4_way 6 "SlimeNetModel" (some Jvm.ClassFile.FieldType.int) rm_X4_way []) {this : Nat} {x1 : Int32} {x2 : Int32} {x3 : Int32} {x4 : Int32} {A : AH} {out : Int32 × AH} (hf : l_X4_way_3 this x1 x2 x3 x4 A = some out) (hr : c_res X = r_X4_way A out) : G X 0 0 3 [(0, vr (some this)), (1, vi x1), (2, vi x2), (3, vi x3), (4, vi x4)] [] A := by
  have hX := hM.1
  unfold l_X4_way_3 at hf
  obtain ⟨e, hw, hf⟩ := ob_some hf
  refine (whl_ind (k_X4_way_3 X this x1 x2 x3) (fun st o hs K => w_s_X4_way_3 hM hs K) hw ?_ : k_X4_way_3 X this x1 x2 x3 (.inl (x4, A)))
  revert hf hw; generalize e = A; intro hw hf
  dsimp only at hf
  show G X 0 0 36 [(0, vr (some this)), (1, vi x1), (3, vi x3)] [] A
  refine g_iconst hX dX4_way_36 (0 : Int32) (by decide) ?_
  refine g_istore hX dX4_way_37 [(4, vi (0 : Int32)), (0, vr (some this)), (1, vi x1), (3, vi x3)] (by decide) rfl ?_
  exact g_pick (w_l_X4_way_39 hM hf hr) [1, 2, 3, 0] rfl

set_option maxRecDepth 100000 in
theorem w_f_X4_way {X : Ctx} (hM : MX X yX4_way cX4_way 6 "SlimeNetModel" (some Jvm.ClassFile.FieldType.int) rm_X4_way []) {this : Nat} {x1 : Int32} {x2 : Int32} {x3 : Int32} {A : AH} {out : Int32 × AH} (hf : f_X4_way this x1 x2 x3 A = some out) (hr : c_res X = r_X4_way A out) : G X 0 0 0 [(0, vr (some this)), (1, vi x1), (2, vi x2), (3, vi x3)] [] A := by
  have hX := hM.1
  unfold f_X4_way at hf
  refine g_iconst hX dX4_way_0 (0 : Int32) (by decide) ?_
  refine g_istore hX dX4_way_1 [(4, vi (0 : Int32)), (0, vr (some this)), (1, vi x1), (2, vi x2), (3, vi x3)] (by decide) rfl ?_
  exact g_pick (w_l_X4_way_3 hM hf hr) [1, 2, 3, 4, 0] rfl

theorem m_X4_way {l : Launch} {this : Nat} {x1 : Int32} {x2 : Int32} {x3 : Int32} {A : AH} {out : Int32 × AH} (h : f_X4_way this x1 x2 x3 A = some out) : MetF l yX4_way (Cond.code yX4_way cX4_way 6 (some Jvm.ClassFile.FieldType.int)) rm_X4_way [vr (some this), vi x1, vi x2, vi x3] A (r_X4_way A out) :=
  metF_of rfl rfl (Nat.le_of_ble_eq_true rfl) fun X hX hl hR hnm hr h1 h2 hno => w_f_X4_way (X := X) ⟨hX, hR, h1, h2, fun _ => ⟨hnm, hno⟩⟩ h hr

/-! SlimeNetModel.waysOf(I)I -/
def rm_X4_waysOf : Room := { frames := 3, cells := 0, slots := 0, locals := 72 }
def r_X4_waysOf (_A : AH) (o : Int32 × AH) : (Option AV × AH) ⊕ (Nat × AH) := .inl (some (vi o.1), o.2)
def k_X4_waysOf_14 (X : Ctx) (this : Nat) (x1 : Int32) : ((Int32 × Int32 × AH) ⊕ (Int32 × AH)) → Prop
  | .inl (x2, x3, A) => G X 0 0 14 [(0, vr (some this)), (1, vi x1), (2, vi x2), (3, vi x3)] [] A
  | .inr (x2, A) => G X 0 0 69 [(2, vi x2)] [] A

def k_X4_waysOf_27 (X : Ctx) (this : Nat) (x1 : Int32) (x3 : Int32) : ((Int32 × Int32 × AH) ⊕ (Int32 × AH)) → Prop
  | .inl (x2, x4, A) => G X 0 0 27 [(0, vr (some this)), (1, vi x1), (2, vi x2), (3, vi x3), (4, vi x4)] [] A
  | .inr (x2, A) => G X 0 0 63 [(0, vr (some this)), (1, vi x1), (2, vi x2), (3, vi x3)] [] A

set_option maxRecDepth 100000 in
theorem w_s_X4_waysOf_27 {X : Ctx} (hM : MX X yX4_waysOf cX4_waysOf 5 "SlimeNetModel" (some Jvm.ClassFile.FieldType.int) rm_X4_waysOf []) {this : Nat} {x1 : Int32} {x3 : Int32} {st : Int32 × Int32 × AH} {out : (Int32 × Int32 × AH) ⊕ (Int32 × AH)} (hf : s_X4_waysOf_27 this x1 x3 st = some out) (K : k_X4_waysOf_27 X this x1 x3 out) : k_X4_waysOf_27 X this x1 x3 (.inl st) := by
  have hX := hM.1
  obtain ⟨x2, x4, A⟩ := st
  unfold s_X4_waysOf_27 at hf
  dsimp only at hf
  show G X 0 0 27 [(0, vr (some this)), (1, vi x1), (2, vi x2), (3, vi x3), (4, vi x4)] [] A
  refine g_iload hX dX4_waysOf_27 (lg_at 4 rfl) ?_
  refine g_aload_n hX dX4_waysOf_29 (lg_at 0 rfl) ?_
  refine g_getI hX hf fs_SlimeNetModel_300_5 rfl dX4_waysOf_30 (fun v30 hf => ?_)
  refine g_icmp_ge hX dX4_waysOf_33 63 hf (by decide) (fun c33 hf => ?_) (fun c33 hf => ?_)
  · cases hf
    exact g_pick (show G X _ _ _ _ _ _ from K) [0, 1, 2, 3] rfl
  · refine g_iload_n hX dX4_waysOf_36 (lg_at 2 rfl) ?_
    refine g_aload_n hX dX4_waysOf_37 (lg_at 0 rfl) ?_
    refine g_iload_n hX dX4_waysOf_38 (lg_at 1 rfl) ?_
    refine g_aload_n hX dX4_waysOf_39 (lg_at 0 rfl) ?_
    refine g_getR hX hf fs_SlimeNetModel_197_5 rfl dX4_waysOf_40 (fun v40 hf => ?_)
    refine g_iload_n hX dX4_waysOf_43 (lg_at 3 rfl) ?_
    refine g_iald hX hf dX4_waysOf_44 (fun v44 hf => ?_)
    refine g_aload_n hX dX4_waysOf_45 (lg_at 0 rfl) ?_
    refine g_getR hX hf fs_SlimeNetModel_197_5 rfl dX4_waysOf_46 (fun v46 hf => ?_)
    refine g_iload hX dX4_waysOf_49 (lg_at 4 rfl) ?_
    refine g_iald hX hf dX4_waysOf_51 (fun v51 hf => ?_)
    obtain ⟨k52, hk52, hf⟩ := ob_some hf
    obtain ⟨⟨v52, A52⟩, hc52, hf⟩ := ob_some hf
    refine h_callV hM [vi x1, vi v44, vi v51] dX4_waysOf_52 cs_SlimeNetModel_415_5 hk52 (m_X4_way hc52) rfl rfl rfl rfl ?_
    dsimp only at hf
    refine g_iadd hX dX4_waysOf_55 ?_
    refine g_istore_n hX dX4_waysOf_56 [(2, vi (x2 + v52)), (0, vr (some this)), (1, vi x1), (3, vi x3), (4, vi x4)] (by decide) rfl ?_
    refine g_iinc hX dX4_waysOf_57 (1 : Int32) (x4 + (1 : Int32)) [(4, vi (x4 + (1 : Int32))), (2, vi (x2 + v52)), (0, vr (some this)), (1, vi x1), (3, vi x3)] (by decide) rfl (lg_at 4 rfl) (by decide) rfl ?_
    refine g_goto hX dX4_waysOf_60 27 (by decide) ?_
    cases hf
    exact g_pick (show G X _ _ _ _ _ _ from K) [2, 3, 1, 4, 0] rfl

set_option maxRecDepth 100000 in
theorem w_l_X4_waysOf_27 {X : Ctx} (hM : MX X yX4_waysOf cX4_waysOf 5 "SlimeNetModel" (some Jvm.ClassFile.FieldType.int) rm_X4_waysOf []) {this : Nat} {x1 : Int32} {x3 : Int32} {x2 : Int32} {x4 : Int32} {A : AH} {out : (Int32 × Int32 × AH) ⊕ (Int32 × AH)} (hf : l_X4_waysOf_27 this x1 x3 x2 x4 A = some out) (K : k_X4_waysOf_14 X this x1 out) : G X 0 0 27 [(0, vr (some this)), (1, vi x1), (2, vi x2), (3, vi x3), (4, vi x4)] [] A := by
  have hX := hM.1
  unfold l_X4_waysOf_27 at hf
  obtain ⟨e, hw, hf⟩ := ob_some hf
  refine (whl_ind (k_X4_waysOf_27 X this x1 x3) (fun st o hs K => w_s_X4_waysOf_27 hM hs K) hw ?_ : k_X4_waysOf_27 X this x1 x3 (.inl (x2, x4, A)))
  obtain ⟨x2, A⟩ := e
  dsimp only at hf
  show G X 0 0 63 [(0, vr (some this)), (1, vi x1), (2, vi x2), (3, vi x3)] [] A
  refine g_iinc hX dX4_waysOf_63 (1 : Int32) (x3 + (1 : Int32)) [(3, vi (x3 + (1 : Int32))), (0, vr (some this)), (1, vi x1), (2, vi x2)] (by decide) rfl (lg_at 3 rfl) (by decide) rfl ?_
  refine g_goto hX dX4_waysOf_66 14 (by decide) ?_
  cases hf
  exact g_pick (show G X _ _ _ _ _ _ from K) [1, 2, 3, 0] rfl

set_option maxRecDepth 100000 in
theorem w_s_X4_waysOf_14 {X : Ctx} (hM : MX X yX4_waysOf cX4_waysOf 5 "SlimeNetModel" (some Jvm.ClassFile.FieldType.int) rm_X4_waysOf []) {this : Nat} {x1 : Int32} {st : Int32 × Int32 × AH} {out : (Int32 × Int32 × AH) ⊕ (Int32 × AH)} (hf : s_X4_waysOf_14 this x1 st = some out) (K : k_X4_waysOf_14 X this x1 out) : k_X4_waysOf_14 X this x1 (.inl st) := by
  have hX := hM.1
  obtain ⟨x2, x3, A⟩ := st
  unfold s_X4_waysOf_14 at hf
  dsimp only at hf
  show G X 0 0 14 [(0, vr (some this)), (1, vi x1), (2, vi x2), (3, vi x3)] [] A
  refine g_iload_n hX dX4_waysOf_14 (lg_at 3 rfl) ?_
  refine g_aload_n hX dX4_waysOf_15 (lg_at 0 rfl) ?_
  refine g_getI hX hf fs_SlimeNetModel_300_5 rfl dX4_waysOf_16 (fun v16 hf => ?_)
  refine g_icmp_ge hX dX4_waysOf_19 69 hf (by decide) (fun c19 hf => ?_) (fun c19 hf => ?_)
  · cases hf
    exact g_pick (show G X _ _ _ _ _ _ from K) [2] rfl
  · refine g_iload_n hX dX4_waysOf_22 (lg_at 3 rfl) ?_
    refine g_iconst hX dX4_waysOf_23 (1 : Int32) (by decide) ?_
    refine g_iadd hX dX4_waysOf_24 ?_
    refine g_istore hX dX4_waysOf_25 [(4, vi (x3 + (1 : Int32))), (0, vr (some this)), (1, vi x1), (2, vi x2), (3, vi x3)] (by decide) rfl ?_
    exact g_pick (w_l_X4_waysOf_27 hM hf K) [1, 2, 3, 4, 0] rfl

set_option maxRecDepth 100000 in
theorem w_l_X4_waysOf_14 {X : Ctx} (hM : MX X yX4_waysOf cX4_waysOf 5 "SlimeNetModel" (some Jvm.ClassFile.FieldType.int) rm_X4_waysOf []) {this : Nat} {x1 : Int32} {x2 : Int32} {x3 : Int32} {A : AH} {out : Int32 × AH} (hf : l_X4_waysOf_14 this x1 x2 x3 A = some out) (hr : c_res X = r_X4_waysOf A out) : G X 0 0 14 [(0, vr (some this)), (1, vi x1), (2, vi x2), (3, vi x3)] [] A := by
  have hX := hM.1
  unfold l_X4_waysOf_14 at hf
  obtain ⟨e, hw, hf⟩ := ob_some hf
  refine (whl_ind (k_X4_waysOf_14 X this x1) (fun st o hs K => w_s_X4_waysOf_14 hM hs K) hw ?_ : k_X4_waysOf_14 X this x1 (.inl (x2, x3, A)))
  obtain ⟨x2, A⟩ := e
  dsimp only at hf
  show G X 0 0 69 [(2, vi x2)] [] A
  refine g_iload_n hX dX4_waysOf_69 (lg_at 0 rfl) ?_
  cases hf
  exact h_iret hM dX4_waysOf_70 hr rfl rfl

set_option maxRecDepth 100000 in
theorem w_f_X4_waysOf {X : Ctx} (hM : MX X yX4_waysOf cX4_waysOf 5 "SlimeNetModel" (some Jvm.ClassFile.FieldType.int) rm_X4_waysOf []) {this : Nat} {x1 : Int32} {A : AH} {out : Int32 × AH} (hf : f_X4_waysOf this x1 A = some out) (hr : c_res X = r_X4_waysOf A out) : G X 0 0 0 [(0, vr (some this)), (1, vi x1)] [] A := by
  have hX := hM.1
  unfold f_X4_waysOf at hf
  refine g_aload_n hX dX4_waysOf_0 (lg_at 0 rfl) ?_
  refine g_iload_n hX dX4_waysOf_1 (lg_at 1 rfl) ?_
  obtain ⟨k2, hk2, hf⟩ := ob_some hf
  obtain ⟨v2, hc2, hf⟩ := ob_some hf
  refine h_callV hM [vi x1] dX4_waysOf_2 cs_SlimeNetModel_411_5 hk2 (m_X4_joins hc2) rfl rfl rfl rfl ?_
  refine g_if_ne hX dX4_waysOf_5 10 hf (by decide) (fun c5 hf => ?_) (fun c5 hf => ?_)
  · refine g_iconst hX dX4_waysOf_10 (0 : Int32) (by decide) ?_
    refine g_istore_n hX dX4_waysOf_11 [(2, vi (0 : Int32)), (0, vr (some this)), (1, vi x1)] (by decide) rfl ?_
    refine g_iconst hX dX4_waysOf_12 (0 : Int32) (by decide) ?_
    refine g_istore_n hX dX4_waysOf_13 [(3, vi (0 : Int32)), (2, vi (0 : Int32)), (0, vr (some this)), (1, vi x1)] (by decide) rfl ?_
    exact g_pick (w_l_X4_waysOf_14 hM hf hr) [2, 3, 1, 0] rfl
  · refine g_iconst hX dX4_waysOf_8 (-1 : Int32) (by decide) ?_
    cases hf
    exact h_iret hM dX4_waysOf_9 hr rfl rfl

theorem m_X4_waysOf {l : Launch} {this : Nat} {x1 : Int32} {A : AH} {out : Int32 × AH} (h : f_X4_waysOf this x1 A = some out) : MetF l yX4_waysOf (Cond.code yX4_waysOf cX4_waysOf 5 (some Jvm.ClassFile.FieldType.int)) rm_X4_waysOf [vr (some this), vi x1] A (r_X4_waysOf A out) :=
  metF_of rfl rfl (Nat.le_of_ble_eq_true rfl) fun X hX hl hR hnm hr h1 h2 hno => w_f_X4_waysOf (X := X) ⟨hX, hR, h1, h2, fun _ => ⟨hnm, hno⟩⟩ h hr

