/-! java/util/Arrays.fill([ZZ)V -/
def rm_J12_fill : Room := { frames := 1, cells := 0, slots := 0, locals := 24 }
def r_J12_fill (_A : AH) (o : AH) : (Option AV × AH) ⊕ (Nat × AH) := .inl (none, o)
def k_J12_fill_5 (X : Ctx) (x0 : Option Nat) (x1 : Int32) (x3 : Int32) : ((Int32 × AH) ⊕ (AH)) → Prop
  | .inl (x2, A) => G X 0 0 5 [(0, vr x0), (1, vi x1), (2, vi x2), (3, vi x3)] [] A
  | .inr A => G X 0 0 20 [] [] A

set_option maxRecDepth 100000 in
theorem w_s_J12_fill_5 {X : Ctx} (hM : MX X yJ12_fill cJ12_fill 4 "java/util/Arrays" none rm_J12_fill []) {x0 : Option Nat} {x1 : Int32} {x3 : Int32} {st : Int32 × AH} {out : (Int32 × AH) ⊕ (AH)} (hf : s_J12_fill_5 x0 x1 x3 st = some out) (K : k_J12_fill_5 X x0 x1 x3 out) : k_J12_fill_5 X x0 x1 x3 (.inl st) := by
  have hX := hM.1
  obtain ⟨x2, A⟩ := st
  unfold s_J12_fill_5 at hf
  dsimp only at hf
  show G X 0 0 5 [(0, vr x0), (1, vi x1), (2, vi x2), (3, vi x3)] [] A
  refine g_iload_n hX dJ12_fill_5 (lg_at 2 rfl) ?_
  refine g_iload_n hX dJ12_fill_6 (lg_at 3 rfl) ?_
  refine g_icmp_ge hX dJ12_fill_7 20 hf (by decide) (fun c7 hf => ?_) (fun c7 hf => ?_)
  · cases hf
    exact g_pick (show G X _ _ _ _ _ _ from K) [] rfl
  · refine g_aload_n hX dJ12_fill_10 (lg_at 0 rfl) ?_
    refine g_iload_n hX dJ12_fill_11 (lg_at 2 rfl) ?_
    refine g_iload_n hX dJ12_fill_12 (lg_at 1 rfl) ?_
    refine g_zast hX hf dJ12_fill_13 (fun A13 hf => ?_)
    refine g_iinc hX dJ12_fill_14 (1 : Int32) (x2 + (1 : Int32)) [(2, vi (x2 + (1 : Int32))), (0, vr x0), (1, vi x1), (3, vi x3)] (by decide) rfl (lg_at 2 rfl) (by decide) rfl ?_
    refine g_goto hX dJ12_fill_17 5 (by decide) ?_
    cases hf
    exact g_pick (show G X _ _ _ _ _ _ from K) [1, 2, 0, 3] rfl

set_option maxRecDepth 100000 in
theorem w_l_J12_fill_5 {X : Ctx} (hM : MX X yJ12_fill cJ12_fill 4 "java/util/Arrays" none rm_J12_fill []) {x0 : Option Nat} {x1 : Int32} {x3 : Int32} {x2 : Int32} {A : AH} {out : AH} (hf : l_J12_fill_5 x0 x1 x3 x2 A = some out) (hr : c_res X = r_J12_fill A out) : G X 0 0 5 [(0, vr x0), (1, vi x1), (2, vi x2), (3, vi x3)] [] A := by
  have hX := hM.1
  unfold l_J12_fill_5 at hf
  obtain ⟨e, hw, hf⟩ := ob_some hf
  refine (whl_ind (k_J12_fill_5 X x0 x1 x3) (fun st o hs K => w_s_J12_fill_5 hM hs K) hw ?_ : k_J12_fill_5 X x0 x1 x3 (.inl (x2, A)))
  revert hf hw; generalize e = A; intro hw hf
  dsimp only at hf
  show G X 0 0 20 [] [] A
  cases hf
  exact h_vret hM dJ12_fill_20 hr rfl rfl

set_option maxRecDepth 100000 in
theorem w_f_J12_fill {X : Ctx} (hM : MX X yJ12_fill cJ12_fill 4 "java/util/Arrays" none rm_J12_fill []) {x0 : Option Nat} {x1 : Int32} {A : AH} {out : AH} (hf : f_J12_fill x0 x1 A = some out) (hr : c_res X = r_J12_fill A out) : G X 0 0 0 [(0, vr x0), (1, vi x1)] [] A := by
  have hX := hM.1
  unfold f_J12_fill at hf
  refine g_iconst hX dJ12_fill_0 (0 : Int32) (by decide) ?_
  refine g_istore_n hX dJ12_fill_1 [(2, vi (0 : Int32)), (0, vr x0), (1, vi x1)] (by decide) rfl ?_
  refine g_aload_n hX dJ12_fill_2 (lg_at 1 rfl) ?_
  refine g_alen hX 12 rfl hf dJ12_fill_3 (fun v3 hf => ?_)
  refine g_istore_n hX dJ12_fill_4 [(3, vi v3), (2, vi (0 : Int32)), (0, vr x0), (1, vi x1)] (by decide) rfl ?_
  exact g_pick (w_l_J12_fill_5 hM hf hr) [2, 3, 1, 0] rfl

theorem m_J12_fill {l : Launch} {x0 : Option Nat} {x1 : Int32} {A : AH} {out : AH} (h : f_J12_fill x0 x1 A = some out) : MetF l yJ12_fill (Cond.code yJ12_fill cJ12_fill 4 none) rm_J12_fill [vr x0, vi x1] A (r_J12_fill A out) :=
  metF_of rfl rfl (Nat.le_of_ble_eq_true rfl) fun X hX hl hR hnm hr h1 h2 hno => w_f_J12_fill (X := X) ⟨hX, hR, h1, h2, fun _ => ⟨hnm, hno⟩⟩ h hr

/-! SlimeNet.plate()I -/
def rm_X0_plate : Room := { frames := 9, cells := 710, slots := 5321, locals := 194 }
def r_X0_plate (_A : AH) (o : Int32 × AH) : (Option AV × AH) ⊕ (Nat × AH) := .inl (some (vi o.1), o.2)
set_option maxRecDepth 100000 in
theorem w_f_X0_plate_39 {X : Ctx} (hM : MX X yX0_plate cX0_plate 3 "SlimeNet" (some Jvm.ClassFile.FieldType.int) rm_X0_plate (tableOf [((20), (36), (39), (7))])) {this : Nat} {t0 : Option Nat} {A : AH} {out : Int32 × AH} (hf : f_X0_plate_39 this t0 A = some out) (hr : c_res X = r_X0_plate A out) : G X 710 5321 39 [(0, vr (some this))] [vr t0] A := by
  have hX := hM.1
  unfold f_X0_plate_39 at hf
  refine g_astore_n hX dX0_plate_39 [(2, vr t0), (0, vr (some this))] (by decide) rfl ?_
  refine g_aload_n hX dX0_plate_40 (lg_at 1 rfl) ?_
  refine g_aload_n hX dX0_plate_41 (lg_at 0 rfl) ?_
  refine g_getI hX hf fs_SlimeNet_115_2 rfl dX0_plate_42 (fun v42 hf => ?_)
  refine g_putI hX hf fs_SlimeNet_103_1 ⟨_, rfl, Or.inl rfl⟩ rfl dX0_plate_45 (fun A45 hf => ?_)
  refine g_aload_n hX dX0_plate_48 (lg_at 1 rfl) ?_
  refine g_aload_n hX dX0_plate_49 (lg_at 0 rfl) ?_
  refine g_getI hX hf fs_SlimeNet_118_2 rfl dX0_plate_50 (fun v50 hf => ?_)
  refine g_putI hX hf fs_SlimeNet_20_1 ⟨_, rfl, Or.inl rfl⟩ rfl dX0_plate_53 (fun A53 hf => ?_)
  refine g_iconst hX dX0_plate_56 (-1 : Int32) (by decide) ?_
  cases hf
  exact h_iret hM dX0_plate_57 hr rfl rfl

set_option maxRecDepth 100000 in
theorem w_f_X0_plate {X : Ctx} (hM : MX X yX0_plate cX0_plate 3 "SlimeNet" (some Jvm.ClassFile.FieldType.int) rm_X0_plate (tableOf [((20), (36), (39), (7))])) {this : Nat} {A : AH} {out : Int32 × AH} (hf : f_X0_plate this A = some out) (hr : c_res X = r_X0_plate A out) : G X 0 0 0 [(0, vr (some this))] [] A := by
  have hX := hM.1
  unfold f_X0_plate at hf
  refine g_aload_n hX dX0_plate_0 (lg_at 0 rfl) ?_
  refine g_getI hX hf fs_SlimeNet_96_1 rfl dX0_plate_1 (fun v1 hf => ?_)
  refine g_istore_n hX dX0_plate_4 [(1, vi v1), (0, vr (some this))] (by decide) rfl ?_
  refine g_aload_n hX dX0_plate_5 (lg_at 1 rfl) ?_
  refine g_iconst hX dX0_plate_6 (0 : Int32) (by decide) ?_
  refine g_putI hX hf fs_SlimeNet_96_1 ⟨_, rfl, Or.inl rfl⟩ rfl dX0_plate_7 (fun A7 hf => ?_)
  refine g_aload_n hX dX0_plate_10 (lg_at 1 rfl) ?_
  refine g_iconst hX dX0_plate_11 (0 : Int32) (by decide) ?_
  refine g_putI hX hf fs_SlimeNet_103_1 ⟨_, rfl, Or.inl rfl⟩ rfl dX0_plate_12 (fun A12 hf => ?_)
  refine g_aload_n hX dX0_plate_15 (lg_at 1 rfl) ?_
  refine g_iconst hX dX0_plate_16 (-1 : Int32) (by decide) ?_
  refine g_putI hX hf fs_SlimeNet_20_1 ⟨_, rfl, Or.inl rfl⟩ rfl dX0_plate_17 (fun A17 hf => ?_)
  refine g_aload_n hX dX0_plate_20 (lg_at 1 rfl) ?_
  refine h_newF hM dX0_plate_21 (by decide) rfl (lw_LW q435) (lw_LW q436) (lw_LW q82) rfl hf (fun A21 hf => ?_)
  refine g_dup hX dX0_plate_24 rfl ?_
  refine g_aload_n hX dX0_plate_25 (lg_at 1 rfl) ?_
  refine g_iload_n hX dX0_plate_26 (lg_at 0 rfl) ?_
  obtain ⟨A27, hc27, hf⟩ := ob_some hf
  refine h_callI hM [vr (some this), vi v1] dX0_plate_27 cs_SlimeNet_108_s (m_X6_init hc27) rfl rfl rfl rfl ?_
  obtain ⟨k30, hk30, hf⟩ := ob_some hf
  obtain ⟨q30, hc30, hf⟩ := ob_some hf
  rcases q30 with ⟨v30, A30⟩ | ⟨kx, Ax⟩
  rotate_left
  · refine h_callV hM [] dX0_plate_30 cs_SlimeNet_111_6 hk30 (m_X6_read hc30) rfl rfl rfl rfl ?_
    dsimp only at hf
    exact g_catch hX (hM.2.2.2.2 (by decide)).2 rfl rfl (by decide) (lw_LW q101) q103 (g_pick (w_f_X0_plate_39 hM hf hr) [1] rfl)
  refine h_callV hM [] dX0_plate_30 cs_SlimeNet_111_6 hk30 (m_X6_read hc30) rfl rfl rfl rfl ?_
  dsimp only at hf
  refine g_putR hX hf fs_SlimeNet_27_1 ⟨_, rfl, Or.inl rfl⟩ rfl dX0_plate_33 (fun A33 hf => ?_)
  refine g_goto hX dX0_plate_36 58 (by decide) ?_
  refine g_aload_n hX dX0_plate_58 (lg_at 1 rfl) ?_
  refine g_getR hX hf fs_SlimeNet_34_1 rfl dX0_plate_59 (fun v59 hf => ?_)
  refine g_aload_n hX dX0_plate_62 (lg_at 1 rfl) ?_
  refine g_getR hX hf fs_SlimeNet_27_1 rfl dX0_plate_63 (fun v63 hf => ?_)
  obtain ⟨k66, hk66, hf⟩ := ob_some hf
  obtain ⟨A66, hc66, hf⟩ := ob_some hf
  refine h_callV hM [vr v63] dX0_plate_66 cs_SlimeNet_92_4 hk66 (m_X3_begin hc66) rfl rfl rfl rfl ?_
  refine g_aload_n hX dX0_plate_69 (lg_at 1 rfl) ?_
  refine g_getR hX hf fs_SlimeNet_45_1 rfl dX0_plate_70 (fun v70 hf => ?_)
  refine g_iconst hX dX0_plate_73 (0 : Int32) (by decide) ?_
  obtain ⟨A74, hc74, hf⟩ := ob_some hf
  refine h_callS hM [vr v70, vi (0 : Int32)] dX0_plate_74 cs_SlimeNet_121_s (m_J12_fill hc74) rfl rfl rfl rfl ?_
  refine g_aload_n hX dX0_plate_77 (lg_at 1 rfl) ?_
  refine g_iconst hX dX0_plate_78 (-1 : Int32) (by decide) ?_
  refine g_putI hX hf fs_SlimeNet_49_1 ⟨_, rfl, Or.inl rfl⟩ rfl dX0_plate_79 (fun A79 hf => ?_)
  refine g_aload_n hX dX0_plate_82 (lg_at 1 rfl) ?_
  refine g_iconst hX dX0_plate_83 (0 : Int32) (by decide) ?_
  refine g_putI hX hf fs_SlimeNet_127_1 ⟨_, rfl, Or.inl rfl⟩ rfl dX0_plate_84 (fun A84 hf => ?_)
  refine g_aload_n hX dX0_plate_87 (lg_at 1 rfl) ?_
  refine g_iconst hX dX0_plate_88 (0 : Int32) (by decide) ?_
  refine g_putI hX hf fs_SlimeNet_130_1 ⟨_, rfl, Or.inl rfl⟩ rfl dX0_plate_89 (fun A89 hf => ?_)
  refine g_aload_n hX dX0_plate_92 (lg_at 1 rfl) ?_
  refine g_iconst hX dX0_plate_93 (0 : Int32) (by decide) ?_
  refine g_putI hX hf fs_SlimeNet_133_1 ⟨_, rfl, Or.inl rfl⟩ rfl dX0_plate_94 (fun A94 hf => ?_)
  refine g_aload_n hX dX0_plate_97 (lg_at 1 rfl) ?_
  refine g_iconst hX dX0_plate_98 (0 : Int32) (by decide) ?_
  refine g_putZ hX hf fs_SlimeNet_136_1 ⟨_, rfl, Or.inl rfl⟩ rfl dX0_plate_99 (fun A99 hf => ?_)
  refine g_aload_n hX dX0_plate_102 (lg_at 1 rfl) ?_
  refine g_getR hX hf fs_SlimeNet_27_1 rfl dX0_plate_103 (fun v103 hf => ?_)
  refine g_getI hX hf fs_SlimeNet_140_3 rfl dX0_plate_106 (fun v106 hf => ?_)
  cases hf
  exact h_iret hM dX0_plate_109 hr rfl rfl

theorem m_X0_plate {l : Launch} {this : Nat} {A : AH} {out : Int32 × AH} (h : f_X0_plate this A = some out) : MetF l yX0_plate (Cond.codeWith yX0_plate cX0_plate 3 (some Jvm.ClassFile.FieldType.int) [((20), (36), (39), (7))]) rm_X0_plate [vr (some this)] A (r_X0_plate A out) :=
  metF_ofH rfl rfl (Nat.le_of_ble_eq_true rfl) fun X hX hl hR hnm hr h1 h2 hno => w_f_X0_plate (X := X) ⟨hX, hR, h1, h2, fun _ => ⟨hnm, hno⟩⟩ h hr

/-! SlimeNetModel.byteAt(I)I -/
def rm_X4_byteAt : Room := { frames := 1, cells := 0, slots := 0, locals := 24 }
def r_X4_byteAt (A : AH) (o : Int32) : (Option AV × AH) ⊕ (Nat × AH) := .inl (some (vi o), A)
set_option maxRecDepth 100000 in
theorem w_f_X4_byteAt_22 {X : Ctx} (hM : MX X yX4_byteAt cX4_byteAt 2 "SlimeNetModel" (some Jvm.ClassFile.FieldType.int) rm_X4_byteAt []) {t0 : Int32} {A : AH} {out : Int32} (hf : f_X4_byteAt_22 t0 A = some out) (hr : c_res X = r_X4_byteAt A out) : G X 0 0 22 [] [vi t0] A := by
  have hX := hM.1
  unfold f_X4_byteAt_22 at hf
  cases hf
  exact h_iret hM dX4_byteAt_22 hr rfl rfl

set_option maxRecDepth 100000 in
theorem w_f_X4_byteAt {X : Ctx} (hM : MX X yX4_byteAt cX4_byteAt 2 "SlimeNetModel" (some Jvm.ClassFile.FieldType.int) rm_X4_byteAt []) {this : Nat} {x1 : Int32} {A : AH} {out : Int32} (hf : f_X4_byteAt this x1 A = some out) (hr : c_res X = r_X4_byteAt A out) : G X 0 0 0 [(0, vr (some this)), (1, vi x1)] [] A := by
  have hX := hM.1
  unfold f_X4_byteAt at hf
  refine g_iload_n hX dX4_byteAt_0 (lg_at 1 rfl) ?_
  refine g_aload_n hX dX4_byteAt_1 (lg_at 0 rfl) ?_
  refine g_getI hX hf fs_SlimeNetModel_13_5 rfl dX4_byteAt_2 (fun v2 hf => ?_)
  refine g_icmp_ge hX dX4_byteAt_5 21 hf (by decide) (fun c5 hf => ?_) (fun c5 hf => ?_)
  · refine g_iconst hX dX4_byteAt_21 (0 : Int32) (by decide) ?_
    exact g_pick (w_f_X4_byteAt_22 hM hf hr) [] rfl
  · refine g_aload_n hX dX4_byteAt_8 (lg_at 0 rfl) ?_
    refine g_getR hX hf fs_SlimeNetModel_16_5 rfl dX4_byteAt_9 (fun v9 hf => ?_)
    refine g_iload_n hX dX4_byteAt_12 (lg_at 1 rfl) ?_
    refine g_bald hX hf dX4_byteAt_13 (fun v13 hf => ?_)
    refine g_sipush hX dX4_byteAt_14 (255 : Int32) (by decide) ?_
    refine g_iand hX dX4_byteAt_17 ?_
    refine g_goto hX dX4_byteAt_18 22 (by decide) ?_
    exact g_pick (w_f_X4_byteAt_22 hM hf hr) [] rfl

theorem m_X4_byteAt {l : Launch} {this : Nat} {x1 : Int32} {A : AH} {out : Int32} (h : f_X4_byteAt this x1 A = some out) : MetF l yX4_byteAt (Cond.code yX4_byteAt cX4_byteAt 2 (some Jvm.ClassFile.FieldType.int)) rm_X4_byteAt [vr (some this), vi x1] A (r_X4_byteAt A out) :=
  metF_of rfl rfl (Nat.le_of_ble_eq_true rfl) fun X hX hl hR hnm hr h1 h2 hno => w_f_X4_byteAt (X := X) ⟨hX, hR, h1, h2, fun _ => ⟨hnm, hno⟩⟩ h hr

/-! SlimeNetModel.isSmall(I)Z -/
def rm_X4_isSmall : Room := { frames := 1, cells := 0, slots := 0, locals := 24 }
def r_X4_isSmall (A : AH) (o : Int32) : (Option AV × AH) ⊕ (Nat × AH) := .inl (some (vi o), A)
set_option maxRecDepth 100000 in
theorem w_f_X4_isSmall_17 {X : Ctx} (hM : MX X yX4_isSmall cX4_isSmall 1 "SlimeNetModel" (some Jvm.ClassFile.FieldType.boolean) rm_X4_isSmall []) {t0 : Int32} {A : AH} {out : Int32} (hf : f_X4_isSmall_17 t0 = some out) (hr : c_res X = r_X4_isSmall A out) : G X 0 0 17 [] [vi t0] A := by
  have hX := hM.1
  unfold f_X4_isSmall_17 at hf
  obtain ⟨w17, hz17, hf⟩ := ob_some hf
  cases hf
  exact h_zret hM dX4_isSmall_17 hr rfl (ckZ_nar hz17).2 rfl

set_option maxRecDepth 100000 in
theorem w_f_X4_isSmall_16 {X : Ctx} (hM : MX X yX4_isSmall cX4_isSmall 1 "SlimeNetModel" (some Jvm.ClassFile.FieldType.boolean) rm_X4_isSmall []) {A : AH} {out : Int32} (hf : f_X4_isSmall_16 = some out) (hr : c_res X = r_X4_isSmall A out) : G X 0 0 16 [] [] A := by
  have hX := hM.1
  unfold f_X4_isSmall_16 at hf
  refine g_iconst hX dX4_isSmall_16 (0 : Int32) (by decide) ?_
  exact g_pick (w_f_X4_isSmall_17 hM hf hr) [] rfl

set_option maxRecDepth 100000 in
theorem w_f_X4_isSmall {X : Ctx} (hM : MX X yX4_isSmall cX4_isSmall 1 "SlimeNetModel" (some Jvm.ClassFile.FieldType.boolean) rm_X4_isSmall []) {x0 : Int32} {A : AH} {out : Int32} (hf : f_X4_isSmall x0 = some out) (hr : c_res X = r_X4_isSmall A out) : G X 0 0 0 [(0, vi x0)] [] A := by
  have hX := hM.1
  unfold f_X4_isSmall at hf
  refine g_iload_n hX dX4_isSmall_0 (lg_at 0 rfl) ?_
  refine g_bipush hX dX4_isSmall_1 (97 : Int32) (by decide) ?_
  refine g_icmp_lt hX dX4_isSmall_3 16 hf (by decide) (fun c3 hf => ?_) (fun c3 hf => ?_)
  · exact g_pick (w_f_X4_isSmall_16 hM hf hr) [] rfl
  · refine g_iload_n hX dX4_isSmall_6 (lg_at 0 rfl) ?_
    refine g_bipush hX dX4_isSmall_7 (122 : Int32) (by decide) ?_
    refine g_icmp_gt hX dX4_isSmall_9 16 hf (by decide) (fun c9 hf => ?_) (fun c9 hf => ?_)
    · exact g_pick (w_f_X4_isSmall_16 hM hf hr) [] rfl
    · refine g_iconst hX dX4_isSmall_12 (1 : Int32) (by decide) ?_
      refine g_goto hX dX4_isSmall_13 17 (by decide) ?_
      exact g_pick (w_f_X4_isSmall_17 hM hf hr) [] rfl

theorem m_X4_isSmall {l : Launch} {x0 : Int32} {A : AH} {out : Int32} (h : f_X4_isSmall x0 = some out) : MetF l yX4_isSmall (Cond.code yX4_isSmall cX4_isSmall 1 (some Jvm.ClassFile.FieldType.boolean)) rm_X4_isSmall [vi x0] A (r_X4_isSmall A out) :=
  metF_of rfl rfl (Nat.le_of_ble_eq_true rfl) fun X hX hl hR hnm hr h1 h2 hno => w_f_X4_isSmall (X := X) ⟨hX, hR, h1, h2, fun _ => ⟨hnm, hno⟩⟩ h hr

/-! SlimeNetModel.isDigit(I)Z -/
def rm_X4_isDigit : Room := { frames := 1, cells := 0, slots := 0, locals := 24 }
def r_X4_isDigit (A : AH) (o : Int32) : (Option AV × AH) ⊕ (Nat × AH) := .inl (some (vi o), A)
set_option maxRecDepth 100000 in
theorem w_f_X4_isDigit_17 {X : Ctx} (hM : MX X yX4_isDigit cX4_isDigit 1 "SlimeNetModel" (some Jvm.ClassFile.FieldType.boolean) rm_X4_isDigit []) {t0 : Int32} {A : AH} {out : Int32} (hf : f_X4_isDigit_17 t0 = some out) (hr : c_res X = r_X4_isDigit A out) : G X 0 0 17 [] [vi t0] A := by
  have hX := hM.1
  unfold f_X4_isDigit_17 at hf
  obtain ⟨w17, hz17, hf⟩ := ob_some hf
  cases hf
  exact h_zret hM dX4_isDigit_17 hr rfl (ckZ_nar hz17).2 rfl

set_option maxRecDepth 100000 in
theorem w_f_X4_isDigit_16 {X : Ctx} (hM : MX X yX4_isDigit cX4_isDigit 1 "SlimeNetModel" (some Jvm.ClassFile.FieldType.boolean) rm_X4_isDigit []) {A : AH} {out : Int32} (hf : f_X4_isDigit_16 = some out) (hr : c_res X = r_X4_isDigit A out) : G X 0 0 16 [] [] A := by
  have hX := hM.1
  unfold f_X4_isDigit_16 at hf
  refine g_iconst hX dX4_isDigit_16 (0 : Int32) (by decide) ?_
  exact g_pick (w_f_X4_isDigit_17 hM hf hr) [] rfl

set_option maxRecDepth 100000 in
theorem w_f_X4_isDigit {X : Ctx} (hM : MX X yX4_isDigit cX4_isDigit 1 "SlimeNetModel" (some Jvm.ClassFile.FieldType.boolean) rm_X4_isDigit []) {x0 : Int32} {A : AH} {out : Int32} (hf : f_X4_isDigit x0 = some out) (hr : c_res X = r_X4_isDigit A out) : G X 0 0 0 [(0, vi x0)] [] A := by
  have hX := hM.1
  unfold f_X4_isDigit at hf
  refine g_iload_n hX dX4_isDigit_0 (lg_at 0 rfl) ?_
  refine g_bipush hX dX4_isDigit_1 (48 : Int32) (by decide) ?_
  refine g_icmp_lt hX dX4_isDigit_3 16 hf (by decide) (fun c3 hf => ?_) (fun c3 hf => ?_)
  · exact g_pick (w_f_X4_isDigit_16 hM hf hr) [] rfl
  · refine g_iload_n hX dX4_isDigit_6 (lg_at 0 rfl) ?_
    refine g_bipush hX dX4_isDigit_7 (57 : Int32) (by decide) ?_
    refine g_icmp_gt hX dX4_isDigit_9 16 hf (by decide) (fun c9 hf => ?_) (fun c9 hf => ?_)
    · exact g_pick (w_f_X4_isDigit_16 hM hf hr) [] rfl
    · refine g_iconst hX dX4_isDigit_12 (1 : Int32) (by decide) ?_
      refine g_goto hX dX4_isDigit_13 17 (by decide) ?_
      exact g_pick (w_f_X4_isDigit_17 hM hf hr) [] rfl

theorem m_X4_isDigit {l : Launch} {x0 : Int32} {A : AH} {out : Int32} (h : f_X4_isDigit x0 = some out) : MetF l yX4_isDigit (Cond.code yX4_isDigit cX4_isDigit 1 (some Jvm.ClassFile.FieldType.boolean)) rm_X4_isDigit [vi x0] A (r_X4_isDigit A out) :=
  metF_of rfl rfl (Nat.le_of_ble_eq_true rfl) fun X hX hl hR hnm hr h1 h2 hno => w_f_X4_isDigit (X := X) ⟨hX, hR, h1, h2, fun _ => ⟨hnm, hno⟩⟩ h hr

/-! SlimeNetModel.scan()V -/
def rm_X4_scan : Room := { frames := 2, cells := 0, slots := 0, locals := 45 }
def r_X4_scan (_A : AH) (o : AH) : (Option AV × AH) ⊕ (Nat × AH) := .inl (none, o)
def k_X4_scan_0 (X : Ctx) (this : Nat) : ((AH) ⊕ (AH)) → Prop
  | .inl A => G X 0 0 0 [(0, vr (some this))] [] A
  | .inr A => G X 0 0 52 [(0, vr (some this))] [] A

def k_X4_scan_160 (X : Ctx) (this : Nat) : ((AH) ⊕ (AH)) → Prop
  | .inl A => G X 0 0 160 [(0, vr (some this))] [] A
  | .inr A => G X 0 0 223 [(0, vr (some this))] [] A

def k_X4_scan_95 (X : Ctx) (this : Nat) : ((AH) ⊕ (AH)) → Prop
  | .inl A => G X 0 0 95 [(0, vr (some this))] [] A
  | .inr A => G X 0 0 122 [(0, vr (some this))] [] A

set_option maxRecDepth 100000 in
theorem w_f_X4_scan_39 {X : Ctx} (hM : MX X yX4_scan cX4_scan 2 "SlimeNetModel" none rm_X4_scan []) {this : Nat} {A : AH} {out : (AH) ⊕ (AH)} (hf : f_X4_scan_39 this A = some out) (K : k_X4_scan_0 X this out) : G X 0 0 39 [(0, vr (some this))] [] A := by
  have hX := hM.1
  unfold f_X4_scan_39 at hf
  refine g_aload_n hX dX4_scan_39 (lg_at 0 rfl) ?_
  refine g_dup hX dX4_scan_40 rfl ?_
  refine g_getI hX hf fs_SlimeNetModel_20_5 rfl dX4_scan_41 (fun v41 hf => ?_)
  refine g_iconst hX dX4_scan_44 (1 : Int32) (by decide) ?_
  refine g_iadd hX dX4_scan_45 ?_
  refine g_putI hX hf fs_SlimeNetModel_20_5 ⟨_, rfl, Or.inl rfl⟩ rfl dX4_scan_46 (fun A46 hf => ?_)
  refine g_goto hX dX4_scan_49 0 (by decide) ?_
  cases hf
  exact g_pick (show G X _ _ _ _ _ _ from K) [0] rfl

set_option maxRecDepth 100000 in
theorem w_f_X4_scan_273 {X : Ctx} (hM : MX X yX4_scan cX4_scan 2 "SlimeNetModel" none rm_X4_scan []) {A : AH} {out : AH} (hf : f_X4_scan_273 A = some out) (hr : c_res X = r_X4_scan A out) : G X 0 0 273 [] [] A := by
  have hX := hM.1
  unfold f_X4_scan_273 at hf
  cases hf
  exact h_vret hM dX4_scan_273 hr rfl rfl

set_option maxRecDepth 100000 in
theorem w_f_X4_scan_260 {X : Ctx} (hM : MX X yX4_scan cX4_scan 2 "SlimeNetModel" none rm_X4_scan []) {this : Nat} {t0 : Int32} {t1 : Option Nat} {A : AH} {out : AH} (hf : f_X4_scan_260 this t0 t1 A = some out) (hr : c_res X = r_X4_scan A out) : G X 0 0 260 [(0, vr (some this))] [vi t0, vr t1] A := by
  have hX := hM.1
  unfold f_X4_scan_260 at hf
  refine g_putI hX hf fs_SlimeNetModel_27_5 ⟨_, rfl, Or.inl rfl⟩ rfl dX4_scan_260 (fun A260 hf => ?_)
  refine g_aload_n hX dX4_scan_263 (lg_at 0 rfl) ?_
  refine g_dup hX dX4_scan_264 rfl ?_
  refine g_getI hX hf fs_SlimeNetModel_20_5 rfl dX4_scan_265 (fun v265 hf => ?_)
  refine g_iconst hX dX4_scan_268 (1 : Int32) (by decide) ?_
  refine g_iadd hX dX4_scan_269 ?_
  refine g_putI hX hf fs_SlimeNetModel_20_5 ⟨_, rfl, Or.inl rfl⟩ rfl dX4_scan_270 (fun A270 hf => ?_)
  exact g_pick (w_f_X4_scan_273 hM hf hr) [] rfl

set_option maxRecDepth 100000 in
theorem w_f_X4_scan_210 {X : Ctx} (hM : MX X yX4_scan cX4_scan 2 "SlimeNetModel" none rm_X4_scan []) {this : Nat} {A : AH} {out : (AH) ⊕ (AH)} (hf : f_X4_scan_210 this A = some out) (K : k_X4_scan_160 X this out) : G X 0 0 210 [(0, vr (some this))] [] A := by
  have hX := hM.1
  unfold f_X4_scan_210 at hf
  refine g_aload_n hX dX4_scan_210 (lg_at 0 rfl) ?_
  refine g_dup hX dX4_scan_211 rfl ?_
  refine g_getI hX hf fs_SlimeNetModel_20_5 rfl dX4_scan_212 (fun v212 hf => ?_)
  refine g_iconst hX dX4_scan_215 (1 : Int32) (by decide) ?_
  refine g_iadd hX dX4_scan_216 ?_
  refine g_putI hX hf fs_SlimeNetModel_20_5 ⟨_, rfl, Or.inl rfl⟩ rfl dX4_scan_217 (fun A217 hf => ?_)
  refine g_goto hX dX4_scan_220 160 (by decide) ?_
  cases hf
  exact g_pick (show G X _ _ _ _ _ _ from K) [0] rfl

set_option maxRecDepth 100000 in
theorem w_f_X4_scan_242 {X : Ctx} (hM : MX X yX4_scan cX4_scan 2 "SlimeNetModel" none rm_X4_scan []) {t0 : Int32} {t1 : Option Nat} {A : AH} {out : AH} (hf : f_X4_scan_242 t0 t1 A = some out) (hr : c_res X = r_X4_scan A out) : G X 0 0 242 [] [vi t0, vr t1] A := by
  have hX := hM.1
  unfold f_X4_scan_242 at hf
  refine g_putI hX hf fs_SlimeNetModel_27_5 ⟨_, rfl, Or.inl rfl⟩ rfl dX4_scan_242 (fun A242 hf => ?_)
  refine g_goto hX dX4_scan_245 273 (by decide) ?_
  exact g_pick (w_f_X4_scan_273 hM hf hr) [] rfl

set_option maxRecDepth 100000 in
theorem w_s_X4_scan_160 {X : Ctx} (hM : MX X yX4_scan cX4_scan 2 "SlimeNetModel" none rm_X4_scan []) {this : Nat} {st : AH} {out : (AH) ⊕ (AH)} (hf : s_X4_scan_160 this st = some out) (K : k_X4_scan_160 X this out) : k_X4_scan_160 X this (.inl st) := by
  have hX := hM.1
  revert hf; generalize st = A; intro hf
  unfold s_X4_scan_160 at hf
  dsimp only at hf
  show G X 0 0 160 [(0, vr (some this))] [] A
  refine g_aload_n hX dX4_scan_160 (lg_at 0 rfl) ?_
  refine g_aload_n hX dX4_scan_161 (lg_at 0 rfl) ?_
  refine g_getI hX hf fs_SlimeNetModel_20_5 rfl dX4_scan_162 (fun v162 hf => ?_)
  obtain ⟨k165, hk165, hf⟩ := ob_some hf
  obtain ⟨v165, hc165, hf⟩ := ob_some hf
  refine h_callV hM [vi v162] dX4_scan_165 cs_SlimeNetModel_23_5 hk165 (m_X4_byteAt hc165) rfl rfl rfl rfl ?_
  obtain ⟨v168, hc168, hf⟩ := ob_some hf
  refine h_callS hM [vi v165] dX4_scan_168 cs_SlimeNetModel_34_s (m_X4_isDigit hc168) rfl rfl rfl rfl ?_
  refine g_if_eq hX dX4_scan_171 223 hf (by decide) (fun c171 hf => ?_) (fun c171 hf => ?_)
  · cases hf
    exact g_pick (show G X _ _ _ _ _ _ from K) [0] rfl
  · refine g_aload_n hX dX4_scan_174 (lg_at 0 rfl) ?_
    refine g_getI hX hf fs_SlimeNetModel_20_5 rfl dX4_scan_175 (fun v175 hf => ?_)
    refine g_aload_n hX dX4_scan_178 (lg_at 0 rfl) ?_
    refine g_getI hX hf fs_SlimeNetModel_7_5 rfl dX4_scan_179 (fun v179 hf => ?_)
    refine g_isub hX dX4_scan_182 ?_
    refine g_iconst hX dX4_scan_183 (4 : Int32) (by decide) ?_
    refine g_icmp_ge hX dX4_scan_184 210 hf (by decide) (fun c184 hf => ?_) (fun c184 hf => ?_)
    · exact g_pick (w_f_X4_scan_210 hM hf K) [0] rfl
    · refine g_aload_n hX dX4_scan_187 (lg_at 0 rfl) ?_
      refine g_bipush hX dX4_scan_188 (10 : Int32) (by decide) ?_
      refine g_aload_n hX dX4_scan_190 (lg_at 0 rfl) ?_
      refine g_getI hX hf fs_SlimeNetModel_37_5 rfl dX4_scan_191 (fun v191 hf => ?_)
      refine g_imul hX dX4_scan_194 ?_
      refine g_aload_n hX dX4_scan_195 (lg_at 0 rfl) ?_
      refine g_aload_n hX dX4_scan_196 (lg_at 0 rfl) ?_
      refine g_getI hX hf fs_SlimeNetModel_20_5 rfl dX4_scan_197 (fun v197 hf => ?_)
      obtain ⟨k200, hk200, hf⟩ := ob_some hf
      obtain ⟨v200, hc200, hf⟩ := ob_some hf
      refine h_callV hM [vi v197] dX4_scan_200 cs_SlimeNetModel_23_5 hk200 (m_X4_byteAt hc200) rfl rfl rfl rfl ?_
      refine g_iadd hX dX4_scan_203 ?_
      refine g_bipush hX dX4_scan_204 (48 : Int32) (by decide) ?_
      refine g_isub hX dX4_scan_206 ?_
      refine g_putI hX hf fs_SlimeNetModel_37_5 ⟨_, rfl, Or.inl rfl⟩ rfl dX4_scan_207 (fun A207 hf => ?_)
      exact g_pick (w_f_X4_scan_210 hM hf K) [0] rfl

set_option maxRecDepth 100000 in
theorem w_l_X4_scan_160 {X : Ctx} (hM : MX X yX4_scan cX4_scan 2 "SlimeNetModel" none rm_X4_scan []) {this : Nat} {A : AH} {out : AH} (hf : l_X4_scan_160 this A = some out) (hr : c_res X = r_X4_scan A out) : G X 0 0 160 [(0, vr (some this))] [] A := by
  have hX := hM.1
  unfold l_X4_scan_160 at hf
  obtain ⟨e, hw, hf⟩ := ob_some hf
  refine (whl_ind (k_X4_scan_160 X this) (fun st o hs K => w_s_X4_scan_160 hM hs K) hw ?_ : k_X4_scan_160 X this (.inl A))
  revert hf hw; generalize e = A; intro hw hf
  dsimp only at hf
  show G X 0 0 223 [(0, vr (some this))] [] A
  refine g_aload_n hX dX4_scan_223 (lg_at 0 rfl) ?_
  refine g_aload_n hX dX4_scan_224 (lg_at 0 rfl) ?_
  refine g_getI hX hf fs_SlimeNetModel_20_5 rfl dX4_scan_225 (fun v225 hf => ?_)
  refine g_aload_n hX dX4_scan_228 (lg_at 0 rfl) ?_
  refine g_getI hX hf fs_SlimeNetModel_7_5 rfl dX4_scan_229 (fun v229 hf => ?_)
  refine g_isub hX dX4_scan_232 ?_
  refine g_iconst hX dX4_scan_233 (4 : Int32) (by decide) ?_
  refine g_icmp_le hX dX4_scan_234 241 hf (by decide) (fun c234 hf => ?_) (fun c234 hf => ?_)
  · refine g_iconst hX dX4_scan_241 (2 : Int32) (by decide) ?_
    exact g_pick (w_f_X4_scan_242 hM hf hr) [] rfl
  · refine g_iconst hX dX4_scan_237 (4 : Int32) (by decide) ?_
    refine g_goto hX dX4_scan_238 242 (by decide) ?_
    exact g_pick (w_f_X4_scan_242 hM hf hr) [] rfl

set_option maxRecDepth 100000 in
theorem w_f_X4_scan_142 {X : Ctx} (hM : MX X yX4_scan cX4_scan 2 "SlimeNetModel" none rm_X4_scan []) {t0 : Int32} {t1 : Option Nat} {A : AH} {out : AH} (hf : f_X4_scan_142 t0 t1 A = some out) (hr : c_res X = r_X4_scan A out) : G X 0 0 142 [] [vi t0, vr t1] A := by
  have hX := hM.1
  unfold f_X4_scan_142 at hf
  refine g_putI hX hf fs_SlimeNetModel_27_5 ⟨_, rfl, Or.inl rfl⟩ rfl dX4_scan_142 (fun A142 hf => ?_)
  refine g_goto hX dX4_scan_145 273 (by decide) ?_
  exact g_pick (w_f_X4_scan_273 hM hf hr) [] rfl

set_option maxRecDepth 100000 in
theorem w_s_X4_scan_95 {X : Ctx} (hM : MX X yX4_scan cX4_scan 2 "SlimeNetModel" none rm_X4_scan []) {this : Nat} {st : AH} {out : (AH) ⊕ (AH)} (hf : s_X4_scan_95 this st = some out) (K : k_X4_scan_95 X this out) : k_X4_scan_95 X this (.inl st) := by
  have hX := hM.1
  revert hf; generalize st = A; intro hf
  unfold s_X4_scan_95 at hf
  dsimp only at hf
  show G X 0 0 95 [(0, vr (some this))] [] A
  refine g_aload_n hX dX4_scan_95 (lg_at 0 rfl) ?_
  refine g_aload_n hX dX4_scan_96 (lg_at 0 rfl) ?_
  refine g_getI hX hf fs_SlimeNetModel_20_5 rfl dX4_scan_97 (fun v97 hf => ?_)
  obtain ⟨k100, hk100, hf⟩ := ob_some hf
  obtain ⟨v100, hc100, hf⟩ := ob_some hf
  refine h_callV hM [vi v97] dX4_scan_100 cs_SlimeNetModel_23_5 hk100 (m_X4_byteAt hc100) rfl rfl rfl rfl ?_
  obtain ⟨v103, hc103, hf⟩ := ob_some hf
  refine h_callS hM [vi v100] dX4_scan_103 cs_SlimeNetModel_30_s (m_X4_isSmall hc103) rfl rfl rfl rfl ?_
  refine g_if_eq hX dX4_scan_106 122 hf (by decide) (fun c106 hf => ?_) (fun c106 hf => ?_)
  · cases hf
    exact g_pick (show G X _ _ _ _ _ _ from K) [0] rfl
  · refine g_aload_n hX dX4_scan_109 (lg_at 0 rfl) ?_
    refine g_dup hX dX4_scan_110 rfl ?_
    refine g_getI hX hf fs_SlimeNetModel_20_5 rfl dX4_scan_111 (fun v111 hf => ?_)
    refine g_iconst hX dX4_scan_114 (1 : Int32) (by decide) ?_
    refine g_iadd hX dX4_scan_115 ?_
    refine g_putI hX hf fs_SlimeNetModel_20_5 ⟨_, rfl, Or.inl rfl⟩ rfl dX4_scan_116 (fun A116 hf => ?_)
    refine g_goto hX dX4_scan_119 95 (by decide) ?_
    cases hf
    exact g_pick (show G X _ _ _ _ _ _ from K) [0] rfl

set_option maxRecDepth 100000 in
theorem w_l_X4_scan_95 {X : Ctx} (hM : MX X yX4_scan cX4_scan 2 "SlimeNetModel" none rm_X4_scan []) {this : Nat} {A : AH} {out : AH} (hf : l_X4_scan_95 this A = some out) (hr : c_res X = r_X4_scan A out) : G X 0 0 95 [(0, vr (some this))] [] A := by
  have hX := hM.1
  unfold l_X4_scan_95 at hf
  obtain ⟨e, hw, hf⟩ := ob_some hf
  refine (whl_ind (k_X4_scan_95 X this) (fun st o hs K => w_s_X4_scan_95 hM hs K) hw ?_ : k_X4_scan_95 X this (.inl A))
  revert hf hw; generalize e = A; intro hw hf
  dsimp only at hf
  show G X 0 0 122 [(0, vr (some this))] [] A
  refine g_aload_n hX dX4_scan_122 (lg_at 0 rfl) ?_
  refine g_aload_n hX dX4_scan_123 (lg_at 0 rfl) ?_
  refine g_getI hX hf fs_SlimeNetModel_20_5 rfl dX4_scan_124 (fun v124 hf => ?_)
  refine g_aload_n hX dX4_scan_127 (lg_at 0 rfl) ?_
  refine g_getI hX hf fs_SlimeNetModel_7_5 rfl dX4_scan_128 (fun v128 hf => ?_)
  refine g_isub hX dX4_scan_131 ?_
  refine g_bipush hX dX4_scan_132 (8 : Int32) (by decide) ?_
  refine g_icmp_le hX dX4_scan_134 141 hf (by decide) (fun c134 hf => ?_) (fun c134 hf => ?_)
  · refine g_iconst hX dX4_scan_141 (1 : Int32) (by decide) ?_
    exact g_pick (w_f_X4_scan_142 hM hf hr) [] rfl
  · refine g_iconst hX dX4_scan_137 (4 : Int32) (by decide) ?_
    refine g_goto hX dX4_scan_138 142 (by decide) ?_
    exact g_pick (w_f_X4_scan_142 hM hf hr) [] rfl

set_option maxRecDepth 100000 in
theorem w_f_X4_scan_52 {X : Ctx} (hM : MX X yX4_scan cX4_scan 2 "SlimeNetModel" none rm_X4_scan []) {this : Nat} {A : AH} {out : AH} (hf : f_X4_scan_52 this A = some out) (hr : c_res X = r_X4_scan A out) : G X 0 0 52 [(0, vr (some this))] [] A := by
  have hX := hM.1
  unfold f_X4_scan_52 at hf
  refine g_aload_n hX dX4_scan_52 (lg_at 0 rfl) ?_
  refine g_aload_n hX dX4_scan_53 (lg_at 0 rfl) ?_
  refine g_getI hX hf fs_SlimeNetModel_20_5 rfl dX4_scan_54 (fun v54 hf => ?_)
  refine g_putI hX hf fs_SlimeNetModel_7_5 ⟨_, rfl, Or.inl rfl⟩ rfl dX4_scan_57 (fun A57 hf => ?_)
  refine g_aload_n hX dX4_scan_60 (lg_at 0 rfl) ?_
  refine g_aload_n hX dX4_scan_61 (lg_at 0 rfl) ?_
  refine g_getI hX hf fs_SlimeNetModel_7_5 rfl dX4_scan_62 (fun v62 hf => ?_)
  obtain ⟨k65, hk65, hf⟩ := ob_some hf
  obtain ⟨v65, hc65, hf⟩ := ob_some hf
  refine h_callV hM [vi v62] dX4_scan_65 cs_SlimeNetModel_23_5 hk65 (m_X4_byteAt hc65) rfl rfl rfl rfl ?_
  refine g_istore_n hX dX4_scan_68 [(1, vi v65), (0, vr (some this))] (by decide) rfl ?_
  refine g_aload_n hX dX4_scan_69 (lg_at 1 rfl) ?_
  refine g_getI hX hf fs_SlimeNetModel_7_5 rfl dX4_scan_70 (fun v70 hf => ?_)
  refine g_aload_n hX dX4_scan_73 (lg_at 1 rfl) ?_
  refine g_getI hX hf fs_SlimeNetModel_13_5 rfl dX4_scan_74 (fun v74 hf => ?_)
  refine g_icmp_ne hX dX4_scan_77 88 hf (by decide) (fun c77 hf => ?_) (fun c77 hf => ?_)
  · refine g_iload_n hX dX4_scan_88 (lg_at 0 rfl) ?_
    obtain ⟨v89, hc89, hf⟩ := ob_some hf
    refine h_callS hM [vi v65] dX4_scan_89 cs_SlimeNetModel_30_s (m_X4_isSmall hc89) rfl rfl rfl rfl ?_
    refine g_if_eq hX dX4_scan_92 148 hf (by decide) (fun c92 hf => ?_) (fun c92 hf => ?_)
    · refine g_iload_n hX dX4_scan_148 (lg_at 0 rfl) ?_
      obtain ⟨v149, hc149, hf⟩ := ob_some hf
      refine h_callS hM [vi v65] dX4_scan_149 cs_SlimeNetModel_34_s (m_X4_isDigit hc149) rfl rfl rfl rfl ?_
      refine g_if_eq hX dX4_scan_152 248 hf (by decide) (fun c152 hf => ?_) (fun c152 hf => ?_)
      · refine g_aload_n hX dX4_scan_248 (lg_at 1 rfl) ?_
        refine g_iload_n hX dX4_scan_249 (lg_at 0 rfl) ?_
        refine g_bipush hX dX4_scan_250 (59 : Int32) (by decide) ?_
        refine g_icmp_ne hX dX4_scan_252 259 hf (by decide) (fun c252 hf => ?_) (fun c252 hf => ?_)
        · refine g_iconst hX dX4_scan_259 (4 : Int32) (by decide) ?_
          exact g_pick (w_f_X4_scan_260 hM hf hr) [1] rfl
        · refine g_iconst hX dX4_scan_255 (3 : Int32) (by decide) ?_
          refine g_goto hX dX4_scan_256 260 (by decide) ?_
          exact g_pick (w_f_X4_scan_260 hM hf hr) [1] rfl
      · refine g_aload_n hX dX4_scan_155 (lg_at 1 rfl) ?_
        refine g_iconst hX dX4_scan_156 (0 : Int32) (by decide) ?_
        refine g_putI hX hf fs_SlimeNetModel_37_5 ⟨_, rfl, Or.inl rfl⟩ rfl dX4_scan_157 (fun A157 hf => ?_)
        exact g_pick (w_l_X4_scan_160 hM hf hr) [1] rfl
    · exact g_pick (w_l_X4_scan_95 hM hf hr) [1] rfl
  · refine g_aload_n hX dX4_scan_80 (lg_at 1 rfl) ?_
    refine g_iconst hX dX4_scan_81 (0 : Int32) (by decide) ?_
    refine g_putI hX hf fs_SlimeNetModel_27_5 ⟨_, rfl, Or.inl rfl⟩ rfl dX4_scan_82 (fun A82 hf => ?_)
    refine g_goto hX dX4_scan_85 273 (by decide) ?_
    exact g_pick (w_f_X4_scan_273 hM hf hr) [] rfl

set_option maxRecDepth 100000 in
theorem w_s_X4_scan_0 {X : Ctx} (hM : MX X yX4_scan cX4_scan 2 "SlimeNetModel" none rm_X4_scan []) {this : Nat} {st : AH} {out : (AH) ⊕ (AH)} (hf : s_X4_scan_0 this st = some out) (K : k_X4_scan_0 X this out) : k_X4_scan_0 X this (.inl st) := by
  have hX := hM.1
  revert hf; generalize st = A; intro hf
  unfold s_X4_scan_0 at hf
  dsimp only at hf
  show G X 0 0 0 [(0, vr (some this))] [] A
  refine g_aload_n hX dX4_scan_0 (lg_at 0 rfl) ?_
  refine g_getI hX hf fs_SlimeNetModel_20_5 rfl dX4_scan_1 (fun v1 hf => ?_)
  refine g_aload_n hX dX4_scan_4 (lg_at 0 rfl) ?_
  refine g_getI hX hf fs_SlimeNetModel_13_5 rfl dX4_scan_5 (fun v5 hf => ?_)
  refine g_icmp_ge hX dX4_scan_8 52 hf (by decide) (fun c8 hf => ?_) (fun c8 hf => ?_)
  · cases hf
    exact g_pick (show G X _ _ _ _ _ _ from K) [0] rfl
  · refine g_aload_n hX dX4_scan_11 (lg_at 0 rfl) ?_
    refine g_getR hX hf fs_SlimeNetModel_16_5 rfl dX4_scan_12 (fun v12 hf => ?_)
    refine g_aload_n hX dX4_scan_15 (lg_at 0 rfl) ?_
    refine g_getI hX hf fs_SlimeNetModel_20_5 rfl dX4_scan_16 (fun v16 hf => ?_)
    refine g_bald hX hf dX4_scan_19 (fun v19 hf => ?_)
    refine g_bipush hX dX4_scan_20 (32 : Int32) (by decide) ?_
    refine g_icmp_eq hX dX4_scan_22 39 hf (by decide) (fun c22 hf => ?_) (fun c22 hf => ?_)
    · exact g_pick (w_f_X4_scan_39 hM hf K) [0] rfl
    · refine g_aload_n hX dX4_scan_25 (lg_at 0 rfl) ?_
      refine g_getR hX hf fs_SlimeNetModel_16_5 rfl dX4_scan_26 (fun v26 hf => ?_)
      refine g_aload_n hX dX4_scan_29 (lg_at 0 rfl) ?_
      refine g_getI hX hf fs_SlimeNetModel_20_5 rfl dX4_scan_30 (fun v30 hf => ?_)
      refine g_bald hX hf dX4_scan_33 (fun v33 hf => ?_)
      refine g_bipush hX dX4_scan_34 (10 : Int32) (by decide) ?_
      refine g_icmp_ne hX dX4_scan_36 52 hf (by decide) (fun c36 hf => ?_) (fun c36 hf => ?_)
      · cases hf
        exact g_pick (show G X _ _ _ _ _ _ from K) [0] rfl
      · exact g_pick (w_f_X4_scan_39 hM hf K) [0] rfl

set_option maxRecDepth 100000 in
theorem w_l_X4_scan_0 {X : Ctx} (hM : MX X yX4_scan cX4_scan 2 "SlimeNetModel" none rm_X4_scan []) {this : Nat} {A : AH} {out : AH} (hf : l_X4_scan_0 this A = some out) (hr : c_res X = r_X4_scan A out) : G X 0 0 0 [(0, vr (some this))] [] A := by
  have hX := hM.1
  unfold l_X4_scan_0 at hf
  obtain ⟨e, hw, hf⟩ := ob_some hf
  refine (whl_ind (k_X4_scan_0 X this) (fun st o hs K => w_s_X4_scan_0 hM hs K) hw ?_ : k_X4_scan_0 X this (.inl A))
  revert hf hw; generalize e = A; intro hw hf
  dsimp only at hf
  show G X 0 0 52 [(0, vr (some this))] [] A
  exact g_pick (w_f_X4_scan_52 hM hf hr) [0] rfl

set_option maxRecDepth 100000 in
theorem w_f_X4_scan {X : Ctx} (hM : MX X yX4_scan cX4_scan 2 "SlimeNetModel" none rm_X4_scan []) {this : Nat} {A : AH} {out : AH} (hf : f_X4_scan this A = some out) (hr : c_res X = r_X4_scan A out) : G X 0 0 0 [(0, vr (some this))] [] A := by
  have hX := hM.1
  unfold f_X4_scan at hf
  exact g_pick (w_l_X4_scan_0 hM hf hr) [0] rfl

theorem m_X4_scan {l : Launch} {this : Nat} {A : AH} {out : AH} (h : f_X4_scan this A = some out) : MetF l yX4_scan (Cond.code yX4_scan cX4_scan 2 none) rm_X4_scan [vr (some this)] A (r_X4_scan A out) :=
  metF_of rfl rfl (Nat.le_of_ble_eq_true rfl) fun X hX hl hR hnm hr h1 h2 hno => w_f_X4_scan (X := X) ⟨hX, hR, h1, h2, fun _ => ⟨hnm, hno⟩⟩ h hr

/-! SlimeNetModel.is(Ljava/lang/String;)Z -/
def rm_X4_is : Room := { frames := 5, cells := 0, slots := 0, locals := 109 }
def r_X4_is (A : AH) (o : Int32) : (Option AV × AH) ⊕ (Nat × AH) := .inl (some (vi o), A)
def k_X4_is_32 (X : Ctx) (this : Nat) (x1 : Option Nat) (A : AH) : ((Int32 × Int32) ⊕ (Int32)) → Prop
  | .inl (x2, x3) => G X 0 0 32 [(0, vr (some this)), (1, vr x1), (2, vi x2), (3, vi x3)] [] A
  | .inr x2 => G X 0 0 75 [(2, vi x2)] [] A

set_option maxRecDepth 100000 in
theorem w_f_X4_is_68 {X : Ctx} (hM : MX X yX4_is cX4_is 4 "SlimeNetModel" (some Jvm.ClassFile.FieldType.boolean) rm_X4_is []) {this : Nat} {x1 : Option Nat} {x3 : Int32} {t0 : Int32} {A : AH} {out : (Int32 × Int32) ⊕ (Int32)} (hf : f_X4_is_68 this x1 x3 t0 A = some out) (K : k_X4_is_32 X this x1 A out) : G X 0 0 68 [(0, vr (some this)), (1, vr x1), (3, vi x3)] [vi t0] A := by
  have hX := hM.1
  unfold f_X4_is_68 at hf
  refine g_istore_n hX dX4_is_68 [(2, vi t0), (0, vr (some this)), (1, vr x1), (3, vi x3)] (by decide) rfl ?_
  refine g_iinc hX dX4_is_69 (1 : Int32) (x3 + (1 : Int32)) [(3, vi (x3 + (1 : Int32))), (2, vi t0), (0, vr (some this)), (1, vr x1)] (by decide) rfl (lg_at 3 rfl) (by decide) rfl ?_
  refine g_goto hX dX4_is_72 32 (by decide) ?_
  cases hf
  exact g_pick (show G X _ _ _ _ _ _ from K) [2, 3, 1, 0] rfl

set_option maxRecDepth 100000 in
theorem w_f_X4_is_75 {X : Ctx} (hM : MX X yX4_is cX4_is 4 "SlimeNetModel" (some Jvm.ClassFile.FieldType.boolean) rm_X4_is []) {x2 : Int32} {A : AH} {out : Int32} (hf : f_X4_is_75 x2 A = some out) (hr : c_res X = r_X4_is A out) : G X 0 0 75 [(2, vi x2)] [] A := by
  have hX := hM.1
  unfold f_X4_is_75 at hf
  refine g_iload_n hX dX4_is_75 (lg_at 0 rfl) ?_
  obtain ⟨w76, hz76, hf⟩ := ob_some hf
  cases hf
  exact h_zret hM dX4_is_76 hr rfl (ckZ_nar hz76).2 rfl

set_option maxRecDepth 100000 in
theorem w_s_X4_is_32 {X : Ctx} (hM : MX X yX4_is cX4_is 4 "SlimeNetModel" (some Jvm.ClassFile.FieldType.boolean) rm_X4_is []) {this : Nat} {x1 : Option Nat} {A : AH} {st : Int32 × Int32} {out : (Int32 × Int32) ⊕ (Int32)} (hf : s_X4_is_32 this x1 A st = some out) (K : k_X4_is_32 X this x1 A out) : k_X4_is_32 X this x1 A (.inl st) := by
  have hX := hM.1
  obtain ⟨x2, x3⟩ := st
  unfold s_X4_is_32 at hf
  dsimp only at hf
  show G X 0 0 32 [(0, vr (some this)), (1, vr x1), (2, vi x2), (3, vi x3)] [] A
  refine g_iload_n hX dX4_is_32 (lg_at 3 rfl) ?_
  refine g_aload_n hX dX4_is_33 (lg_at 1 rfl) ?_
  obtain ⟨k34, hk34, hf⟩ := ob_some hf
  obtain ⟨v34, hc34, hf⟩ := ob_some hf
  refine h_callStr hM [] dX4_is_34 cs_SlimeNetModel_40_9 hk34 (m_J6_length hc34) rfl rfl rfl rfl ?_
  refine g_icmp_ge hX dX4_is_37 75 hf (by decide) (fun c37 hf => ?_) (fun c37 hf => ?_)
  · cases hf
    exact g_pick (show G X _ _ _ _ _ _ from K) [2] rfl
  · refine g_iload_n hX dX4_is_40 (lg_at 2 rfl) ?_
    refine g_if_eq hX dX4_is_41 75 hf (by decide) (fun c41 hf => ?_) (fun c41 hf => ?_)
    · cases hf
      exact g_pick (show G X _ _ _ _ _ _ from K) [2] rfl
    · refine g_aload_n hX dX4_is_44 (lg_at 0 rfl) ?_
      refine g_getR hX hf fs_SlimeNetModel_16_5 rfl dX4_is_45 (fun v45 hf => ?_)
      refine g_aload_n hX dX4_is_48 (lg_at 0 rfl) ?_
      refine g_getI hX hf fs_SlimeNetModel_7_5 rfl dX4_is_49 (fun v49 hf => ?_)
      refine g_iload_n hX dX4_is_52 (lg_at 3 rfl) ?_
      refine g_iadd hX dX4_is_53 ?_
      refine g_bald hX hf dX4_is_54 (fun v54 hf => ?_)
      refine g_aload_n hX dX4_is_55 (lg_at 1 rfl) ?_
      refine g_iload_n hX dX4_is_56 (lg_at 3 rfl) ?_
      obtain ⟨k57, hk57, hf⟩ := ob_some hf
      obtain ⟨v57, hc57, hf⟩ := ob_some hf
      refine h_callStr hM [vi x3] dX4_is_57 cs_SlimeNetModel_45_9 hk57 (m_J6_charAt hc57) rfl rfl rfl rfl ?_
      refine g_icmp_ne hX dX4_is_60 67 hf (by decide) (fun c60 hf => ?_) (fun c60 hf => ?_)
      · refine g_iconst hX dX4_is_67 (0 : Int32) (by decide) ?_
        exact g_pick (w_f_X4_is_68 hM hf K) [0, 1, 3] rfl
      · refine g_iconst hX dX4_is_63 (1 : Int32) (by decide) ?_
        refine g_goto hX dX4_is_64 68 (by decide) ?_
        exact g_pick (w_f_X4_is_68 hM hf K) [0, 1, 3] rfl

set_option maxRecDepth 100000 in
theorem w_l_X4_is_32 {X : Ctx} (hM : MX X yX4_is cX4_is 4 "SlimeNetModel" (some Jvm.ClassFile.FieldType.boolean) rm_X4_is []) {this : Nat} {x1 : Option Nat} {x2 : Int32} {x3 : Int32} {A : AH} {out : Int32} (hf : l_X4_is_32 this x1 x2 x3 A = some out) (hr : c_res X = r_X4_is A out) : G X 0 0 32 [(0, vr (some this)), (1, vr x1), (2, vi x2), (3, vi x3)] [] A := by
  have hX := hM.1
  unfold l_X4_is_32 at hf
  obtain ⟨e, hw, hf⟩ := ob_some hf
  refine (whl_ind (k_X4_is_32 X this x1 A) (fun st o hs K => w_s_X4_is_32 hM hs K) hw ?_ : k_X4_is_32 X this x1 A (.inl (x2, x3)))
  revert hf hw; generalize e = x2; intro hw hf
  dsimp only at hf
  show G X 0 0 75 [(2, vi x2)] [] A
  exact g_pick (w_f_X4_is_75 hM hf hr) [0] rfl

set_option maxRecDepth 100000 in
theorem w_f_X4_is_29 {X : Ctx} (hM : MX X yX4_is cX4_is 4 "SlimeNetModel" (some Jvm.ClassFile.FieldType.boolean) rm_X4_is []) {this : Nat} {x1 : Option Nat} {t0 : Int32} {A : AH} {out : Int32} (hf : f_X4_is_29 this x1 t0 A = some out) (hr : c_res X = r_X4_is A out) : G X 0 0 29 [(0, vr (some this)), (1, vr x1)] [vi t0] A := by
  have hX := hM.1
  unfold f_X4_is_29 at hf
  refine g_istore_n hX dX4_is_29 [(2, vi t0), (0, vr (some this)), (1, vr x1)] (by decide) rfl ?_
  refine g_iconst hX dX4_is_30 (0 : Int32) (by decide) ?_
  refine g_istore_n hX dX4_is_31 [(3, vi (0 : Int32)), (2, vi t0), (0, vr (some this)), (1, vr x1)] (by decide) rfl ?_
  exact g_pick (w_l_X4_is_32 hM hf hr) [2, 3, 1, 0] rfl

set_option maxRecDepth 100000 in
theorem w_f_X4_is_28 {X : Ctx} (hM : MX X yX4_is cX4_is 4 "SlimeNetModel" (some Jvm.ClassFile.FieldType.boolean) rm_X4_is []) {this : Nat} {x1 : Option Nat} {A : AH} {out : Int32} (hf : f_X4_is_28 this x1 A = some out) (hr : c_res X = r_X4_is A out) : G X 0 0 28 [(0, vr (some this)), (1, vr x1)] [] A := by
  have hX := hM.1
  unfold f_X4_is_28 at hf
  refine g_iconst hX dX4_is_28 (0 : Int32) (by decide) ?_
  exact g_pick (w_f_X4_is_29 hM hf hr) [0, 1] rfl

set_option maxRecDepth 100000 in
theorem w_f_X4_is {X : Ctx} (hM : MX X yX4_is cX4_is 4 "SlimeNetModel" (some Jvm.ClassFile.FieldType.boolean) rm_X4_is []) {this : Nat} {x1 : Option Nat} {A : AH} {out : Int32} (hf : f_X4_is this x1 A = some out) (hr : c_res X = r_X4_is A out) : G X 0 0 0 [(0, vr (some this)), (1, vr x1)] [] A := by
  have hX := hM.1
  unfold f_X4_is at hf
  refine g_aload_n hX dX4_is_0 (lg_at 0 rfl) ?_
  refine g_getI hX hf fs_SlimeNetModel_27_5 rfl dX4_is_1 (fun v1 hf => ?_)
  refine g_iconst hX dX4_is_4 (1 : Int32) (by decide) ?_
  refine g_icmp_ne hX dX4_is_5 28 hf (by decide) (fun c5 hf => ?_) (fun c5 hf => ?_)
  · exact g_pick (w_f_X4_is_28 hM hf hr) [0, 1] rfl
  · refine g_aload_n hX dX4_is_8 (lg_at 0 rfl) ?_
    refine g_getI hX hf fs_SlimeNetModel_20_5 rfl dX4_is_9 (fun v9 hf => ?_)
    refine g_aload_n hX dX4_is_12 (lg_at 0 rfl) ?_
    refine g_getI hX hf fs_SlimeNetModel_7_5 rfl dX4_is_13 (fun v13 hf => ?_)
    refine g_isub hX dX4_is_16 ?_
    refine g_aload_n hX dX4_is_17 (lg_at 1 rfl) ?_
    obtain ⟨k18, hk18, hf⟩ := ob_some hf
    obtain ⟨v18, hc18, hf⟩ := ob_some hf
    refine h_callStr hM [] dX4_is_18 cs_SlimeNetModel_40_9 hk18 (m_J6_length hc18) rfl rfl rfl rfl ?_
    refine g_icmp_ne hX dX4_is_21 28 hf (by decide) (fun c21 hf => ?_) (fun c21 hf => ?_)
    · exact g_pick (w_f_X4_is_28 hM hf hr) [0, 1] rfl
    · refine g_iconst hX dX4_is_24 (1 : Int32) (by decide) ?_
      refine g_goto hX dX4_is_25 29 (by decide) ?_
      exact g_pick (w_f_X4_is_29 hM hf hr) [0, 1] rfl

theorem m_X4_is {l : Launch} {this : Nat} {x1 : Option Nat} {A : AH} {out : Int32} (h : f_X4_is this x1 A = some out) : MetF l yX4_is (Cond.code yX4_is cX4_is 4 (some Jvm.ClassFile.FieldType.boolean)) rm_X4_is [vr (some this), vr x1] A (r_X4_is A out) :=
  metF_of rfl rfl (Nat.le_of_ble_eq_true rfl) fun X hX hl hR hnm hr h1 h2 hno => w_f_X4_is (X := X) ⟨hX, hR, h1, h2, fun _ => ⟨hnm, hno⟩⟩ h hr

/-! SlimeNetModel.bad(I)Z -/
def rm_X4_bad : Room := { frames := 1, cells := 0, slots := 0, locals := 24 }
def r_X4_bad (_A : AH) (o : Int32 × AH) : (Option AV × AH) ⊕ (Nat × AH) := .inl (some (vi o.1), o.2)
set_option maxRecDepth 100000 in
theorem w_f_X4_bad {X : Ctx} (hM : MX X yX4_bad cX4_bad 2 "SlimeNetModel" (some Jvm.ClassFile.FieldType.boolean) rm_X4_bad []) {this : Nat} {x1 : Int32} {A : AH} {out : Int32 × AH} (hf : f_X4_bad this x1 A = some out) (hr : c_res X = r_X4_bad A out) : G X 0 0 0 [(0, vr (some this)), (1, vi x1)] [] A := by
  have hX := hM.1
  unfold f_X4_bad at hf
  refine g_aload_n hX dX4_bad_0 (lg_at 0 rfl) ?_
  refine g_iload_n hX dX4_bad_1 (lg_at 1 rfl) ?_
  refine g_putI hX hf fs_SlimeNetModel_3_5 ⟨_, rfl, Or.inl rfl⟩ rfl dX4_bad_2 (fun A2 hf => ?_)
  refine g_aload_n hX dX4_bad_5 (lg_at 0 rfl) ?_
  refine g_aload_n hX dX4_bad_6 (lg_at 0 rfl) ?_
  refine g_getI hX hf fs_SlimeNetModel_7_5 rfl dX4_bad_7 (fun v7 hf => ?_)
  refine g_putI hX hf fs_SlimeNetModel_10_5 ⟨_, rfl, Or.inl rfl⟩ rfl dX4_bad_10 (fun A10 hf => ?_)
  refine g_iconst hX dX4_bad_13 (0 : Int32) (by decide) ?_
  cases hf
  exact h_zret hM dX4_bad_14 hr rfl (by decide) rfl

theorem m_X4_bad {l : Launch} {this : Nat} {x1 : Int32} {A : AH} {out : Int32 × AH} (h : f_X4_bad this x1 A = some out) : MetF l yX4_bad (Cond.code yX4_bad cX4_bad 2 (some Jvm.ClassFile.FieldType.boolean)) rm_X4_bad [vr (some this), vi x1] A (r_X4_bad A out) :=
  metF_of rfl rfl (Nat.le_of_ble_eq_true rfl) fun X hX hl hR hnm hr h1 h2 hno => w_f_X4_bad (X := X) ⟨hX, hR, h1, h2, fun _ => ⟨hnm, hno⟩⟩ h hr

/-! SlimeNetModel.name()J -/
def rm_X4_name : Room := { frames := 2, cells := 0, slots := 0, locals := 45 }
def r_X4_name (A : AH) (o : Int64) : (Option AV × AH) ⊕ (Nat × AH) := .inl (some (vl o), A)
def k_X4_name_7 (X : Ctx) (this : Nat) (A : AH) : ((Int64 × Int32) ⊕ (Int64)) → Prop
  | .inl (x1, x3) => G X 0 0 7 [(0, vr (some this)), (1, vl x1), (3, vi x3)] [] A
  | .inr x1 => G X 0 0 35 [(1, vl x1)] [] A

set_option maxRecDepth 100000 in
theorem w_s_X4_name_7 {X : Ctx} (hM : MX X yX4_name cX4_name 4 "SlimeNetModel" (some Jvm.ClassFile.FieldType.long) rm_X4_name []) {this : Nat} {A : AH} {st : Int64 × Int32} {out : (Int64 × Int32) ⊕ (Int64)} (hf : s_X4_name_7 this A st = some out) (K : k_X4_name_7 X this A out) : k_X4_name_7 X this A (.inl st) := by
  have hX := hM.1
  obtain ⟨x1, x3⟩ := st
  unfold s_X4_name_7 at hf
  dsimp only at hf
  show G X 0 0 7 [(0, vr (some this)), (1, vl x1), (3, vi x3)] [] A
  refine g_iload_n hX dX4_name_7 (lg_at 2 rfl) ?_
  refine g_aload_n hX dX4_name_8 (lg_at 0 rfl) ?_
  refine g_getI hX hf fs_SlimeNetModel_20_5 rfl dX4_name_9 (fun v9 hf => ?_)
  refine g_icmp_ge hX dX4_name_12 35 hf (by decide) (fun c12 hf => ?_) (fun c12 hf => ?_)
  · cases hf
    exact g_pick (show G X _ _ _ _ _ _ from K) [1] rfl
  · refine g_lload_n hX dX4_name_15 (lg_at 1 rfl) ?_
    refine g_iconst hX dX4_name_16 (5 : Int32) (by decide) ?_
    refine g_lshl hX dX4_name_17 ?_
    refine g_aload_n hX dX4_name_18 (lg_at 0 rfl) ?_
    refine g_iload_n hX dX4_name_19 (lg_at 2 rfl) ?_
    obtain ⟨k20, hk20, hf⟩ := ob_some hf
    obtain ⟨v20, hc20, hf⟩ := ob_some hf
    refine h_callV hM [vi x3] dX4_name_20 cs_SlimeNetModel_23_5 hk20 (m_X4_byteAt hc20) rfl rfl rfl rfl ?_
    refine g_bipush hX dX4_name_23 (96 : Int32) (by decide) ?_
    refine g_isub hX dX4_name_25 ?_
    refine g_i2l hX dX4_name_26 ?_
    refine g_lor hX dX4_name_27 ?_
    refine g_lstore_n hX dX4_name_28 [(1, vl ((x1 <<< (Int32.toInt64 (5 : Int32) &&& 63)) ||| (Int32.toInt64 (v20 - (96 : Int32))))), (0, vr (some this)), (3, vi x3)] (by decide) rfl ?_
    refine g_iinc hX dX4_name_29 (1 : Int32) (x3 + (1 : Int32)) [(3, vi (x3 + (1 : Int32))), (1, vl ((x1 <<< (Int32.toInt64 (5 : Int32) &&& 63)) ||| (Int32.toInt64 (v20 - (96 : Int32))))), (0, vr (some this))] (by decide) rfl (lg_at 2 rfl) (by decide) rfl ?_
    refine g_goto hX dX4_name_32 7 (by decide) ?_
    cases hf
    exact g_pick (show G X _ _ _ _ _ _ from K) [2, 1, 0] rfl

set_option maxRecDepth 100000 in
theorem w_l_X4_name_7 {X : Ctx} (hM : MX X yX4_name cX4_name 4 "SlimeNetModel" (some Jvm.ClassFile.FieldType.long) rm_X4_name []) {this : Nat} {x1 : Int64} {x3 : Int32} {A : AH} {out : Int64} (hf : l_X4_name_7 this x1 x3 A = some out) (hr : c_res X = r_X4_name A out) : G X 0 0 7 [(0, vr (some this)), (1, vl x1), (3, vi x3)] [] A := by
  have hX := hM.1
  unfold l_X4_name_7 at hf
  obtain ⟨e, hw, hf⟩ := ob_some hf
  refine (whl_ind (k_X4_name_7 X this A) (fun st o hs K => w_s_X4_name_7 hM hs K) hw ?_ : k_X4_name_7 X this A (.inl (x1, x3)))
  revert hf hw; generalize e = x1; intro hw hf
  dsimp only at hf
  show G X 0 0 35 [(1, vl x1)] [] A
  refine g_lload_n hX dX4_name_35 (lg_at 0 rfl) ?_
  cases hf
  exact h_lret hM dX4_name_36 hr rfl rfl

set_option maxRecDepth 100000 in
theorem w_f_X4_name {X : Ctx} (hM : MX X yX4_name cX4_name 4 "SlimeNetModel" (some Jvm.ClassFile.FieldType.long) rm_X4_name []) {this : Nat} {A : AH} {out : Int64} (hf : f_X4_name this A = some out) (hr : c_res X = r_X4_name A out) : G X 0 0 0 [(0, vr (some this))] [] A := by
  have hX := hM.1
  unfold f_X4_name at hf
  refine g_lconst hX dX4_name_0 (0 : Int64) (by decide) ?_
  refine g_lstore_n hX dX4_name_1 [(1, vl (0 : Int64)), (0, vr (some this))] (by decide) rfl ?_
  refine g_aload_n hX dX4_name_2 (lg_at 1 rfl) ?_
  refine g_getI hX hf fs_SlimeNetModel_7_5 rfl dX4_name_3 (fun v3 hf => ?_)
  refine g_istore_n hX dX4_name_6 [(3, vi v3), (1, vl (0 : Int64)), (0, vr (some this))] (by decide) rfl ?_
  exact g_pick (w_l_X4_name_7 hM hf hr) [2, 1, 0] rfl

theorem m_X4_name {l : Launch} {this : Nat} {A : AH} {out : Int64} (h : f_X4_name this A = some out) : MetF l yX4_name (Cond.code yX4_name cX4_name 4 (some Jvm.ClassFile.FieldType.long)) rm_X4_name [vr (some this)] A (r_X4_name A out) :=
  metF_of rfl rfl (Nat.le_of_ble_eq_true rfl) fun X hX hl hR hnm hr h1 h2 hno => w_f_X4_name (X := X) ⟨hX, hR, h1, h2, fun _ => ⟨hnm, hno⟩⟩ h hr

/-! SlimeNetModel.spotAt()I -/
def rm_X4_spotAt : Room := { frames := 3, cells := 0, slots := 0, locals := 68 }
def r_X4_spotAt (A : AH) (o : Int32) : (Option AV × AH) ⊕ (Nat × AH) := .inl (some (vi o), A)
def k_X4_spotAt_2 (X : Ctx) (this : Nat) (A : AH) : ((Int32) ⊕ ((Int32) ⊕ (Unit))) → Prop
  | .inl x1 => G X 0 0 2 [(0, vr (some this)), (1, vi x1)] [] A
  | .inr (.inl x1) => G X 0 0 24 [(1, vi x1)] [] A
  | .inr (.inr ()) => G X 0 0 32 [] [] A

set_option maxRecDepth 100000 in
theorem w_s_X4_spotAt_2 {X : Ctx} (hM : MX X yX4_spotAt cX4_spotAt 2 "SlimeNetModel" (some Jvm.ClassFile.FieldType.int) rm_X4_spotAt []) {this : Nat} {A : AH} {st : Int32} {out : (Int32) ⊕ ((Int32) ⊕ (Unit))} (hf : s_X4_spotAt_2 this A st = some out) (K : k_X4_spotAt_2 X this A out) : k_X4_spotAt_2 X this A (.inl st) := by
  have hX := hM.1
  revert hf; generalize st = x1; intro hf
  unfold s_X4_spotAt_2 at hf
  dsimp only at hf
  show G X 0 0 2 [(0, vr (some this)), (1, vi x1)] [] A
  refine g_iload_n hX dX4_spotAt_2 (lg_at 1 rfl) ?_
  refine g_aload_n hX dX4_spotAt_3 (lg_at 0 rfl) ?_
  refine g_getI hX hf fs_SlimeNetModel_63_5 rfl dX4_spotAt_4 (fun v4 hf => ?_)
  refine g_icmp_ge hX dX4_spotAt_7 32 hf (by decide) (fun c7 hf => ?_) (fun c7 hf => ?_)
  · cases hf
    exact g_pick (show G X _ _ _ _ _ _ from K) [] rfl
  · refine g_aload_n hX dX4_spotAt_10 (lg_at 0 rfl) ?_
    refine g_getR hX hf fs_SlimeNetModel_66_5 rfl dX4_spotAt_11 (fun v11 hf => ?_)
    refine g_iload_n hX dX4_spotAt_14 (lg_at 1 rfl) ?_
    refine g_lald hX hf dX4_spotAt_15 (fun v15 hf => ?_)
    refine g_aload_n hX dX4_spotAt_16 (lg_at 0 rfl) ?_
    obtain ⟨k17, hk17, hf⟩ := ob_some hf
    obtain ⟨v17, hc17, hf⟩ := ob_some hf
    refine h_callV hM [] dX4_spotAt_17 cs_SlimeNetModel_70_5 hk17 (m_X4_name hc17) rfl rfl rfl rfl ?_
    refine g_lcmp hX dX4_spotAt_20 ?_
    refine g_if_ne hX dX4_spotAt_21 26 hf (by decide) (fun c21 hf => ?_) (fun c21 hf => ?_)
    · refine g_iinc hX dX4_spotAt_26 (1 : Int32) (x1 + (1 : Int32)) [(1, vi (x1 + (1 : Int32))), (0, vr (some this))] (by decide) rfl (lg_at 1 rfl) (by decide) rfl ?_
      refine g_goto hX dX4_spotAt_29 2 (by decide) ?_
      cases hf
      exact g_pick (show G X _ _ _ _ _ _ from K) [1, 0] rfl
    · cases hf
      exact g_pick (show G X _ _ _ _ _ _ from K) [1] rfl

set_option maxRecDepth 100000 in
theorem w_l_X4_spotAt_2 {X : Ctx} (hM : MX X yX4_spotAt cX4_spotAt 2 "SlimeNetModel" (some Jvm.ClassFile.FieldType.int) rm_X4_spotAt []) {this : Nat} {x1 : Int32} {A : AH} {out : Int32} (hf : l_X4_spotAt_2 this x1 A = some out) (hr : c_res X = r_X4_spotAt A out) : G X 0 0 2 [(0, vr (some this)), (1, vi x1)] [] A := by
  have hX := hM.1
  unfold l_X4_spotAt_2 at hf
  obtain ⟨e, hw, hf⟩ := ob_some hf
  refine (whl_ind (k_X4_spotAt_2 X this A) (fun st o hs K => w_s_X4_spotAt_2 hM hs K) hw ?_ : k_X4_spotAt_2 X this A (.inl x1))
  rcases e with x1 | ⟨⟩
  · dsimp only at hf
    show G X 0 0 24 [(1, vi x1)] [] A
    refine g_iload_n hX dX4_spotAt_24 (lg_at 0 rfl) ?_
    cases hf
    exact h_iret hM dX4_spotAt_25 hr rfl rfl
  · dsimp only at hf
    show G X 0 0 32 [] [] A
    refine g_iconst hX dX4_spotAt_32 (-1 : Int32) (by decide) ?_
    cases hf
    exact h_iret hM dX4_spotAt_33 hr rfl rfl

set_option maxRecDepth 100000 in
theorem w_f_X4_spotAt {X : Ctx} (hM : MX X yX4_spotAt cX4_spotAt 2 "SlimeNetModel" (some Jvm.ClassFile.FieldType.int) rm_X4_spotAt []) {this : Nat} {A : AH} {out : Int32} (hf : f_X4_spotAt this A = some out) (hr : c_res X = r_X4_spotAt A out) : G X 0 0 0 [(0, vr (some this))] [] A := by
  have hX := hM.1
  unfold f_X4_spotAt at hf
  refine g_iconst hX dX4_spotAt_0 (0 : Int32) (by decide) ?_
  refine g_istore_n hX dX4_spotAt_1 [(1, vi (0 : Int32)), (0, vr (some this))] (by decide) rfl ?_
  exact g_pick (w_l_X4_spotAt_2 hM hf hr) [1, 0] rfl

theorem m_X4_spotAt {l : Launch} {this : Nat} {A : AH} {out : Int32} (h : f_X4_spotAt this A = some out) : MetF l yX4_spotAt (Cond.code yX4_spotAt cX4_spotAt 2 (some Jvm.ClassFile.FieldType.int)) rm_X4_spotAt [vr (some this)] A (r_X4_spotAt A out) :=
  metF_of rfl rfl (Nat.le_of_ble_eq_true rfl) fun X hX hl hR hnm hr h1 h2 hno => w_f_X4_spotAt (X := X) ⟨hX, hR, h1, h2, fun _ => ⟨hnm, hno⟩⟩ h hr

/-! SlimeNetModel.readSpot()Z -/
def rm_X4_readSpot : Room := { frames := 4, cells := 0, slots := 0, locals := 89 }
def r_X4_readSpot (_A : AH) (o : Int32 × AH) : (Option AV × AH) ⊕ (Nat × AH) := .inl (some (vi o.1), o.2)
set_option maxRecDepth 100000 in
theorem w_f_X4_readSpot {X : Ctx} (hM : MX X yX4_readSpot cX4_readSpot 1 "SlimeNetModel" (some Jvm.ClassFile.FieldType.boolean) rm_X4_readSpot []) {this : Nat} {A : AH} {out : Int32 × AH} (hf : f_X4_readSpot this A = some out) (hr : c_res X = r_X4_readSpot A out) : G X 0 0 0 [(0, vr (some this))] [] A := by
  have hX := hM.1
  unfold f_X4_readSpot at hf
  refine g_aload_n hX dX4_readSpot_0 (lg_at 0 rfl) ?_
  refine g_getI hX hf fs_SlimeNetModel_63_5 rfl dX4_readSpot_1 (fun v1 hf => ?_)
  refine g_bipush hX dX4_readSpot_4 (6 : Int32) (by decide) ?_
  refine g_icmp_ne hX dX4_readSpot_6 15 hf (by decide) (fun c6 hf => ?_) (fun c6 hf => ?_)
  · refine g_aload_n hX dX4_readSpot_15 (lg_at 0 rfl) ?_
    obtain ⟨k16, hk16, hf⟩ := ob_some hf
    obtain ⟨A16, hc16, hf⟩ := ob_some hf
    refine h_callV hM [] dX4_readSpot_16 cs_SlimeNetModel_59_5 hk16 (m_X4_scan hc16) rfl rfl rfl rfl ?_
    refine g_aload_n hX dX4_readSpot_19 (lg_at 0 rfl) ?_
    refine g_getI hX hf fs_SlimeNetModel_27_5 rfl dX4_readSpot_20 (fun v20 hf => ?_)
    refine g_iconst hX dX4_readSpot_23 (1 : Int32) (by decide) ?_
    refine g_icmp_eq hX dX4_readSpot_24 33 hf (by decide) (fun c24 hf => ?_) (fun c24 hf => ?_)
    · refine g_aload_n hX dX4_readSpot_33 (lg_at 0 rfl) ?_
      obtain ⟨k34, hk34, hf⟩ := ob_some hf
      obtain ⟨v34, hc34, hf⟩ := ob_some hf
      refine h_callV hM [] dX4_readSpot_34 cs_SlimeNetModel_74_5 hk34 (m_X4_spotAt hc34) rfl rfl rfl rfl ?_
      refine g_iconst hX dX4_readSpot_37 (-1 : Int32) (by decide) ?_
      refine g_icmp_eq hX dX4_readSpot_38 47 hf (by decide) (fun c38 hf => ?_) (fun c38 hf => ?_)
      · refine g_aload_n hX dX4_readSpot_47 (lg_at 0 rfl) ?_
        refine g_getR hX hf fs_SlimeNetModel_66_5 rfl dX4_readSpot_48 (fun v48 hf => ?_)
        refine g_aload_n hX dX4_readSpot_51 (lg_at 0 rfl) ?_
        refine g_getI hX hf fs_SlimeNetModel_63_5 rfl dX4_readSpot_52 (fun v52 hf => ?_)
        refine g_aload_n hX dX4_readSpot_55 (lg_at 0 rfl) ?_
        obtain ⟨k56, hk56, hf⟩ := ob_some hf
        obtain ⟨v56, hc56, hf⟩ := ob_some hf
        refine h_callV hM [] dX4_readSpot_56 cs_SlimeNetModel_70_5 hk56 (m_X4_name hc56) rfl rfl rfl rfl ?_
        refine g_last hX hf dX4_readSpot_59 (fun A59 hf => ?_)
        refine g_aload_n hX dX4_readSpot_60 (lg_at 0 rfl) ?_
        refine g_dup hX dX4_readSpot_61 rfl ?_
        refine g_getI hX hf fs_SlimeNetModel_63_5 rfl dX4_readSpot_62 (fun v62 hf => ?_)
        refine g_iconst hX dX4_readSpot_65 (1 : Int32) (by decide) ?_
        refine g_iadd hX dX4_readSpot_66 ?_
        refine g_putI hX hf fs_SlimeNetModel_63_5 ⟨_, rfl, Or.inl rfl⟩ rfl dX4_readSpot_67 (fun A67 hf => ?_)
        refine g_aload_n hX dX4_readSpot_70 (lg_at 0 rfl) ?_
        obtain ⟨k71, hk71, hf⟩ := ob_some hf
        obtain ⟨A71, hc71, hf⟩ := ob_some hf
        refine h_callV hM [] dX4_readSpot_71 cs_SlimeNetModel_59_5 hk71 (m_X4_scan hc71) rfl rfl rfl rfl ?_
        refine g_iconst hX dX4_readSpot_74 (1 : Int32) (by decide) ?_
        cases hf
        exact h_zret hM dX4_readSpot_75 hr rfl (by decide) rfl
      · refine g_aload_n hX dX4_readSpot_41 (lg_at 0 rfl) ?_
        refine g_iconst hX dX4_readSpot_42 (3 : Int32) (by decide) ?_
        obtain ⟨k43, hk43, hf⟩ := ob_some hf
        obtain ⟨⟨v43, A43⟩, hc43, hf⟩ := ob_some hf
        refine h_callV hM [vi (3 : Int32)] dX4_readSpot_43 cs_SlimeNetModel_49_5 hk43 (m_X4_bad hc43) rfl rfl rfl rfl ?_
        dsimp only at hf
        obtain ⟨w46, hz46, hf⟩ := ob_some hf
        cases hf
        exact h_zret hM dX4_readSpot_46 hr rfl (ckZ_nar hz46).2 rfl
    · refine g_aload_n hX dX4_readSpot_27 (lg_at 0 rfl) ?_
      refine g_iconst hX dX4_readSpot_28 (1 : Int32) (by decide) ?_
      obtain ⟨k29, hk29, hf⟩ := ob_some hf
      obtain ⟨⟨v29, A29⟩, hc29, hf⟩ := ob_some hf
      refine h_callV hM [vi (1 : Int32)] dX4_readSpot_29 cs_SlimeNetModel_49_5 hk29 (m_X4_bad hc29) rfl rfl rfl rfl ?_
      dsimp only at hf
      obtain ⟨w32, hz32, hf⟩ := ob_some hf
      cases hf
      exact h_zret hM dX4_readSpot_32 hr rfl (ckZ_nar hz32).2 rfl
  · refine g_aload_n hX dX4_readSpot_9 (lg_at 0 rfl) ?_
    refine g_iconst hX dX4_readSpot_10 (4 : Int32) (by decide) ?_
    obtain ⟨k11, hk11, hf⟩ := ob_some hf
    obtain ⟨⟨v11, A11⟩, hc11, hf⟩ := ob_some hf
    refine h_callV hM [vi (4 : Int32)] dX4_readSpot_11 cs_SlimeNetModel_49_5 hk11 (m_X4_bad hc11) rfl rfl rfl rfl ?_
    dsimp only at hf
    obtain ⟨w14, hz14, hf⟩ := ob_some hf
    cases hf
    exact h_zret hM dX4_readSpot_14 hr rfl (ckZ_nar hz14).2 rfl

theorem m_X4_readSpot {l : Launch} {this : Nat} {A : AH} {out : Int32 × AH} (h : f_X4_readSpot this A = some out) : MetF l yX4_readSpot (Cond.code yX4_readSpot cX4_readSpot 1 (some Jvm.ClassFile.FieldType.boolean)) rm_X4_readSpot [vr (some this)] A (r_X4_readSpot A out) :=
  metF_of rfl rfl (Nat.le_of_ble_eq_true rfl) fun X hX hl hR hnm hr h1 h2 hno => w_f_X4_readSpot (X := X) ⟨hX, hR, h1, h2, fun _ => ⟨hnm, hno⟩⟩ h hr

/-! SlimeNetModel.known()Z -/
def rm_X4_known : Room := { frames := 4, cells := 0, slots := 0, locals := 89 }
def r_X4_known (_A : AH) (o : Int32 × AH) : (Option AV × AH) ⊕ (Nat × AH) := .inl (some (vi o.1), o.2)
set_option maxRecDepth 100000 in
theorem w_f_X4_known_43 {X : Ctx} (hM : MX X yX4_known cX4_known 1 "SlimeNetModel" (some Jvm.ClassFile.FieldType.boolean) rm_X4_known []) {t0 : Int32} {A : AH} {out : Int32 × AH} (hf : f_X4_known_43 t0 A = some out) (hr : c_res X = r_X4_known A out) : G X 0 0 43 [] [vi t0] A := by
  have hX := hM.1
  unfold f_X4_known_43 at hf
  obtain ⟨w43, hz43, hf⟩ := ob_some hf
  cases hf
  exact h_zret hM dX4_known_43 hr rfl (ckZ_nar hz43).2 rfl

set_option maxRecDepth 100000 in
theorem w_f_X4_known_38 {X : Ctx} (hM : MX X yX4_known cX4_known 1 "SlimeNetModel" (some Jvm.ClassFile.FieldType.boolean) rm_X4_known []) {A : AH} {out : Int32 × AH} (hf : f_X4_known_38 A = some out) (hr : c_res X = r_X4_known A out) : G X 0 0 38 [] [] A := by
  have hX := hM.1
  unfold f_X4_known_38 at hf
  refine g_iconst hX dX4_known_38 (1 : Int32) (by decide) ?_
  refine g_goto hX dX4_known_39 43 (by decide) ?_
  exact g_pick (w_f_X4_known_43 hM hf hr) [] rfl

set_option maxRecDepth 100000 in
theorem w_f_X4_known {X : Ctx} (hM : MX X yX4_known cX4_known 1 "SlimeNetModel" (some Jvm.ClassFile.FieldType.boolean) rm_X4_known []) {this : Nat} {A : AH} {out : Int32 × AH} (hf : f_X4_known this A = some out) (hr : c_res X = r_X4_known A out) : G X 0 0 0 [(0, vr (some this))] [] A := by
  have hX := hM.1
  unfold f_X4_known at hf
  refine g_aload_n hX dX4_known_0 (lg_at 0 rfl) ?_
  refine g_getI hX hf fs_SlimeNetModel_27_5 rfl dX4_known_1 (fun v1 hf => ?_)
  refine g_iconst hX dX4_known_4 (1 : Int32) (by decide) ?_
  refine g_icmp_eq hX dX4_known_5 14 hf (by decide) (fun c5 hf => ?_) (fun c5 hf => ?_)
  · refine g_aload_n hX dX4_known_14 (lg_at 0 rfl) ?_
    refine g_aload_n hX dX4_known_15 (lg_at 0 rfl) ?_
    obtain ⟨k16, hk16, hf⟩ := ob_some hf
    obtain ⟨v16, hc16, hf⟩ := ob_some hf
    refine h_callV hM [] dX4_known_16 cs_SlimeNetModel_74_5 hk16 (m_X4_spotAt hc16) rfl rfl rfl rfl ?_
    refine g_putI hX hf fs_SlimeNetModel_56_5 ⟨_, rfl, Or.inl rfl⟩ rfl dX4_known_19 (fun A19 hf => ?_)
    refine g_aload_n hX dX4_known_22 (lg_at 0 rfl) ?_
    refine g_getI hX hf fs_SlimeNetModel_56_5 rfl dX4_known_23 (fun v23 hf => ?_)
    refine g_iconst hX dX4_known_26 (-1 : Int32) (by decide) ?_
    refine g_icmp_ne hX dX4_known_27 38 hf (by decide) (fun c27 hf => ?_) (fun c27 hf => ?_)
    · exact g_pick (w_f_X4_known_38 hM hf hr) [] rfl
    · refine g_aload_n hX dX4_known_30 (lg_at 0 rfl) ?_
      refine g_iconst hX dX4_known_31 (5 : Int32) (by decide) ?_
      obtain ⟨k32, hk32, hf⟩ := ob_some hf
      obtain ⟨⟨v32, A32⟩, hc32, hf⟩ := ob_some hf
      refine h_callV hM [vi (5 : Int32)] dX4_known_32 cs_SlimeNetModel_49_5 hk32 (m_X4_bad hc32) rfl rfl rfl rfl ?_
      dsimp only at hf
      refine g_if_eq hX dX4_known_35 42 hf (by decide) (fun c35 hf => ?_) (fun c35 hf => ?_)
      · refine g_iconst hX dX4_known_42 (0 : Int32) (by decide) ?_
        exact g_pick (w_f_X4_known_43 hM hf hr) [] rfl
      · exact g_pick (w_f_X4_known_38 hM hf hr) [] rfl
  · refine g_aload_n hX dX4_known_8 (lg_at 0 rfl) ?_
    refine g_iconst hX dX4_known_9 (1 : Int32) (by decide) ?_
    obtain ⟨k10, hk10, hf⟩ := ob_some hf
    obtain ⟨⟨v10, A10⟩, hc10, hf⟩ := ob_some hf
    refine h_callV hM [vi (1 : Int32)] dX4_known_10 cs_SlimeNetModel_49_5 hk10 (m_X4_bad hc10) rfl rfl rfl rfl ?_
    dsimp only at hf
    obtain ⟨w13, hz13, hf⟩ := ob_some hf
    cases hf
    exact h_zret hM dX4_known_13 hr rfl (ckZ_nar hz13).2 rfl

theorem m_X4_known {l : Launch} {this : Nat} {A : AH} {out : Int32 × AH} (h : f_X4_known this A = some out) : MetF l yX4_known (Cond.code yX4_known cX4_known 1 (some Jvm.ClassFile.FieldType.boolean)) rm_X4_known [vr (some this)] A (r_X4_known A out) :=
  metF_of rfl rfl (Nat.le_of_ble_eq_true rfl) fun X hX hl hR hnm hr h1 h2 hno => w_f_X4_known (X := X) ⟨hX, hR, h1, h2, fun _ => ⟨hnm, hno⟩⟩ h hr

/-! SlimeNetModel.pipeOf(II)I -/
def rm_X4_pipeOf : Room := { frames := 1, cells := 0, slots := 0, locals := 24 }
def r_X4_pipeOf (A : AH) (o : Int32) : (Option AV × AH) ⊕ (Nat × AH) := .inl (some (vi o), A)
def k_X4_pipeOf_2 (X : Ctx) (this : Nat) (x1 : Int32) (x2 : Int32) (A : AH) : ((Int32) ⊕ ((Int32) ⊕ (Unit))) → Prop
  | .inl x3 => G X 0 0 2 [(0, vr (some this)), (1, vi x1), (2, vi x2), (3, vi x3)] [] A
  | .inr (.inl x3) => G X 0 0 50 [(3, vi x3)] [] A
  | .inr (.inr ()) => G X 0 0 58 [] [] A

set_option maxRecDepth 100000 in
theorem w_f_X4_pipeOf_52 {X : Ctx} (hM : MX X yX4_pipeOf cX4_pipeOf 4 "SlimeNetModel" (some Jvm.ClassFile.FieldType.int) rm_X4_pipeOf []) {this : Nat} {x1 : Int32} {x2 : Int32} {x3 : Int32} {A : AH} {out : (Int32) ⊕ ((Int32) ⊕ (Unit))} (hf : f_X4_pipeOf_52 this x1 x2 x3 A = some out) (K : k_X4_pipeOf_2 X this x1 x2 A out) : G X 0 0 52 [(0, vr (some this)), (1, vi x1), (2, vi x2), (3, vi x3)] [] A := by
  have hX := hM.1
  unfold f_X4_pipeOf_52 at hf
  refine g_iinc hX dX4_pipeOf_52 (1 : Int32) (x3 + (1 : Int32)) [(3, vi (x3 + (1 : Int32))), (0, vr (some this)), (1, vi x1), (2, vi x2)] (by decide) rfl (lg_at 3 rfl) (by decide) rfl ?_
  refine g_goto hX dX4_pipeOf_55 2 (by decide) ?_
  cases hf
  exact g_pick (show G X _ _ _ _ _ _ from K) [1, 2, 3, 0] rfl

set_option maxRecDepth 100000 in
theorem w_f_X4_pipeOf_30 {X : Ctx} (hM : MX X yX4_pipeOf cX4_pipeOf 4 "SlimeNetModel" (some Jvm.ClassFile.FieldType.int) rm_X4_pipeOf []) {this : Nat} {x1 : Int32} {x2 : Int32} {x3 : Int32} {A : AH} {out : (Int32) ⊕ ((Int32) ⊕ (Unit))} (hf : f_X4_pipeOf_30 this x1 x2 x3 A = some out) (K : k_X4_pipeOf_2 X this x1 x2 A out) : G X 0 0 30 [(0, vr (some this)), (1, vi x1), (2, vi x2), (3, vi x3)] [] A := by
  have hX := hM.1
  unfold f_X4_pipeOf_30 at hf
  refine g_aload_n hX dX4_pipeOf_30 (lg_at 0 rfl) ?_
  refine g_getR hX hf fs_SlimeNetModel_80_5 rfl dX4_pipeOf_31 (fun v31 hf => ?_)
  refine g_iload_n hX dX4_pipeOf_34 (lg_at 3 rfl) ?_
  refine g_iald hX hf dX4_pipeOf_35 (fun v35 hf => ?_)
  refine g_iload_n hX dX4_pipeOf_36 (lg_at 2 rfl) ?_
  refine g_icmp_ne hX dX4_pipeOf_37 52 hf (by decide) (fun c37 hf => ?_) (fun c37 hf => ?_)
  · exact g_pick (w_f_X4_pipeOf_52 hM hf K) [0, 1, 2, 3] rfl
  · refine g_aload_n hX dX4_pipeOf_40 (lg_at 0 rfl) ?_
    refine g_getR hX hf fs_SlimeNetModel_84_5 rfl dX4_pipeOf_41 (fun v41 hf => ?_)
    refine g_iload_n hX dX4_pipeOf_44 (lg_at 3 rfl) ?_
    refine g_iald hX hf dX4_pipeOf_45 (fun v45 hf => ?_)
    refine g_iload_n hX dX4_pipeOf_46 (lg_at 1 rfl) ?_
    refine g_icmp_ne hX dX4_pipeOf_47 52 hf (by decide) (fun c47 hf => ?_) (fun c47 hf => ?_)
    · exact g_pick (w_f_X4_pipeOf_52 hM hf K) [0, 1, 2, 3] rfl
    · cases hf
      exact g_pick (show G X _ _ _ _ _ _ from K) [3] rfl

set_option maxRecDepth 100000 in
theorem w_f_X4_pipeOf_50 {X : Ctx} (hM : MX X yX4_pipeOf cX4_pipeOf 4 "SlimeNetModel" (some Jvm.ClassFile.FieldType.int) rm_X4_pipeOf []) {x3 : Int32} {A : AH} {out : Int32} (hf : f_X4_pipeOf_50 x3 A = some out) (hr : c_res X = r_X4_pipeOf A out) : G X 0 0 50 [(3, vi x3)] [] A := by
  have hX := hM.1
  unfold f_X4_pipeOf_50 at hf
  refine g_iload_n hX dX4_pipeOf_50 (lg_at 0 rfl) ?_
  cases hf
  exact h_iret hM dX4_pipeOf_51 hr rfl rfl

set_option maxRecDepth 100000 in
theorem w_s_X4_pipeOf_2 {X : Ctx} (hM : MX X yX4_pipeOf cX4_pipeOf 4 "SlimeNetModel" (some Jvm.ClassFile.FieldType.int) rm_X4_pipeOf []) {this : Nat} {x1 : Int32} {x2 : Int32} {A : AH} {st : Int32} {out : (Int32) ⊕ ((Int32) ⊕ (Unit))} (hf : s_X4_pipeOf_2 this x1 x2 A st = some out) (K : k_X4_pipeOf_2 X this x1 x2 A out) : k_X4_pipeOf_2 X this x1 x2 A (.inl st) := by
  have hX := hM.1
  revert hf; generalize st = x3; intro hf
  unfold s_X4_pipeOf_2 at hf
  dsimp only at hf
  show G X 0 0 2 [(0, vr (some this)), (1, vi x1), (2, vi x2), (3, vi x3)] [] A
  refine g_iload_n hX dX4_pipeOf_2 (lg_at 3 rfl) ?_
  refine g_aload_n hX dX4_pipeOf_3 (lg_at 0 rfl) ?_
  refine g_getI hX hf fs_SlimeNetModel_77_5 rfl dX4_pipeOf_4 (fun v4 hf => ?_)
  refine g_icmp_ge hX dX4_pipeOf_7 58 hf (by decide) (fun c7 hf => ?_) (fun c7 hf => ?_)
  · cases hf
    exact g_pick (show G X _ _ _ _ _ _ from K) [] rfl
  · refine g_aload_n hX dX4_pipeOf_10 (lg_at 0 rfl) ?_
    refine g_getR hX hf fs_SlimeNetModel_80_5 rfl dX4_pipeOf_11 (fun v11 hf => ?_)
    refine g_iload_n hX dX4_pipeOf_14 (lg_at 3 rfl) ?_
    refine g_iald hX hf dX4_pipeOf_15 (fun v15 hf => ?_)
    refine g_iload_n hX dX4_pipeOf_16 (lg_at 1 rfl) ?_
    refine g_icmp_ne hX dX4_pipeOf_17 30 hf (by decide) (fun c17 hf => ?_) (fun c17 hf => ?_)
    · exact g_pick (w_f_X4_pipeOf_30 hM hf K) [0, 1, 2, 3] rfl
    · refine g_aload_n hX dX4_pipeOf_20 (lg_at 0 rfl) ?_
      refine g_getR hX hf fs_SlimeNetModel_84_5 rfl dX4_pipeOf_21 (fun v21 hf => ?_)
      refine g_iload_n hX dX4_pipeOf_24 (lg_at 3 rfl) ?_
      refine g_iald hX hf dX4_pipeOf_25 (fun v25 hf => ?_)
      refine g_iload_n hX dX4_pipeOf_26 (lg_at 2 rfl) ?_
      refine g_icmp_eq hX dX4_pipeOf_27 50 hf (by decide) (fun c27 hf => ?_) (fun c27 hf => ?_)
      · cases hf
        exact g_pick (show G X _ _ _ _ _ _ from K) [3] rfl
      · exact g_pick (w_f_X4_pipeOf_30 hM hf K) [0, 1, 2, 3] rfl

set_option maxRecDepth 100000 in
theorem w_l_X4_pipeOf_2 {X : Ctx} (hM : MX X yX4_pipeOf cX4_pipeOf 4 "SlimeNetModel" (some Jvm.ClassFile.FieldType.int) rm_X4_pipeOf []) {this : Nat} {x1 : Int32} {x2 : Int32} {x3 : Int32} {A : AH} {out : Int32} (hf : l_X4_pipeOf_2 this x1 x2 x3 A = some out) (hr : c_res X = r_X4_pipeOf A out) : G X 0 0 2 [(0, vr (some this)), (1, vi x1), (2, vi x2), (3, vi x3)] [] A := by
  have hX := hM.1
  unfold l_X4_pipeOf_2 at hf
  obtain ⟨e, hw, hf⟩ := ob_some hf
  refine (whl_ind (k_X4_pipeOf_2 X this x1 x2 A) (fun st o hs K => w_s_X4_pipeOf_2 hM hs K) hw ?_ : k_X4_pipeOf_2 X this x1 x2 A (.inl x3))
  rcases e with x3 | ⟨⟩
  · dsimp only at hf
    show G X 0 0 50 [(3, vi x3)] [] A
    exact g_pick (w_f_X4_pipeOf_50 hM hf hr) [0] rfl
  · dsimp only at hf
    show G X 0 0 58 [] [] A
    refine g_iconst hX dX4_pipeOf_58 (-1 : Int32) (by decide) ?_
    cases hf
    exact h_iret hM dX4_pipeOf_59 hr rfl rfl

set_option maxRecDepth 100000 in
theorem w_f_X4_pipeOf {X : Ctx} (hM : MX X yX4_pipeOf cX4_pipeOf 4 "SlimeNetModel" (some Jvm.ClassFile.FieldType.int) rm_X4_pipeOf []) {this : Nat} {x1 : Int32} {x2 : Int32} {A : AH} {out : Int32} (hf : f_X4_pipeOf this x1 x2 A = some out) (hr : c_res X = r_X4_pipeOf A out) : G X 0 0 0 [(0, vr (some this)), (1, vi x1), (2, vi x2)] [] A := by
  have hX := hM.1
  unfold f_X4_pipeOf at hf
  refine g_iconst hX dX4_pipeOf_0 (0 : Int32) (by decide) ?_
  refine g_istore_n hX dX4_pipeOf_1 [(3, vi (0 : Int32)), (0, vr (some this)), (1, vi x1), (2, vi x2)] (by decide) rfl ?_
  exact g_pick (w_l_X4_pipeOf_2 hM hf hr) [1, 2, 3, 0] rfl

theorem m_X4_pipeOf {l : Launch} {this : Nat} {x1 : Int32} {x2 : Int32} {A : AH} {out : Int32} (h : f_X4_pipeOf this x1 x2 A = some out) : MetF l yX4_pipeOf (Cond.code yX4_pipeOf cX4_pipeOf 4 (some Jvm.ClassFile.FieldType.int)) rm_X4_pipeOf [vr (some this), vi x1, vi x2] A (r_X4_pipeOf A out) :=
  metF_of rfl rfl (Nat.le_of_ble_eq_true rfl) fun X hX hl hR hnm hr h1 h2 hno => w_f_X4_pipeOf (X := X) ⟨hX, hR, h1, h2, fun _ => ⟨hnm, hno⟩⟩ h hr

/-! SlimeNetModel.isLength(I)Z -/
def rm_X4_isLength : Room := { frames := 1, cells := 0, slots := 0, locals := 24 }
def r_X4_isLength (A : AH) (o : Int32) : (Option AV × AH) ⊕ (Nat × AH) := .inl (some (vi o), A)
set_option maxRecDepth 100000 in
theorem w_f_X4_isLength_23 {X : Ctx} (hM : MX X yX4_isLength cX4_isLength 1 "SlimeNetModel" (some Jvm.ClassFile.FieldType.boolean) rm_X4_isLength []) {t0 : Int32} {A : AH} {out : Int32} (hf : f_X4_isLength_23 t0 = some out) (hr : c_res X = r_X4_isLength A out) : G X 0 0 23 [] [vi t0] A := by
  have hX := hM.1
  unfold f_X4_isLength_23 at hf
  obtain ⟨w23, hz23, hf⟩ := ob_some hf
  cases hf
  exact h_zret hM dX4_isLength_23 hr rfl (ckZ_nar hz23).2 rfl

set_option maxRecDepth 100000 in
theorem w_f_X4_isLength_22 {X : Ctx} (hM : MX X yX4_isLength cX4_isLength 1 "SlimeNetModel" (some Jvm.ClassFile.FieldType.boolean) rm_X4_isLength []) {A : AH} {out : Int32} (hf : f_X4_isLength_22 = some out) (hr : c_res X = r_X4_isLength A out) : G X 0 0 22 [] [] A := by
  have hX := hM.1
  unfold f_X4_isLength_22 at hf
  refine g_iconst hX dX4_isLength_22 (0 : Int32) (by decide) ?_
  exact g_pick (w_f_X4_isLength_23 hM hf hr) [] rfl

set_option maxRecDepth 100000 in
theorem w_f_X4_isLength {X : Ctx} (hM : MX X yX4_isLength cX4_isLength 1 "SlimeNetModel" (some Jvm.ClassFile.FieldType.boolean) rm_X4_isLength []) {x0 : Int32} {A : AH} {out : Int32} (hf : f_X4_isLength x0 = some out) (hr : c_res X = r_X4_isLength A out) : G X 0 0 0 [(0, vi x0)] [] A := by
  have hX := hM.1
  unfold f_X4_isLength at hf
  refine g_iload_n hX dX4_isLength_0 (lg_at 0 rfl) ?_
  refine g_iconst hX dX4_isLength_1 (1 : Int32) (by decide) ?_
  refine g_icmp_lt hX dX4_isLength_2 22 hf (by decide) (fun c2 hf => ?_) (fun c2 hf => ?_)
  · exact g_pick (w_f_X4_isLength_22 hM hf hr) [] rfl
  · refine g_iload_n hX dX4_isLength_5 (lg_at 0 rfl) ?_
    refine g_bipush hX dX4_isLength_6 (12 : Int32) (by decide) ?_
    refine g_icmp_gt hX dX4_isLength_8 22 hf (by decide) (fun c8 hf => ?_) (fun c8 hf => ?_)
    · exact g_pick (w_f_X4_isLength_22 hM hf hr) [] rfl
    · refine g_bipush hX dX4_isLength_11 (12 : Int32) (by decide) ?_
      refine g_iload_n hX dX4_isLength_13 (lg_at 0 rfl) ?_
      refine g_irem hX dX4_isLength_14 hf (fun v14 _ hf => ?_)
      refine g_if_ne hX dX4_isLength_15 22 hf (by decide) (fun c15 hf => ?_) (fun c15 hf => ?_)
      · exact g_pick (w_f_X4_isLength_22 hM hf hr) [] rfl
      · refine g_iconst hX dX4_isLength_18 (1 : Int32) (by decide) ?_
        refine g_goto hX dX4_isLength_19 23 (by decide) ?_
        exact g_pick (w_f_X4_isLength_23 hM hf hr) [] rfl

theorem m_X4_isLength {l : Launch} {x0 : Int32} {A : AH} {out : Int32} (h : f_X4_isLength x0 = some out) : MetF l yX4_isLength (Cond.code yX4_isLength cX4_isLength 1 (some Jvm.ClassFile.FieldType.boolean)) rm_X4_isLength [vi x0] A (r_X4_isLength A out) :=
  metF_of rfl rfl (Nat.le_of_ble_eq_true rfl) fun X hX hl hR hnm hr h1 h2 hno => w_f_X4_isLength (X := X) ⟨hX, hR, h1, h2, fun _ => ⟨hnm, hno⟩⟩ h hr

/-! SlimeNetModel.readPipe()Z -/
def rm_X4_readPipe : Room := { frames := 5, cells := 0, slots := 0, locals := 109 }
def r_X4_readPipe (_A : AH) (o : Int32 × AH) : (Option AV × AH) ⊕ (Nat × AH) := .inl (some (vi o.1), o.2)
set_option maxRecDepth 100000 in
theorem w_f_X4_readPipe_82 {X : Ctx} (hM : MX X yX4_readPipe cX4_readPipe 3 "SlimeNetModel" (some Jvm.ClassFile.FieldType.boolean) rm_X4_readPipe []) {this : Nat} {x1 : Int32} {x2 : Int32} {A : AH} {out : Int32 × AH} (hf : f_X4_readPipe_82 this x1 x2 A = some out) (hr : c_res X = r_X4_readPipe A out) : G X 0 0 82 [(0, vr (some this)), (1, vi x1), (2, vi x2)] [] A := by
  have hX := hM.1
  unfold f_X4_readPipe_82 at hf
  refine g_iload_n hX dX4_readPipe_82 (lg_at 2 rfl) ?_
  refine g_iconst hX dX4_readPipe_83 (-1 : Int32) (by decide) ?_
  refine g_icmp_ne hX dX4_readPipe_84 93 hf (by decide) (fun c84 hf => ?_) (fun c84 hf => ?_)
  · refine g_aload_n hX dX4_readPipe_93 (lg_at 0 rfl) ?_
    obtain ⟨k94, hk94, hf⟩ := ob_some hf
    obtain ⟨A94, hc94, hf⟩ := ob_some hf
    refine h_callV hM [] dX4_readPipe_94 cs_SlimeNetModel_59_5 hk94 (m_X4_scan hc94) rfl rfl rfl rfl ?_
    refine g_aload_n hX dX4_readPipe_97 (lg_at 0 rfl) ?_
    refine g_getI hX hf fs_SlimeNetModel_27_5 rfl dX4_readPipe_98 (fun v98 hf => ?_)
    refine g_iconst hX dX4_readPipe_101 (2 : Int32) (by decide) ?_
    refine g_icmp_eq hX dX4_readPipe_102 111 hf (by decide) (fun c102 hf => ?_) (fun c102 hf => ?_)
    · refine g_aload_n hX dX4_readPipe_111 (lg_at 0 rfl) ?_
      refine g_getI hX hf fs_SlimeNetModel_37_5 rfl dX4_readPipe_112 (fun v112 hf => ?_)
      obtain ⟨v115, hc115, hf⟩ := ob_some hf
      refine h_callS hM [vi v112] dX4_readPipe_115 cs_SlimeNetModel_95_s (m_X4_isLength hc115) rfl rfl rfl rfl ?_
      refine g_if_ne hX dX4_readPipe_118 127 hf (by decide) (fun c118 hf => ?_) (fun c118 hf => ?_)
      · refine g_aload_n hX dX4_readPipe_127 (lg_at 0 rfl) ?_
        refine g_getR hX hf fs_SlimeNetModel_80_5 rfl dX4_readPipe_128 (fun v128 hf => ?_)
        refine g_aload_n hX dX4_readPipe_131 (lg_at 0 rfl) ?_
        refine g_getI hX hf fs_SlimeNetModel_77_5 rfl dX4_readPipe_132 (fun v132 hf => ?_)
        refine g_iload_n hX dX4_readPipe_135 (lg_at 1 rfl) ?_
        refine g_iast hX hf dX4_readPipe_136 (fun A136 hf => ?_)
        refine g_aload_n hX dX4_readPipe_137 (lg_at 0 rfl) ?_
        refine g_getR hX hf fs_SlimeNetModel_84_5 rfl dX4_readPipe_138 (fun v138 hf => ?_)
        refine g_aload_n hX dX4_readPipe_141 (lg_at 0 rfl) ?_
        refine g_getI hX hf fs_SlimeNetModel_77_5 rfl dX4_readPipe_142 (fun v142 hf => ?_)
        refine g_iload_n hX dX4_readPipe_145 (lg_at 2 rfl) ?_
        refine g_iast hX hf dX4_readPipe_146 (fun A146 hf => ?_)
        refine g_aload_n hX dX4_readPipe_147 (lg_at 0 rfl) ?_
        refine g_getR hX hf fs_SlimeNetModel_98_5 rfl dX4_readPipe_148 (fun v148 hf => ?_)
        refine g_aload_n hX dX4_readPipe_151 (lg_at 0 rfl) ?_
        refine g_getI hX hf fs_SlimeNetModel_77_5 rfl dX4_readPipe_152 (fun v152 hf => ?_)
        refine g_aload_n hX dX4_readPipe_155 (lg_at 0 rfl) ?_
        refine g_getI hX hf fs_SlimeNetModel_37_5 rfl dX4_readPipe_156 (fun v156 hf => ?_)
        refine g_iast hX hf dX4_readPipe_159 (fun A159 hf => ?_)
        refine g_aload_n hX dX4_readPipe_160 (lg_at 0 rfl) ?_
        refine g_dup hX dX4_readPipe_161 rfl ?_
        refine g_getI hX hf fs_SlimeNetModel_77_5 rfl dX4_readPipe_162 (fun v162 hf => ?_)
        refine g_iconst hX dX4_readPipe_165 (1 : Int32) (by decide) ?_
        refine g_iadd hX dX4_readPipe_166 ?_
        refine g_putI hX hf fs_SlimeNetModel_77_5 ⟨_, rfl, Or.inl rfl⟩ rfl dX4_readPipe_167 (fun A167 hf => ?_)
        refine g_aload_n hX dX4_readPipe_170 (lg_at 0 rfl) ?_
        obtain ⟨k171, hk171, hf⟩ := ob_some hf
        obtain ⟨A171, hc171, hf⟩ := ob_some hf
        refine h_callV hM [] dX4_readPipe_171 cs_SlimeNetModel_59_5 hk171 (m_X4_scan hc171) rfl rfl rfl rfl ?_
        refine g_iconst hX dX4_readPipe_174 (1 : Int32) (by decide) ?_
        cases hf
        exact h_zret hM dX4_readPipe_175 hr rfl (by decide) rfl
      · refine g_aload_n hX dX4_readPipe_121 (lg_at 0 rfl) ?_
        refine g_iconst hX dX4_readPipe_122 (2 : Int32) (by decide) ?_
        obtain ⟨k123, hk123, hf⟩ := ob_some hf
        obtain ⟨⟨v123, A123⟩, hc123, hf⟩ := ob_some hf
        refine h_callV hM [vi (2 : Int32)] dX4_readPipe_123 cs_SlimeNetModel_49_5 hk123 (m_X4_bad hc123) rfl rfl rfl rfl ?_
        dsimp only at hf
        obtain ⟨w126, hz126, hf⟩ := ob_some hf
        cases hf
        exact h_zret hM dX4_readPipe_126 hr rfl (ckZ_nar hz126).2 rfl
    · refine g_aload_n hX dX4_readPipe_105 (lg_at 0 rfl) ?_
      refine g_iconst hX dX4_readPipe_106 (1 : Int32) (by decide) ?_
      obtain ⟨k107, hk107, hf⟩ := ob_some hf
      obtain ⟨⟨v107, A107⟩, hc107, hf⟩ := ob_some hf
      refine h_callV hM [vi (1 : Int32)] dX4_readPipe_107 cs_SlimeNetModel_49_5 hk107 (m_X4_bad hc107) rfl rfl rfl rfl ?_
      dsimp only at hf
      obtain ⟨w110, hz110, hf⟩ := ob_some hf
      cases hf
      exact h_zret hM dX4_readPipe_110 hr rfl (ckZ_nar hz110).2 rfl
  · refine g_aload_n hX dX4_readPipe_87 (lg_at 0 rfl) ?_
    refine g_iconst hX dX4_readPipe_88 (5 : Int32) (by decide) ?_
    obtain ⟨k89, hk89, hf⟩ := ob_some hf
    obtain ⟨⟨v89, A89⟩, hc89, hf⟩ := ob_some hf
    refine h_callV hM [vi (5 : Int32)] dX4_readPipe_89 cs_SlimeNetModel_49_5 hk89 (m_X4_bad hc89) rfl rfl rfl rfl ?_
    dsimp only at hf
    obtain ⟨w92, hz92, hf⟩ := ob_some hf
    cases hf
    exact h_zret hM dX4_readPipe_92 hr rfl (ckZ_nar hz92).2 rfl

set_option maxRecDepth 100000 in
theorem w_f_X4_readPipe_76 {X : Ctx} (hM : MX X yX4_readPipe cX4_readPipe 3 "SlimeNetModel" (some Jvm.ClassFile.FieldType.boolean) rm_X4_readPipe []) {this : Nat} {A : AH} {out : Int32 × AH} (hf : f_X4_readPipe_76 this A = some out) (hr : c_res X = r_X4_readPipe A out) : G X 0 0 76 [(0, vr (some this))] [] A := by
  have hX := hM.1
  unfold f_X4_readPipe_76 at hf
  refine g_aload_n hX dX4_readPipe_76 (lg_at 0 rfl) ?_
  refine g_iconst hX dX4_readPipe_77 (3 : Int32) (by decide) ?_
  obtain ⟨k78, hk78, hf⟩ := ob_some hf
  obtain ⟨⟨v78, A78⟩, hc78, hf⟩ := ob_some hf
  refine h_callV hM [vi (3 : Int32)] dX4_readPipe_78 cs_SlimeNetModel_49_5 hk78 (m_X4_bad hc78) rfl rfl rfl rfl ?_
  dsimp only at hf
  obtain ⟨w81, hz81, hf⟩ := ob_some hf
  cases hf
  exact h_zret hM dX4_readPipe_81 hr rfl (ckZ_nar hz81).2 rfl

set_option maxRecDepth 100000 in
theorem w_f_X4_readPipe {X : Ctx} (hM : MX X yX4_readPipe cX4_readPipe 3 "SlimeNetModel" (some Jvm.ClassFile.FieldType.boolean) rm_X4_readPipe []) {this : Nat} {A : AH} {out : Int32 × AH} (hf : f_X4_readPipe this A = some out) (hr : c_res X = r_X4_readPipe A out) : G X 0 0 0 [(0, vr (some this))] [] A := by
  have hX := hM.1
  unfold f_X4_readPipe at hf
  refine g_aload_n hX dX4_readPipe_0 (lg_at 0 rfl) ?_
  refine g_getI hX hf fs_SlimeNetModel_77_5 rfl dX4_readPipe_1 (fun v1 hf => ?_)
  refine g_bipush hX dX4_readPipe_4 (10 : Int32) (by decide) ?_
  refine g_icmp_ne hX dX4_readPipe_6 15 hf (by decide) (fun c6 hf => ?_) (fun c6 hf => ?_)
  · refine g_aload_n hX dX4_readPipe_15 (lg_at 0 rfl) ?_
    obtain ⟨k16, hk16, hf⟩ := ob_some hf
    obtain ⟨A16, hc16, hf⟩ := ob_some hf
    refine h_callV hM [] dX4_readPipe_16 cs_SlimeNetModel_59_5 hk16 (m_X4_scan hc16) rfl rfl rfl rfl ?_
    refine g_aload_n hX dX4_readPipe_19 (lg_at 0 rfl) ?_
    obtain ⟨k20, hk20, hf⟩ := ob_some hf
    obtain ⟨⟨v20, A20⟩, hc20, hf⟩ := ob_some hf
    refine h_callV hM [] dX4_readPipe_20 cs_SlimeNetModel_87_5 hk20 (m_X4_known hc20) rfl rfl rfl rfl ?_
    dsimp only at hf
    refine g_if_ne hX dX4_readPipe_23 28 hf (by decide) (fun c23 hf => ?_) (fun c23 hf => ?_)
    · refine g_aload_n hX dX4_readPipe_28 (lg_at 0 rfl) ?_
      refine g_getI hX hf fs_SlimeNetModel_56_5 rfl dX4_readPipe_29 (fun v29 hf => ?_)
      refine g_istore_n hX dX4_readPipe_32 [(1, vi v29), (0, vr (some this))] (by decide) rfl ?_
      refine g_aload_n hX dX4_readPipe_33 (lg_at 1 rfl) ?_
      obtain ⟨k34, hk34, hf⟩ := ob_some hf
      obtain ⟨A34, hc34, hf⟩ := ob_some hf
      refine h_callV hM [] dX4_readPipe_34 cs_SlimeNetModel_59_5 hk34 (m_X4_scan hc34) rfl rfl rfl rfl ?_
      refine g_aload_n hX dX4_readPipe_37 (lg_at 1 rfl) ?_
      refine g_getI hX hf fs_SlimeNetModel_27_5 rfl dX4_readPipe_38 (fun v38 hf => ?_)
      refine g_iconst hX dX4_readPipe_41 (1 : Int32) (by decide) ?_
      refine g_icmp_eq hX dX4_readPipe_42 51 hf (by decide) (fun c42 hf => ?_) (fun c42 hf => ?_)
      · refine g_aload_n hX dX4_readPipe_51 (lg_at 1 rfl) ?_
        obtain ⟨k52, hk52, hf⟩ := ob_some hf
        obtain ⟨v52, hc52, hf⟩ := ob_some hf
        refine h_callV hM [] dX4_readPipe_52 cs_SlimeNetModel_74_5 hk52 (m_X4_spotAt hc52) rfl rfl rfl rfl ?_
        refine g_istore_n hX dX4_readPipe_55 [(2, vi v52), (1, vi v29), (0, vr (some this))] (by decide) rfl ?_
        refine g_iload_n hX dX4_readPipe_56 (lg_at 0 rfl) ?_
        refine g_iconst hX dX4_readPipe_57 (-1 : Int32) (by decide) ?_
        refine g_icmp_eq hX dX4_readPipe_58 82 hf (by decide) (fun c58 hf => ?_) (fun c58 hf => ?_)
        · exact g_pick (w_f_X4_readPipe_82 hM hf hr) [2, 1, 0] rfl
        · refine g_iload_n hX dX4_readPipe_61 (lg_at 1 rfl) ?_
          refine g_iload_n hX dX4_readPipe_62 (lg_at 0 rfl) ?_
          refine g_icmp_eq hX dX4_readPipe_63 76 hf (by decide) (fun c63 hf => ?_) (fun c63 hf => ?_)
          · exact g_pick (w_f_X4_readPipe_76 hM hf hr) [2] rfl
          · refine g_aload_n hX dX4_readPipe_66 (lg_at 2 rfl) ?_
            refine g_iload_n hX dX4_readPipe_67 (lg_at 1 rfl) ?_
            refine g_iload_n hX dX4_readPipe_68 (lg_at 0 rfl) ?_
            obtain ⟨k69, hk69, hf⟩ := ob_some hf
            obtain ⟨v69, hc69, hf⟩ := ob_some hf
            refine h_callV hM [vi v29, vi v52] dX4_readPipe_69 cs_SlimeNetModel_91_5 hk69 (m_X4_pipeOf hc69) rfl rfl rfl rfl ?_
            refine g_iconst hX dX4_readPipe_72 (-1 : Int32) (by decide) ?_
            refine g_icmp_eq hX dX4_readPipe_73 82 hf (by decide) (fun c73 hf => ?_) (fun c73 hf => ?_)
            · exact g_pick (w_f_X4_readPipe_82 hM hf hr) [2, 1, 0] rfl
            · exact g_pick (w_f_X4_readPipe_76 hM hf hr) [2] rfl
      · refine g_aload_n hX dX4_readPipe_45 (lg_at 1 rfl) ?_
        refine g_iconst hX dX4_readPipe_46 (1 : Int32) (by decide) ?_
        obtain ⟨k47, hk47, hf⟩ := ob_some hf
        obtain ⟨⟨v47, A47⟩, hc47, hf⟩ := ob_some hf
        refine h_callV hM [vi (1 : Int32)] dX4_readPipe_47 cs_SlimeNetModel_49_5 hk47 (m_X4_bad hc47) rfl rfl rfl rfl ?_
        dsimp only at hf
        obtain ⟨w50, hz50, hf⟩ := ob_some hf
        cases hf
        exact h_zret hM dX4_readPipe_50 hr rfl (ckZ_nar hz50).2 rfl
    · refine g_iconst hX dX4_readPipe_26 (0 : Int32) (by decide) ?_
      cases hf
      exact h_zret hM dX4_readPipe_27 hr rfl (by decide) rfl
  · refine g_aload_n hX dX4_readPipe_9 (lg_at 0 rfl) ?_
    refine g_iconst hX dX4_readPipe_10 (4 : Int32) (by decide) ?_
    obtain ⟨k11, hk11, hf⟩ := ob_some hf
    obtain ⟨⟨v11, A11⟩, hc11, hf⟩ := ob_some hf
    refine h_callV hM [vi (4 : Int32)] dX4_readPipe_11 cs_SlimeNetModel_49_5 hk11 (m_X4_bad hc11) rfl rfl rfl rfl ?_
    dsimp only at hf
    obtain ⟨w14, hz14, hf⟩ := ob_some hf
    cases hf
    exact h_zret hM dX4_readPipe_14 hr rfl (ckZ_nar hz14).2 rfl

theorem m_X4_readPipe {l : Launch} {this : Nat} {A : AH} {out : Int32 × AH} (h : f_X4_readPipe this A = some out) : MetF l yX4_readPipe (Cond.code yX4_readPipe cX4_readPipe 3 (some Jvm.ClassFile.FieldType.boolean)) rm_X4_readPipe [vr (some this)] A (r_X4_readPipe A out) :=
  metF_of rfl rfl (Nat.le_of_ble_eq_true rfl) fun X hX hl hR hnm hr h1 h2 hno => w_f_X4_readPipe (X := X) ⟨hX, hR, h1, h2, fun _ => ⟨hnm, hno⟩⟩ h hr

/-! SlimeNetModel.readFood()Z -/
def rm_X4_readFood : Room := { frames := 4, cells := 0, slots := 0, locals := 89 }
def r_X4_readFood (_A : AH) (o : Int32 × AH) : (Option AV × AH) ⊕ (Nat × AH) := .inl (some (vi o.1), o.2)
def k_X4_readFood_25 (X : Ctx) (this : Nat) (x1 : Int32) (A : AH) : ((Int32) ⊕ ((Unit) ⊕ (Unit))) → Prop
  | .inl x2 => G X 0 0 25 [(0, vr (some this)), (1, vi x1), (2, vi x2)] [] A
  | .inr (.inl ()) => G X 0 0 43 [(0, vr (some this))] [] A
  | .inr (.inr ()) => G X 0 0 55 [(0, vr (some this)), (1, vi x1)] [] A

set_option maxRecDepth 100000 in
theorem w_s_X4_readFood_25 {X : Ctx} (hM : MX X yX4_readFood cX4_readFood 3 "SlimeNetModel" (some Jvm.ClassFile.FieldType.boolean) rm_X4_readFood []) {this : Nat} {x1 : Int32} {A : AH} {st : Int32} {out : (Int32) ⊕ ((Unit) ⊕ (Unit))} (hf : s_X4_readFood_25 this x1 A st = some out) (K : k_X4_readFood_25 X this x1 A out) : k_X4_readFood_25 X this x1 A (.inl st) := by
  have hX := hM.1
  revert hf; generalize st = x2; intro hf
  unfold s_X4_readFood_25 at hf
  dsimp only at hf
  show G X 0 0 25 [(0, vr (some this)), (1, vi x1), (2, vi x2)] [] A
  refine g_iload_n hX dX4_readFood_25 (lg_at 2 rfl) ?_
  refine g_aload_n hX dX4_readFood_26 (lg_at 0 rfl) ?_
  refine g_getI hX hf fs_SlimeNetModel_101_5 rfl dX4_readFood_27 (fun v27 hf => ?_)
  refine g_icmp_ge hX dX4_readFood_30 55 hf (by decide) (fun c30 hf => ?_) (fun c30 hf => ?_)
  · cases hf
    exact g_pick (show G X _ _ _ _ _ _ from K) [0, 1] rfl
  · refine g_aload_n hX dX4_readFood_33 (lg_at 0 rfl) ?_
    refine g_getR hX hf fs_SlimeNetModel_104_5 rfl dX4_readFood_34 (fun v34 hf => ?_)
    refine g_iload_n hX dX4_readFood_37 (lg_at 2 rfl) ?_
    refine g_iald hX hf dX4_readFood_38 (fun v38 hf => ?_)
    refine g_iload_n hX dX4_readFood_39 (lg_at 1 rfl) ?_
    refine g_icmp_ne hX dX4_readFood_40 49 hf (by decide) (fun c40 hf => ?_) (fun c40 hf => ?_)
    · refine g_iinc hX dX4_readFood_49 (1 : Int32) (x2 + (1 : Int32)) [(2, vi (x2 + (1 : Int32))), (0, vr (some this)), (1, vi x1)] (by decide) rfl (lg_at 2 rfl) (by decide) rfl ?_
      refine g_goto hX dX4_readFood_52 25 (by decide) ?_
      cases hf
      exact g_pick (show G X _ _ _ _ _ _ from K) [1, 2, 0] rfl
    · cases hf
      exact g_pick (show G X _ _ _ _ _ _ from K) [0] rfl

set_option maxRecDepth 100000 in
theorem w_l_X4_readFood_25 {X : Ctx} (hM : MX X yX4_readFood cX4_readFood 3 "SlimeNetModel" (some Jvm.ClassFile.FieldType.boolean) rm_X4_readFood []) {this : Nat} {x1 : Int32} {x2 : Int32} {A : AH} {out : Int32 × AH} (hf : l_X4_readFood_25 this x1 x2 A = some out) (hr : c_res X = r_X4_readFood A out) : G X 0 0 25 [(0, vr (some this)), (1, vi x1), (2, vi x2)] [] A := by
  have hX := hM.1
  unfold l_X4_readFood_25 at hf
  obtain ⟨e, hw, hf⟩ := ob_some hf
  refine (whl_ind (k_X4_readFood_25 X this x1 A) (fun st o hs K => w_s_X4_readFood_25 hM hs K) hw ?_ : k_X4_readFood_25 X this x1 A (.inl x2))
  rcases e with ⟨⟩ | ⟨⟩
  · dsimp only at hf
    show G X 0 0 43 [(0, vr (some this))] [] A
    refine g_aload_n hX dX4_readFood_43 (lg_at 0 rfl) ?_
    refine g_iconst hX dX4_readFood_44 (3 : Int32) (by decide) ?_
    obtain ⟨k45, hk45, hf⟩ := ob_some hf
    obtain ⟨⟨v45, A45⟩, hc45, hf⟩ := ob_some hf
    refine h_callV hM [vi (3 : Int32)] dX4_readFood_45 cs_SlimeNetModel_49_5 hk45 (m_X4_bad hc45) rfl rfl rfl rfl ?_
    dsimp only at hf
    obtain ⟨w48, hz48, hf⟩ := ob_some hf
    cases hf
    exact h_zret hM dX4_readFood_48 hr rfl (ckZ_nar hz48).2 rfl
  · dsimp only at hf
    show G X 0 0 55 [(0, vr (some this)), (1, vi x1)] [] A
    refine g_iload_n hX dX4_readFood_55 (lg_at 1 rfl) ?_
    refine g_iconst hX dX4_readFood_56 (-1 : Int32) (by decide) ?_
    refine g_icmp_ne hX dX4_readFood_57 66 hf (by decide) (fun c57 hf => ?_) (fun c57 hf => ?_)
    · refine g_aload_n hX dX4_readFood_66 (lg_at 0 rfl) ?_
      refine g_getR hX hf fs_SlimeNetModel_104_5 rfl dX4_readFood_67 (fun v67 hf => ?_)
      refine g_aload_n hX dX4_readFood_70 (lg_at 0 rfl) ?_
      refine g_getI hX hf fs_SlimeNetModel_101_5 rfl dX4_readFood_71 (fun v71 hf => ?_)
      refine g_iload_n hX dX4_readFood_74 (lg_at 1 rfl) ?_
      refine g_iast hX hf dX4_readFood_75 (fun A75 hf => ?_)
      refine g_aload_n hX dX4_readFood_76 (lg_at 0 rfl) ?_
      refine g_dup hX dX4_readFood_77 rfl ?_
      refine g_getI hX hf fs_SlimeNetModel_101_5 rfl dX4_readFood_78 (fun v78 hf => ?_)
      refine g_iconst hX dX4_readFood_81 (1 : Int32) (by decide) ?_
      refine g_iadd hX dX4_readFood_82 ?_
      refine g_putI hX hf fs_SlimeNetModel_101_5 ⟨_, rfl, Or.inl rfl⟩ rfl dX4_readFood_83 (fun A83 hf => ?_)
      refine g_aload_n hX dX4_readFood_86 (lg_at 0 rfl) ?_
      obtain ⟨k87, hk87, hf⟩ := ob_some hf
      obtain ⟨A87, hc87, hf⟩ := ob_some hf
      refine h_callV hM [] dX4_readFood_87 cs_SlimeNetModel_59_5 hk87 (m_X4_scan hc87) rfl rfl rfl rfl ?_
      refine g_iconst hX dX4_readFood_90 (1 : Int32) (by decide) ?_
      cases hf
      exact h_zret hM dX4_readFood_91 hr rfl (by decide) rfl
    · refine g_aload_n hX dX4_readFood_60 (lg_at 0 rfl) ?_
      refine g_iconst hX dX4_readFood_61 (5 : Int32) (by decide) ?_
      obtain ⟨k62, hk62, hf⟩ := ob_some hf
      obtain ⟨⟨v62, A62⟩, hc62, hf⟩ := ob_some hf
      refine h_callV hM [vi (5 : Int32)] dX4_readFood_62 cs_SlimeNetModel_49_5 hk62 (m_X4_bad hc62) rfl rfl rfl rfl ?_
      dsimp only at hf
      obtain ⟨w65, hz65, hf⟩ := ob_some hf
      cases hf
      exact h_zret hM dX4_readFood_65 hr rfl (ckZ_nar hz65).2 rfl

set_option maxRecDepth 100000 in
theorem w_f_X4_readFood {X : Ctx} (hM : MX X yX4_readFood cX4_readFood 3 "SlimeNetModel" (some Jvm.ClassFile.FieldType.boolean) rm_X4_readFood []) {this : Nat} {A : AH} {out : Int32 × AH} (hf : f_X4_readFood this A = some out) (hr : c_res X = r_X4_readFood A out) : G X 0 0 0 [(0, vr (some this))] [] A := by
  have hX := hM.1
  unfold f_X4_readFood at hf
  refine g_aload_n hX dX4_readFood_0 (lg_at 0 rfl) ?_
  obtain ⟨k1, hk1, hf⟩ := ob_some hf
  obtain ⟨A1, hc1, hf⟩ := ob_some hf
  refine h_callV hM [] dX4_readFood_1 cs_SlimeNetModel_59_5 hk1 (m_X4_scan hc1) rfl rfl rfl rfl ?_
  refine g_aload_n hX dX4_readFood_4 (lg_at 0 rfl) ?_
  refine g_getI hX hf fs_SlimeNetModel_27_5 rfl dX4_readFood_5 (fun v5 hf => ?_)
  refine g_iconst hX dX4_readFood_8 (1 : Int32) (by decide) ?_
  refine g_icmp_eq hX dX4_readFood_9 18 hf (by decide) (fun c9 hf => ?_) (fun c9 hf => ?_)
  · refine g_aload_n hX dX4_readFood_18 (lg_at 0 rfl) ?_
    obtain ⟨k19, hk19, hf⟩ := ob_some hf
    obtain ⟨v19, hc19, hf⟩ := ob_some hf
    refine h_callV hM [] dX4_readFood_19 cs_SlimeNetModel_74_5 hk19 (m_X4_spotAt hc19) rfl rfl rfl rfl ?_
    refine g_istore_n hX dX4_readFood_22 [(1, vi v19), (0, vr (some this))] (by decide) rfl ?_
    refine g_iconst hX dX4_readFood_23 (0 : Int32) (by decide) ?_
    refine g_istore_n hX dX4_readFood_24 [(2, vi (0 : Int32)), (1, vi v19), (0, vr (some this))] (by decide) rfl ?_
    exact g_pick (w_l_X4_readFood_25 hM hf hr) [2, 1, 0] rfl
  · refine g_aload_n hX dX4_readFood_12 (lg_at 0 rfl) ?_
    refine g_iconst hX dX4_readFood_13 (1 : Int32) (by decide) ?_
    obtain ⟨k14, hk14, hf⟩ := ob_some hf
    obtain ⟨⟨v14, A14⟩, hc14, hf⟩ := ob_some hf
    refine h_callV hM [vi (1 : Int32)] dX4_readFood_14 cs_SlimeNetModel_49_5 hk14 (m_X4_bad hc14) rfl rfl rfl rfl ?_
    dsimp only at hf
    obtain ⟨w17, hz17, hf⟩ := ob_some hf
    cases hf
    exact h_zret hM dX4_readFood_17 hr rfl (ckZ_nar hz17).2 rfl

theorem m_X4_readFood {l : Launch} {this : Nat} {A : AH} {out : Int32 × AH} (h : f_X4_readFood this A = some out) : MetF l yX4_readFood (Cond.code yX4_readFood cX4_readFood 3 (some Jvm.ClassFile.FieldType.boolean)) rm_X4_readFood [vr (some this)] A (r_X4_readFood A out) :=
  metF_of rfl rfl (Nat.le_of_ble_eq_true rfl) fun X hX hl hR hnm hr h1 h2 hno => w_f_X4_readFood (X := X) ⟨hX, hR, h1, h2, fun _ => ⟨hnm, hno⟩⟩ h hr

/-! SlimeNetModel.readSalt()Z -/
def rm_X4_readSalt : Room := { frames := 5, cells := 0, slots := 0, locals := 109 }
def r_X4_readSalt (_A : AH) (o : Int32 × AH) : (Option AV × AH) ⊕ (Nat × AH) := .inl (some (vi o.1), o.2)
set_option maxRecDepth 100000 in
theorem w_f_X4_readSalt_80 {X : Ctx} (hM : MX X yX4_readSalt cX4_readSalt 4 "SlimeNetModel" (some Jvm.ClassFile.FieldType.boolean) rm_X4_readSalt []) {this : Nat} {x3 : Int32} {A : AH} {out : Int32 × AH} (hf : f_X4_readSalt_80 this x3 A = some out) (hr : c_res X = r_X4_readSalt A out) : G X 0 0 80 [(0, vr (some this)), (3, vi x3)] [] A := by
  have hX := hM.1
  unfold f_X4_readSalt_80 at hf
  refine g_iload_n hX dX4_readSalt_80 (lg_at 1 rfl) ?_
  refine g_iconst hX dX4_readSalt_81 (-1 : Int32) (by decide) ?_
  refine g_icmp_ne hX dX4_readSalt_82 91 hf (by decide) (fun c82 hf => ?_) (fun c82 hf => ?_)
  · refine g_aload_n hX dX4_readSalt_91 (lg_at 0 rfl) ?_
    refine g_dup hX dX4_readSalt_92 rfl ?_
    refine g_getI hX hf fs_SlimeNetModel_107_5 rfl dX4_readSalt_93 (fun v93 hf => ?_)
    refine g_iconst hX dX4_readSalt_96 (1 : Int32) (by decide) ?_
    refine g_iload_n hX dX4_readSalt_97 (lg_at 1 rfl) ?_
    refine g_ishl hX dX4_readSalt_98 ?_
    refine g_ior hX dX4_readSalt_99 ?_
    refine g_putI hX hf fs_SlimeNetModel_107_5 ⟨_, rfl, Or.inl rfl⟩ rfl dX4_readSalt_100 (fun A100 hf => ?_)
    refine g_aload_n hX dX4_readSalt_103 (lg_at 0 rfl) ?_
    obtain ⟨k104, hk104, hf⟩ := ob_some hf
    obtain ⟨A104, hc104, hf⟩ := ob_some hf
    refine h_callV hM [] dX4_readSalt_104 cs_SlimeNetModel_59_5 hk104 (m_X4_scan hc104) rfl rfl rfl rfl ?_
    refine g_iconst hX dX4_readSalt_107 (1 : Int32) (by decide) ?_
    cases hf
    exact h_zret hM dX4_readSalt_108 hr rfl (by decide) rfl
  · refine g_aload_n hX dX4_readSalt_85 (lg_at 0 rfl) ?_
    refine g_iconst hX dX4_readSalt_86 (5 : Int32) (by decide) ?_
    obtain ⟨k87, hk87, hf⟩ := ob_some hf
    obtain ⟨⟨v87, A87⟩, hc87, hf⟩ := ob_some hf
    refine h_callV hM [vi (5 : Int32)] dX4_readSalt_87 cs_SlimeNetModel_49_5 hk87 (m_X4_bad hc87) rfl rfl rfl rfl ?_
    dsimp only at hf
    obtain ⟨w90, hz90, hf⟩ := ob_some hf
    cases hf
    exact h_zret hM dX4_readSalt_90 hr rfl (ckZ_nar hz90).2 rfl

set_option maxRecDepth 100000 in
theorem w_f_X4_readSalt_56 {X : Ctx} (hM : MX X yX4_readSalt cX4_readSalt 4 "SlimeNetModel" (some Jvm.ClassFile.FieldType.boolean) rm_X4_readSalt []) {this : Nat} {t0 : Int32} {A : AH} {out : Int32 × AH} (hf : f_X4_readSalt_56 this t0 A = some out) (hr : c_res X = r_X4_readSalt A out) : G X 0 0 56 [(0, vr (some this))] [vi t0] A := by
  have hX := hM.1
  unfold f_X4_readSalt_56 at hf
  refine g_istore_n hX dX4_readSalt_56 [(3, vi t0), (0, vr (some this))] (by decide) rfl ?_
  refine g_iload_n hX dX4_readSalt_57 (lg_at 0 rfl) ?_
  refine g_iconst hX dX4_readSalt_58 (-1 : Int32) (by decide) ?_
  refine g_icmp_eq hX dX4_readSalt_59 80 hf (by decide) (fun c59 hf => ?_) (fun c59 hf => ?_)
  · exact g_pick (w_f_X4_readSalt_80 hM hf hr) [1, 0] rfl
  · refine g_aload_n hX dX4_readSalt_62 (lg_at 1 rfl) ?_
    refine g_getI hX hf fs_SlimeNetModel_107_5 rfl dX4_readSalt_63 (fun v63 hf => ?_)
    refine g_iload_n hX dX4_readSalt_66 (lg_at 0 rfl) ?_
    refine g_ishr hX dX4_readSalt_67 ?_
    refine g_iconst hX dX4_readSalt_68 (1 : Int32) (by decide) ?_
    refine g_iand hX dX4_readSalt_69 ?_
    refine g_iconst hX dX4_readSalt_70 (1 : Int32) (by decide) ?_
    refine g_icmp_ne hX dX4_readSalt_71 80 hf (by decide) (fun c71 hf => ?_) (fun c71 hf => ?_)
    · exact g_pick (w_f_X4_readSalt_80 hM hf hr) [1, 0] rfl
    · refine g_aload_n hX dX4_readSalt_74 (lg_at 1 rfl) ?_
      refine g_iconst hX dX4_readSalt_75 (3 : Int32) (by decide) ?_
      obtain ⟨k76, hk76, hf⟩ := ob_some hf
      obtain ⟨⟨v76, A76⟩, hc76, hf⟩ := ob_some hf
      refine h_callV hM [vi (3 : Int32)] dX4_readSalt_76 cs_SlimeNetModel_49_5 hk76 (m_X4_bad hc76) rfl rfl rfl rfl ?_
      dsimp only at hf
      obtain ⟨w79, hz79, hf⟩ := ob_some hf
      cases hf
      exact h_zret hM dX4_readSalt_79 hr rfl (ckZ_nar hz79).2 rfl

set_option maxRecDepth 100000 in
theorem w_f_X4_readSalt {X : Ctx} (hM : MX X yX4_readSalt cX4_readSalt 4 "SlimeNetModel" (some Jvm.ClassFile.FieldType.boolean) rm_X4_readSalt []) {this : Nat} {A : AH} {out : Int32 × AH} (hf : f_X4_readSalt this A = some out) (hr : c_res X = r_X4_readSalt A out) : G X 0 0 0 [(0, vr (some this))] [] A := by
  have hX := hM.1
  unfold f_X4_readSalt at hf
  refine g_aload_n hX dX4_readSalt_0 (lg_at 0 rfl) ?_
  obtain ⟨k1, hk1, hf⟩ := ob_some hf
  obtain ⟨A1, hc1, hf⟩ := ob_some hf
  refine h_callV hM [] dX4_readSalt_1 cs_SlimeNetModel_59_5 hk1 (m_X4_scan hc1) rfl rfl rfl rfl ?_
  refine g_aload_n hX dX4_readSalt_4 (lg_at 0 rfl) ?_
  obtain ⟨k5, hk5, hf⟩ := ob_some hf
  obtain ⟨⟨v5, A5⟩, hc5, hf⟩ := ob_some hf
  refine h_callV hM [] dX4_readSalt_5 cs_SlimeNetModel_87_5 hk5 (m_X4_known hc5) rfl rfl rfl rfl ?_
  dsimp only at hf
  refine g_if_ne hX dX4_readSalt_8 13 hf (by decide) (fun c8 hf => ?_) (fun c8 hf => ?_)
  · refine g_aload_n hX dX4_readSalt_13 (lg_at 0 rfl) ?_
    refine g_getI hX hf fs_SlimeNetModel_56_5 rfl dX4_readSalt_14 (fun v14 hf => ?_)
    refine g_istore_n hX dX4_readSalt_17 [(1, vi v14), (0, vr (some this))] (by decide) rfl ?_
    refine g_aload_n hX dX4_readSalt_18 (lg_at 1 rfl) ?_
    obtain ⟨k19, hk19, hf⟩ := ob_some hf
    obtain ⟨A19, hc19, hf⟩ := ob_some hf
    refine h_callV hM [] dX4_readSalt_19 cs_SlimeNetModel_59_5 hk19 (m_X4_scan hc19) rfl rfl rfl rfl ?_
    refine g_aload_n hX dX4_readSalt_22 (lg_at 1 rfl) ?_
    refine g_getI hX hf fs_SlimeNetModel_27_5 rfl dX4_readSalt_23 (fun v23 hf => ?_)
    refine g_iconst hX dX4_readSalt_26 (1 : Int32) (by decide) ?_
    refine g_icmp_eq hX dX4_readSalt_27 36 hf (by decide) (fun c27 hf => ?_) (fun c27 hf => ?_)
    · refine g_aload_n hX dX4_readSalt_36 (lg_at 1 rfl) ?_
      obtain ⟨k37, hk37, hf⟩ := ob_some hf
      obtain ⟨v37, hc37, hf⟩ := ob_some hf
      refine h_callV hM [] dX4_readSalt_37 cs_SlimeNetModel_74_5 hk37 (m_X4_spotAt hc37) rfl rfl rfl rfl ?_
      refine g_istore_n hX dX4_readSalt_40 [(2, vi v37), (1, vi v14), (0, vr (some this))] (by decide) rfl ?_
      refine g_iload_n hX dX4_readSalt_41 (lg_at 0 rfl) ?_
      refine g_iconst hX dX4_readSalt_42 (-1 : Int32) (by decide) ?_
      refine g_icmp_ne hX dX4_readSalt_43 50 hf (by decide) (fun c43 hf => ?_) (fun c43 hf => ?_)
      · refine g_aload_n hX dX4_readSalt_50 (lg_at 2 rfl) ?_
        refine g_iload_n hX dX4_readSalt_51 (lg_at 1 rfl) ?_
        refine g_iload_n hX dX4_readSalt_52 (lg_at 0 rfl) ?_
        obtain ⟨k53, hk53, hf⟩ := ob_some hf
        obtain ⟨v53, hc53, hf⟩ := ob_some hf
        refine h_callV hM [vi v14, vi v37] dX4_readSalt_53 cs_SlimeNetModel_91_5 hk53 (m_X4_pipeOf hc53) rfl rfl rfl rfl ?_
        exact g_pick (w_f_X4_readSalt_56 hM hf hr) [2] rfl
      · refine g_iconst hX dX4_readSalt_46 (-1 : Int32) (by decide) ?_
        refine g_goto hX dX4_readSalt_47 56 (by decide) ?_
        exact g_pick (w_f_X4_readSalt_56 hM hf hr) [2] rfl
    · refine g_aload_n hX dX4_readSalt_30 (lg_at 1 rfl) ?_
      refine g_iconst hX dX4_readSalt_31 (1 : Int32) (by decide) ?_
      obtain ⟨k32, hk32, hf⟩ := ob_some hf
      obtain ⟨⟨v32, A32⟩, hc32, hf⟩ := ob_some hf
      refine h_callV hM [vi (1 : Int32)] dX4_readSalt_32 cs_SlimeNetModel_49_5 hk32 (m_X4_bad hc32) rfl rfl rfl rfl ?_
      dsimp only at hf
      obtain ⟨w35, hz35, hf⟩ := ob_some hf
      cases hf
      exact h_zret hM dX4_readSalt_35 hr rfl (ckZ_nar hz35).2 rfl
  · refine g_iconst hX dX4_readSalt_11 (0 : Int32) (by decide) ?_
    cases hf
    exact h_zret hM dX4_readSalt_12 hr rfl (by decide) rfl

theorem m_X4_readSalt {l : Launch} {this : Nat} {A : AH} {out : Int32 × AH} (h : f_X4_readSalt this A = some out) : MetF l yX4_readSalt (Cond.code yX4_readSalt cX4_readSalt 4 (some Jvm.ClassFile.FieldType.boolean)) rm_X4_readSalt [vr (some this)] A (r_X4_readSalt A out) :=
  metF_of rfl rfl (Nat.le_of_ble_eq_true rfl) fun X hX hl hR hnm hr h1 h2 hno => w_f_X4_readSalt (X := X) ⟨hX, hR, h1, h2, fun _ => ⟨hnm, hno⟩⟩ h hr

/-! SlimeNetModel.number(II)Z -/
def rm_X4_number : Room := { frames := 3, cells := 0, slots := 0, locals := 66 }
def r_X4_number (_A : AH) (o : Int32 × AH) : (Option AV × AH) ⊕ (Nat × AH) := .inl (some (vi o.1), o.2)
set_option maxRecDepth 100000 in
theorem w_f_X4_number {X : Ctx} (hM : MX X yX4_number cX4_number 3 "SlimeNetModel" (some Jvm.ClassFile.FieldType.boolean) rm_X4_number []) {this : Nat} {x1 : Int32} {x2 : Int32} {A : AH} {out : Int32 × AH} (hf : f_X4_number this x1 x2 A = some out) (hr : c_res X = r_X4_number A out) : G X 0 0 0 [(0, vr (some this)), (1, vi x1), (2, vi x2)] [] A := by
  have hX := hM.1
  unfold f_X4_number at hf
  refine g_aload_n hX dX4_number_0 (lg_at 0 rfl) ?_
  refine g_getI hX hf fs_SlimeNetModel_27_5 rfl dX4_number_1 (fun v1 hf => ?_)
  refine g_iconst hX dX4_number_4 (2 : Int32) (by decide) ?_
  refine g_icmp_eq hX dX4_number_5 14 hf (by decide) (fun c5 hf => ?_) (fun c5 hf => ?_)
  · refine g_aload_n hX dX4_number_14 (lg_at 0 rfl) ?_
    refine g_getI hX hf fs_SlimeNetModel_37_5 rfl dX4_number_15 (fun v15 hf => ?_)
    refine g_i2l hX dX4_number_18 ?_
    refine g_iload_n hX dX4_number_19 (lg_at 1 rfl) ?_
    refine g_i2l hX dX4_number_20 ?_
    refine g_iload_n hX dX4_number_21 (lg_at 2 rfl) ?_
    refine g_i2l hX dX4_number_22 ?_
    obtain ⟨v23, hc23, hf⟩ := ob_some hf
    refine h_callS hM [vl (Int32.toInt64 v15), vl (Int32.toInt64 x1), vl (Int32.toInt64 x2)] dX4_number_23 cs_SlimeNetModel_52_s (m_X4_in hc23) rfl rfl rfl rfl ?_
    refine g_if_ne hX dX4_number_26 35 hf (by decide) (fun c26 hf => ?_) (fun c26 hf => ?_)
    · refine g_aload_n hX dX4_number_35 (lg_at 0 rfl) ?_
      refine g_aload_n hX dX4_number_36 (lg_at 0 rfl) ?_
      refine g_getI hX hf fs_SlimeNetModel_37_5 rfl dX4_number_37 (fun v37 hf => ?_)
      refine g_putI hX hf fs_SlimeNetModel_56_5 ⟨_, rfl, Or.inl rfl⟩ rfl dX4_number_40 (fun A40 hf => ?_)
      refine g_aload_n hX dX4_number_43 (lg_at 0 rfl) ?_
      obtain ⟨k44, hk44, hf⟩ := ob_some hf
      obtain ⟨A44, hc44, hf⟩ := ob_some hf
      refine h_callV hM [] dX4_number_44 cs_SlimeNetModel_59_5 hk44 (m_X4_scan hc44) rfl rfl rfl rfl ?_
      refine g_iconst hX dX4_number_47 (1 : Int32) (by decide) ?_
      cases hf
      exact h_zret hM dX4_number_48 hr rfl (by decide) rfl
    · refine g_aload_n hX dX4_number_29 (lg_at 0 rfl) ?_
      refine g_iconst hX dX4_number_30 (2 : Int32) (by decide) ?_
      obtain ⟨k31, hk31, hf⟩ := ob_some hf
      obtain ⟨⟨v31, A31⟩, hc31, hf⟩ := ob_some hf
      refine h_callV hM [vi (2 : Int32)] dX4_number_31 cs_SlimeNetModel_49_5 hk31 (m_X4_bad hc31) rfl rfl rfl rfl ?_
      dsimp only at hf
      obtain ⟨w34, hz34, hf⟩ := ob_some hf
      cases hf
      exact h_zret hM dX4_number_34 hr rfl (ckZ_nar hz34).2 rfl
  · refine g_aload_n hX dX4_number_8 (lg_at 0 rfl) ?_
    refine g_iconst hX dX4_number_9 (1 : Int32) (by decide) ?_
    obtain ⟨k10, hk10, hf⟩ := ob_some hf
    obtain ⟨⟨v10, A10⟩, hc10, hf⟩ := ob_some hf
    refine h_callV hM [vi (1 : Int32)] dX4_number_10 cs_SlimeNetModel_49_5 hk10 (m_X4_bad hc10) rfl rfl rfl rfl ?_
    dsimp only at hf
    obtain ⟨w13, hz13, hf⟩ := ob_some hf
    cases hf
    exact h_zret hM dX4_number_13 hr rfl (ckZ_nar hz13).2 rfl

theorem m_X4_number {l : Launch} {this : Nat} {x1 : Int32} {x2 : Int32} {A : AH} {out : Int32 × AH} (h : f_X4_number this x1 x2 A = some out) : MetF l yX4_number (Cond.code yX4_number cX4_number 3 (some Jvm.ClassFile.FieldType.boolean)) rm_X4_number [vr (some this), vi x1, vi x2] A (r_X4_number A out) :=
  metF_of rfl rfl (Nat.le_of_ble_eq_true rfl) fun X hX hl hR hnm hr h1 h2 hno => w_f_X4_number (X := X) ⟨hX, hR, h1, h2, fun _ => ⟨hnm, hno⟩⟩ h hr

/-! SlimeNetModel.readSmall()Z -/
def rm_X4_readSmall : Room := { frames := 6, cells := 0, slots := 0, locals := 132 }
def r_X4_readSmall (_A : AH) (o : Int32 × AH) : (Option AV × AH) ⊕ (Nat × AH) := .inl (some (vi o.1), o.2)
set_option maxRecDepth 100000 in
theorem w_f_X4_readSmall_191 {X : Ctx} (hM : MX X yX4_readSmall cX4_readSmall 3 "SlimeNetModel" (some Jvm.ClassFile.FieldType.boolean) rm_X4_readSmall []) {A : AH} {out : Int32 × AH} (hf : f_X4_readSmall_191 A = some out) (hr : c_res X = r_X4_readSmall A out) : G X 0 0 191 [] [] A := by
  have hX := hM.1
  unfold f_X4_readSmall_191 at hf
  refine g_iconst hX dX4_readSmall_191 (1 : Int32) (by decide) ?_
  cases hf
  exact h_zret hM dX4_readSmall_192 hr rfl (by decide) rfl

set_option maxRecDepth 100000 in
theorem w_f_X4_readSmall_78 {X : Ctx} (hM : MX X yX4_readSmall cX4_readSmall 3 "SlimeNetModel" (some Jvm.ClassFile.FieldType.boolean) rm_X4_readSmall []) {this : Nat} {x1 : Int32} {x2 : Int32} {A : AH} {out : Int32 × AH} (hf : f_X4_readSmall_78 this x1 x2 A = some out) (hr : c_res X = r_X4_readSmall A out) : G X 0 0 78 [(0, vr (some this)), (1, vi x1), (2, vi x2)] [] A := by
  have hX := hM.1
  unfold f_X4_readSmall_78 at hf
  refine g_aload_n hX dX4_readSmall_78 (lg_at 0 rfl) ?_
  obtain ⟨k79, hk79, hf⟩ := ob_some hf
  obtain ⟨A79, hc79, hf⟩ := ob_some hf
  refine h_callV hM [] dX4_readSmall_79 cs_SlimeNetModel_59_5 hk79 (m_X4_scan hc79) rfl rfl rfl rfl ?_
  refine g_iload_n hX dX4_readSmall_82 (lg_at 1 rfl) ?_
  refine g_if_eq hX dX4_readSmall_83 134 hf (by decide) (fun c83 hf => ?_) (fun c83 hf => ?_)
  · refine g_iload_n hX dX4_readSmall_134 (lg_at 2 rfl) ?_
    refine g_if_eq hX dX4_readSmall_135 166 hf (by decide) (fun c135 hf => ?_) (fun c135 hf => ?_)
    · refine g_aload_n hX dX4_readSmall_166 (lg_at 0 rfl) ?_
      refine g_iconst hX dX4_readSmall_167 (1 : Int32) (by decide) ?_
      refine g_putZ hX hf fs_SlimeNetModel_127_5 ⟨_, rfl, Or.inl rfl⟩ rfl dX4_readSmall_168 (fun A168 hf => ?_)
      refine g_aload_n hX dX4_readSmall_171 (lg_at 0 rfl) ?_
      refine g_iconst hX dX4_readSmall_172 (1 : Int32) (by decide) ?_
      refine g_bipush hX dX4_readSmall_173 (9 : Int32) (by decide) ?_
      obtain ⟨k175, hk175, hf⟩ := ob_some hf
      obtain ⟨⟨v175, A175⟩, hc175, hf⟩ := ob_some hf
      refine h_callV hM [vi (1 : Int32), vi (9 : Int32)] dX4_readSmall_175 cs_SlimeNetModel_130_5 hk175 (m_X4_number hc175) rfl rfl rfl rfl ?_
      dsimp only at hf
      refine g_if_ne hX dX4_readSmall_178 183 hf (by decide) (fun c178 hf => ?_) (fun c178 hf => ?_)
      · refine g_aload_n hX dX4_readSmall_183 (lg_at 0 rfl) ?_
        refine g_aload_n hX dX4_readSmall_184 (lg_at 0 rfl) ?_
        refine g_getI hX hf fs_SlimeNetModel_56_5 rfl dX4_readSmall_185 (fun v185 hf => ?_)
        refine g_putI hX hf fs_SlimeNetModel_143_5 ⟨_, rfl, Or.inl rfl⟩ rfl dX4_readSmall_188 (fun A188 hf => ?_)
        exact g_pick (w_f_X4_readSmall_191 hM hf hr) [] rfl
      · refine g_iconst hX dX4_readSmall_181 (0 : Int32) (by decide) ?_
        cases hf
        exact h_zret hM dX4_readSmall_182 hr rfl (by decide) rfl
    · refine g_aload_n hX dX4_readSmall_138 (lg_at 0 rfl) ?_
      refine g_iconst hX dX4_readSmall_139 (1 : Int32) (by decide) ?_
      refine g_putZ hX hf fs_SlimeNetModel_124_5 ⟨_, rfl, Or.inl rfl⟩ rfl dX4_readSmall_140 (fun A140 hf => ?_)
      refine g_aload_n hX dX4_readSmall_143 (lg_at 0 rfl) ?_
      refine g_iconst hX dX4_readSmall_144 (1 : Int32) (by decide) ?_
      refine g_bipush hX dX4_readSmall_145 (9 : Int32) (by decide) ?_
      obtain ⟨k147, hk147, hf⟩ := ob_some hf
      obtain ⟨⟨v147, A147⟩, hc147, hf⟩ := ob_some hf
      refine h_callV hM [vi (1 : Int32), vi (9 : Int32)] dX4_readSmall_147 cs_SlimeNetModel_130_5 hk147 (m_X4_number hc147) rfl rfl rfl rfl ?_
      dsimp only at hf
      refine g_if_ne hX dX4_readSmall_150 155 hf (by decide) (fun c150 hf => ?_) (fun c150 hf => ?_)
      · refine g_aload_n hX dX4_readSmall_155 (lg_at 0 rfl) ?_
        refine g_aload_n hX dX4_readSmall_156 (lg_at 0 rfl) ?_
        refine g_getI hX hf fs_SlimeNetModel_56_5 rfl dX4_readSmall_157 (fun v157 hf => ?_)
        refine g_putI hX hf fs_SlimeNetModel_140_5 ⟨_, rfl, Or.inl rfl⟩ rfl dX4_readSmall_160 (fun A160 hf => ?_)
        refine g_goto hX dX4_readSmall_163 191 (by decide) ?_
        exact g_pick (w_f_X4_readSmall_191 hM hf hr) [] rfl
      · refine g_iconst hX dX4_readSmall_153 (0 : Int32) (by decide) ?_
        cases hf
        exact h_zret hM dX4_readSmall_154 hr rfl (by decide) rfl
  · refine g_aload_n hX dX4_readSmall_86 (lg_at 0 rfl) ?_
    refine g_iconst hX dX4_readSmall_87 (1 : Int32) (by decide) ?_
    refine g_putZ hX hf fs_SlimeNetModel_120_5 ⟨_, rfl, Or.inl rfl⟩ rfl dX4_readSmall_88 (fun A88 hf => ?_)
    refine g_aload_n hX dX4_readSmall_91 (lg_at 0 rfl) ?_
    refine g_iconst hX dX4_readSmall_92 (0 : Int32) (by decide) ?_
    refine g_bipush hX dX4_readSmall_93 (20 : Int32) (by decide) ?_
    obtain ⟨k95, hk95, hf⟩ := ob_some hf
    obtain ⟨⟨v95, A95⟩, hc95, hf⟩ := ob_some hf
    refine h_callV hM [vi (0 : Int32), vi (20 : Int32)] dX4_readSmall_95 cs_SlimeNetModel_130_5 hk95 (m_X4_number hc95) rfl rfl rfl rfl ?_
    dsimp only at hf
    refine g_if_ne hX dX4_readSmall_98 103 hf (by decide) (fun c98 hf => ?_) (fun c98 hf => ?_)
    · refine g_aload_n hX dX4_readSmall_103 (lg_at 0 rfl) ?_
      refine g_aload_n hX dX4_readSmall_104 (lg_at 0 rfl) ?_
      refine g_getI hX hf fs_SlimeNetModel_56_5 rfl dX4_readSmall_105 (fun v105 hf => ?_)
      refine g_putI hX hf fs_SlimeNetModel_134_5 ⟨_, rfl, Or.inl rfl⟩ rfl dX4_readSmall_108 (fun A108 hf => ?_)
      refine g_aload_n hX dX4_readSmall_111 (lg_at 0 rfl) ?_
      refine g_iconst hX dX4_readSmall_112 (0 : Int32) (by decide) ?_
      refine g_bipush hX dX4_readSmall_113 (20 : Int32) (by decide) ?_
      obtain ⟨k115, hk115, hf⟩ := ob_some hf
      obtain ⟨⟨v115, A115⟩, hc115, hf⟩ := ob_some hf
      refine h_callV hM [vi (0 : Int32), vi (20 : Int32)] dX4_readSmall_115 cs_SlimeNetModel_130_5 hk115 (m_X4_number hc115) rfl rfl rfl rfl ?_
      dsimp only at hf
      refine g_if_ne hX dX4_readSmall_118 123 hf (by decide) (fun c118 hf => ?_) (fun c118 hf => ?_)
      · refine g_aload_n hX dX4_readSmall_123 (lg_at 0 rfl) ?_
        refine g_aload_n hX dX4_readSmall_124 (lg_at 0 rfl) ?_
        refine g_getI hX hf fs_SlimeNetModel_56_5 rfl dX4_readSmall_125 (fun v125 hf => ?_)
        refine g_putI hX hf fs_SlimeNetModel_137_5 ⟨_, rfl, Or.inl rfl⟩ rfl dX4_readSmall_128 (fun A128 hf => ?_)
        refine g_goto hX dX4_readSmall_131 191 (by decide) ?_
        exact g_pick (w_f_X4_readSmall_191 hM hf hr) [] rfl
      · refine g_iconst hX dX4_readSmall_121 (0 : Int32) (by decide) ?_
        cases hf
        exact h_zret hM dX4_readSmall_122 hr rfl (by decide) rfl
    · refine g_iconst hX dX4_readSmall_101 (0 : Int32) (by decide) ?_
      cases hf
      exact h_zret hM dX4_readSmall_102 hr rfl (by decide) rfl

set_option maxRecDepth 100000 in
theorem w_f_X4_readSmall_72 {X : Ctx} (hM : MX X yX4_readSmall cX4_readSmall 3 "SlimeNetModel" (some Jvm.ClassFile.FieldType.boolean) rm_X4_readSmall []) {this : Nat} {A : AH} {out : Int32 × AH} (hf : f_X4_readSmall_72 this A = some out) (hr : c_res X = r_X4_readSmall A out) : G X 0 0 72 [(0, vr (some this))] [] A := by
  have hX := hM.1
  unfold f_X4_readSmall_72 at hf
  refine g_aload_n hX dX4_readSmall_72 (lg_at 0 rfl) ?_
  refine g_iconst hX dX4_readSmall_73 (3 : Int32) (by decide) ?_
  obtain ⟨k74, hk74, hf⟩ := ob_some hf
  obtain ⟨⟨v74, A74⟩, hc74, hf⟩ := ob_some hf
  refine h_callV hM [vi (3 : Int32)] dX4_readSmall_74 cs_SlimeNetModel_49_5 hk74 (m_X4_bad hc74) rfl rfl rfl rfl ?_
  dsimp only at hf
  obtain ⟨w77, hz77, hf⟩ := ob_some hf
  cases hf
  exact h_zret hM dX4_readSmall_77 hr rfl (ckZ_nar hz77).2 rfl

set_option maxRecDepth 100000 in
theorem w_f_X4_readSmall_37 {X : Ctx} (hM : MX X yX4_readSmall cX4_readSmall 3 "SlimeNetModel" (some Jvm.ClassFile.FieldType.boolean) rm_X4_readSmall []) {this : Nat} {x1 : Int32} {x2 : Int32} {A : AH} {out : Int32 × AH} (hf : f_X4_readSmall_37 this x1 x2 A = some out) (hr : c_res X = r_X4_readSmall A out) : G X 0 0 37 [(0, vr (some this)), (1, vi x1), (2, vi x2)] [] A := by
  have hX := hM.1
  unfold f_X4_readSmall_37 at hf
  refine g_iload_n hX dX4_readSmall_37 (lg_at 1 rfl) ?_
  refine g_if_eq hX dX4_readSmall_38 51 hf (by decide) (fun c38 hf => ?_) (fun c38 hf => ?_)
  · refine g_iload_n hX dX4_readSmall_51 (lg_at 2 rfl) ?_
    refine g_if_eq hX dX4_readSmall_52 65 hf (by decide) (fun c52 hf => ?_) (fun c52 hf => ?_)
    · refine g_aload_n hX dX4_readSmall_65 (lg_at 0 rfl) ?_
      refine g_getI hX hf fs_SlimeNetModel_127_5 rfl dX4_readSmall_66 (fun v66 hf => ?_)
      refine g_if_eq hX dX4_readSmall_69 78 hf (by decide) (fun c69 hf => ?_) (fun c69 hf => ?_)
      · exact g_pick (w_f_X4_readSmall_78 hM hf hr) [0, 1, 2] rfl
      · exact g_pick (w_f_X4_readSmall_72 hM hf hr) [0] rfl
    · refine g_aload_n hX dX4_readSmall_55 (lg_at 0 rfl) ?_
      refine g_getI hX hf fs_SlimeNetModel_124_5 rfl dX4_readSmall_56 (fun v56 hf => ?_)
      refine g_if_eq hX dX4_readSmall_59 78 hf (by decide) (fun c59 hf => ?_) (fun c59 hf => ?_)
      · exact g_pick (w_f_X4_readSmall_78 hM hf hr) [0, 1, 2] rfl
      · refine g_goto hX dX4_readSmall_62 72 (by decide) ?_
        exact g_pick (w_f_X4_readSmall_72 hM hf hr) [0] rfl
  · refine g_aload_n hX dX4_readSmall_41 (lg_at 0 rfl) ?_
    refine g_getI hX hf fs_SlimeNetModel_120_5 rfl dX4_readSmall_42 (fun v42 hf => ?_)
    refine g_if_eq hX dX4_readSmall_45 78 hf (by decide) (fun c45 hf => ?_) (fun c45 hf => ?_)
    · exact g_pick (w_f_X4_readSmall_78 hM hf hr) [0, 1, 2] rfl
    · refine g_goto hX dX4_readSmall_48 72 (by decide) ?_
      exact g_pick (w_f_X4_readSmall_72 hM hf hr) [0] rfl

set_option maxRecDepth 100000 in
theorem w_f_X4_readSmall {X : Ctx} (hM : MX X yX4_readSmall cX4_readSmall 3 "SlimeNetModel" (some Jvm.ClassFile.FieldType.boolean) rm_X4_readSmall []) {this : Nat} {A : AH} {out : Int32 × AH} (hf : f_X4_readSmall this A = some out) (hr : c_res X = r_X4_readSmall A out) : G X 0 0 0 [(0, vr (some this))] [] A := by
  have hX := hM.1
  unfold f_X4_readSmall at hf
  refine g_aload_n hX dX4_readSmall_0 (lg_at 0 rfl) ?_
  refine g_ldcS (i := 4) hX (by decide) dX4_readSmall_1 ?_
  obtain ⟨k3, hk3, hf⟩ := ob_some hf
  obtain ⟨v3, hc3, hf⟩ := ob_some hf
  refine h_callV hM [vr (some 6)] dX4_readSmall_3 cs_SlimeNetModel_112_5 hk3 (m_X4_is hc3) rfl rfl rfl rfl ?_
  refine g_istore_n hX dX4_readSmall_6 [(1, vi v3), (0, vr (some this))] (by decide) rfl ?_
  refine g_aload_n hX dX4_readSmall_7 (lg_at 1 rfl) ?_
  refine g_ldcS (i := 5) hX (by decide) dX4_readSmall_8 ?_
  obtain ⟨k10, hk10, hf⟩ := ob_some hf
  obtain ⟨v10, hc10, hf⟩ := ob_some hf
  refine h_callV hM [vr (some 7)] dX4_readSmall_10 cs_SlimeNetModel_112_5 hk10 (m_X4_is hc10) rfl rfl rfl rfl ?_
  refine g_istore_n hX dX4_readSmall_13 [(2, vi v10), (1, vi v3), (0, vr (some this))] (by decide) rfl ?_
  refine g_iload_n hX dX4_readSmall_14 (lg_at 1 rfl) ?_
  refine g_if_ne hX dX4_readSmall_15 37 hf (by decide) (fun c15 hf => ?_) (fun c15 hf => ?_)
  · exact g_pick (w_f_X4_readSmall_37 hM hf hr) [2, 1, 0] rfl
  · refine g_iload_n hX dX4_readSmall_18 (lg_at 0 rfl) ?_
    refine g_if_ne hX dX4_readSmall_19 37 hf (by decide) (fun c19 hf => ?_) (fun c19 hf => ?_)
    · exact g_pick (w_f_X4_readSmall_37 hM hf hr) [2, 1, 0] rfl
    · refine g_aload_n hX dX4_readSmall_22 (lg_at 2 rfl) ?_
      refine g_ldcS (i := 6) hX (by decide) dX4_readSmall_23 ?_
      obtain ⟨k25, hk25, hf⟩ := ob_some hf
      obtain ⟨v25, hc25, hf⟩ := ob_some hf
      refine h_callV hM [vr (some 8)] dX4_readSmall_25 cs_SlimeNetModel_112_5 hk25 (m_X4_is hc25) rfl rfl rfl rfl ?_
      refine g_if_ne hX dX4_readSmall_28 37 hf (by decide) (fun c28 hf => ?_) (fun c28 hf => ?_)
      · exact g_pick (w_f_X4_readSmall_37 hM hf hr) [2, 1, 0] rfl
      · refine g_aload_n hX dX4_readSmall_31 (lg_at 2 rfl) ?_
        refine g_iconst hX dX4_readSmall_32 (1 : Int32) (by decide) ?_
        obtain ⟨k33, hk33, hf⟩ := ob_some hf
        obtain ⟨⟨v33, A33⟩, hc33, hf⟩ := ob_some hf
        refine h_callV hM [vi (1 : Int32)] dX4_readSmall_33 cs_SlimeNetModel_49_5 hk33 (m_X4_bad hc33) rfl rfl rfl rfl ?_
        dsimp only at hf
        obtain ⟨w36, hz36, hf⟩ := ob_some hf
        cases hf
        exact h_zret hM dX4_readSmall_36 hr rfl (ckZ_nar hz36).2 rfl

theorem m_X4_readSmall {l : Launch} {this : Nat} {A : AH} {out : Int32 × AH} (h : f_X4_readSmall this A = some out) : MetF l yX4_readSmall (Cond.code yX4_readSmall cX4_readSmall 3 (some Jvm.ClassFile.FieldType.boolean)) rm_X4_readSmall [vr (some this)] A (r_X4_readSmall A out) :=
  metF_of rfl rfl (Nat.le_of_ble_eq_true rfl) fun X hX hl hR hnm hr h1 h2 hno => w_f_X4_readSmall (X := X) ⟨hX, hR, h1, h2, fun _ => ⟨hnm, hno⟩⟩ h hr

/-! SlimeNetModel.readPlate()Z -/
def rm_X4_readPlate : Room := { frames := 7, cells := 0, slots := 0, locals := 154 }
def r_X4_readPlate (_A : AH) (o : Int32 × AH) : (Option AV × AH) ⊕ (Nat × AH) := .inl (some (vi o.1), o.2)
def k_X4_readPlate_60 (X : Ctx) (this : Nat) : ((AH) ⊕ ((AH) ⊕ (AH) ⊕ (AH))) → Prop
  | .inl A => G X 0 0 60 [(0, vr (some this))] [] A
  | .inr (.inl A) => G X 0 0 140 [] [] A
  | .inr (.inr (.inl A)) => G X 0 0 150 [(0, vr (some this))] [] A
  | .inr (.inr (.inr A)) => G X 0 0 173 [] [] A

set_option maxRecDepth 100000 in
theorem w_f_X4_readPlate_135 {X : Ctx} (hM : MX X yX4_readPlate cX4_readPlate 2 "SlimeNetModel" (some Jvm.ClassFile.FieldType.boolean) rm_X4_readPlate []) {this : Nat} {t0 : Int32} {A : AH} {out : (AH) ⊕ ((AH) ⊕ (AH) ⊕ (AH))} (hf : f_X4_readPlate_135 this t0 A = some out) (K : k_X4_readPlate_60 X this out) : G X 0 0 135 [(0, vr (some this))] [vi t0] A := by
  have hX := hM.1
  unfold f_X4_readPlate_135 at hf
  refine g_istore_n hX dX4_readPlate_135 [(1, vi t0), (0, vr (some this))] (by decide) rfl ?_
  refine g_iload_n hX dX4_readPlate_136 (lg_at 0 rfl) ?_
  refine g_if_ne hX dX4_readPlate_137 142 hf (by decide) (fun c137 hf => ?_) (fun c137 hf => ?_)
  · refine g_aload_n hX dX4_readPlate_142 (lg_at 1 rfl) ?_
    refine g_getI hX hf fs_SlimeNetModel_27_5 rfl dX4_readPlate_143 (fun v143 hf => ?_)
    refine g_iconst hX dX4_readPlate_146 (3 : Int32) (by decide) ?_
    refine g_icmp_eq hX dX4_readPlate_147 156 hf (by decide) (fun c147 hf => ?_) (fun c147 hf => ?_)
    · refine g_aload_n hX dX4_readPlate_156 (lg_at 1 rfl) ?_
      obtain ⟨k157, hk157, hf⟩ := ob_some hf
      obtain ⟨A157, hc157, hf⟩ := ob_some hf
      refine h_callV hM [] dX4_readPlate_157 cs_SlimeNetModel_59_5 hk157 (m_X4_scan hc157) rfl rfl rfl rfl ?_
      refine g_aload_n hX dX4_readPlate_160 (lg_at 1 rfl) ?_
      refine g_dup hX dX4_readPlate_161 rfl ?_
      refine g_getI hX hf fs_SlimeNetModel_146_5 rfl dX4_readPlate_162 (fun v162 hf => ?_)
      refine g_iconst hX dX4_readPlate_165 (1 : Int32) (by decide) ?_
      refine g_iadd hX dX4_readPlate_166 ?_
      refine g_putI hX hf fs_SlimeNetModel_146_5 ⟨_, rfl, Or.inl rfl⟩ rfl dX4_readPlate_167 (fun A167 hf => ?_)
      refine g_goto hX dX4_readPlate_170 60 (by decide) ?_
      cases hf
      exact g_pick (show G X _ _ _ _ _ _ from K) [1] rfl
    · cases hf
      exact g_pick (show G X _ _ _ _ _ _ from K) [1] rfl
  · cases hf
    exact g_pick (show G X _ _ _ _ _ _ from K) [] rfl

set_option maxRecDepth 100000 in
theorem w_s_X4_readPlate_60 {X : Ctx} (hM : MX X yX4_readPlate cX4_readPlate 2 "SlimeNetModel" (some Jvm.ClassFile.FieldType.boolean) rm_X4_readPlate []) {this : Nat} {st : AH} {out : (AH) ⊕ ((AH) ⊕ (AH) ⊕ (AH))} (hf : s_X4_readPlate_60 this st = some out) (K : k_X4_readPlate_60 X this out) : k_X4_readPlate_60 X this (.inl st) := by
  have hX := hM.1
  revert hf; generalize st = A; intro hf
  unfold s_X4_readPlate_60 at hf
  dsimp only at hf
  show G X 0 0 60 [(0, vr (some this))] [] A
  refine g_aload_n hX dX4_readPlate_60 (lg_at 0 rfl) ?_
  refine g_getI hX hf fs_SlimeNetModel_27_5 rfl dX4_readPlate_61 (fun v61 hf => ?_)
  refine g_if_eq hX dX4_readPlate_64 173 hf (by decide) (fun c64 hf => ?_) (fun c64 hf => ?_)
  · cases hf
    exact g_pick (show G X _ _ _ _ _ _ from K) [] rfl
  · refine g_aload_n hX dX4_readPlate_67 (lg_at 0 rfl) ?_
    refine g_ldcS (i := 0) hX (by decide) dX4_readPlate_68 ?_
    obtain ⟨k70, hk70, hf⟩ := ob_some hf
    obtain ⟨v70, hc70, hf⟩ := ob_some hf
    refine h_callV hM [vr (some 2)] dX4_readPlate_70 cs_SlimeNetModel_112_5 hk70 (m_X4_is hc70) rfl rfl rfl rfl ?_
    refine g_if_eq hX dX4_readPlate_73 83 hf (by decide) (fun c73 hf => ?_) (fun c73 hf => ?_)
    · refine g_aload_n hX dX4_readPlate_83 (lg_at 0 rfl) ?_
      refine g_ldcS (i := 1) hX (by decide) dX4_readPlate_84 ?_
      obtain ⟨k86, hk86, hf⟩ := ob_some hf
      obtain ⟨v86, hc86, hf⟩ := ob_some hf
      refine h_callV hM [vr (some 3)] dX4_readPlate_86 cs_SlimeNetModel_112_5 hk86 (m_X4_is hc86) rfl rfl rfl rfl ?_
      refine g_if_eq hX dX4_readPlate_89 99 hf (by decide) (fun c89 hf => ?_) (fun c89 hf => ?_)
      · refine g_aload_n hX dX4_readPlate_99 (lg_at 0 rfl) ?_
        refine g_ldcS (i := 2) hX (by decide) dX4_readPlate_100 ?_
        obtain ⟨k102, hk102, hf⟩ := ob_some hf
        obtain ⟨v102, hc102, hf⟩ := ob_some hf
        refine h_callV hM [vr (some 4)] dX4_readPlate_102 cs_SlimeNetModel_112_5 hk102 (m_X4_is hc102) rfl rfl rfl rfl ?_
        refine g_if_eq hX dX4_readPlate_105 115 hf (by decide) (fun c105 hf => ?_) (fun c105 hf => ?_)
        · refine g_aload_n hX dX4_readPlate_115 (lg_at 0 rfl) ?_
          refine g_ldcS (i := 3) hX (by decide) dX4_readPlate_116 ?_
          obtain ⟨k118, hk118, hf⟩ := ob_some hf
          obtain ⟨v118, hc118, hf⟩ := ob_some hf
          refine h_callV hM [vr (some 5)] dX4_readPlate_118 cs_SlimeNetModel_112_5 hk118 (m_X4_is hc118) rfl rfl rfl rfl ?_
          refine g_if_eq hX dX4_readPlate_121 131 hf (by decide) (fun c121 hf => ?_) (fun c121 hf => ?_)
          · refine g_aload_n hX dX4_readPlate_131 (lg_at 0 rfl) ?_
            obtain ⟨k132, hk132, hf⟩ := ob_some hf
            obtain ⟨⟨v132, A132⟩, hc132, hf⟩ := ob_some hf
            refine h_callV hM [] dX4_readPlate_132 cs_SlimeNetModel_169_5 hk132 (m_X4_readSmall hc132) rfl rfl rfl rfl ?_
            dsimp only at hf
            exact g_pick (w_f_X4_readPlate_135 hM hf K) [0] rfl
          · refine g_aload_n hX dX4_readPlate_124 (lg_at 0 rfl) ?_
            obtain ⟨k125, hk125, hf⟩ := ob_some hf
            obtain ⟨⟨v125, A125⟩, hc125, hf⟩ := ob_some hf
            refine h_callV hM [] dX4_readPlate_125 cs_SlimeNetModel_166_5 hk125 (m_X4_readSalt hc125) rfl rfl rfl rfl ?_
            dsimp only at hf
            refine g_goto hX dX4_readPlate_128 135 (by decide) ?_
            exact g_pick (w_f_X4_readPlate_135 hM hf K) [0] rfl
        · refine g_aload_n hX dX4_readPlate_108 (lg_at 0 rfl) ?_
          obtain ⟨k109, hk109, hf⟩ := ob_some hf
          obtain ⟨⟨v109, A109⟩, hc109, hf⟩ := ob_some hf
          refine h_callV hM [] dX4_readPlate_109 cs_SlimeNetModel_161_5 hk109 (m_X4_readFood hc109) rfl rfl rfl rfl ?_
          dsimp only at hf
          refine g_goto hX dX4_readPlate_112 135 (by decide) ?_
          exact g_pick (w_f_X4_readPlate_135 hM hf K) [0] rfl
      · refine g_aload_n hX dX4_readPlate_92 (lg_at 0 rfl) ?_
        obtain ⟨k93, hk93, hf⟩ := ob_some hf
        obtain ⟨⟨v93, A93⟩, hc93, hf⟩ := ob_some hf
        refine h_callV hM [] dX4_readPlate_93 cs_SlimeNetModel_156_5 hk93 (m_X4_readPipe hc93) rfl rfl rfl rfl ?_
        dsimp only at hf
        refine g_goto hX dX4_readPlate_96 135 (by decide) ?_
        exact g_pick (w_f_X4_readPlate_135 hM hf K) [0] rfl
    · refine g_aload_n hX dX4_readPlate_76 (lg_at 0 rfl) ?_
      obtain ⟨k77, hk77, hf⟩ := ob_some hf
      obtain ⟨⟨v77, A77⟩, hc77, hf⟩ := ob_some hf
      refine h_callV hM [] dX4_readPlate_77 cs_SlimeNetModel_151_5 hk77 (m_X4_readSpot hc77) rfl rfl rfl rfl ?_
      dsimp only at hf
      refine g_goto hX dX4_readPlate_80 135 (by decide) ?_
      exact g_pick (w_f_X4_readPlate_135 hM hf K) [0] rfl

set_option maxRecDepth 100000 in
theorem w_l_X4_readPlate_60 {X : Ctx} (hM : MX X yX4_readPlate cX4_readPlate 2 "SlimeNetModel" (some Jvm.ClassFile.FieldType.boolean) rm_X4_readPlate []) {this : Nat} {A : AH} {out : Int32 × AH} (hf : l_X4_readPlate_60 this A = some out) (hr : c_res X = r_X4_readPlate A out) : G X 0 0 60 [(0, vr (some this))] [] A := by
  have hX := hM.1
  unfold l_X4_readPlate_60 at hf
  obtain ⟨e, hw, hf⟩ := ob_some hf
  refine (whl_ind (k_X4_readPlate_60 X this) (fun st o hs K => w_s_X4_readPlate_60 hM hs K) hw ?_ : k_X4_readPlate_60 X this (.inl A))
  rcases e with A | A | A
  · dsimp only at hf
    show G X 0 0 140 [] [] A
    refine g_iconst hX dX4_readPlate_140 (0 : Int32) (by decide) ?_
    cases hf
    exact h_zret hM dX4_readPlate_141 hr rfl (by decide) rfl
  · dsimp only at hf
    show G X 0 0 150 [(0, vr (some this))] [] A
    refine g_aload_n hX dX4_readPlate_150 (lg_at 0 rfl) ?_
    refine g_iconst hX dX4_readPlate_151 (1 : Int32) (by decide) ?_
    obtain ⟨k152, hk152, hf⟩ := ob_some hf
    obtain ⟨⟨v152, A152⟩, hc152, hf⟩ := ob_some hf
    refine h_callV hM [vi (1 : Int32)] dX4_readPlate_152 cs_SlimeNetModel_49_5 hk152 (m_X4_bad hc152) rfl rfl rfl rfl ?_
    dsimp only at hf
    obtain ⟨w155, hz155, hf⟩ := ob_some hf
    cases hf
    exact h_zret hM dX4_readPlate_155 hr rfl (ckZ_nar hz155).2 rfl
  · dsimp only at hf
    show G X 0 0 173 [] [] A
    refine g_iconst hX dX4_readPlate_173 (1 : Int32) (by decide) ?_
    cases hf
    exact h_zret hM dX4_readPlate_174 hr rfl (by decide) rfl

set_option maxRecDepth 100000 in
theorem w_f_X4_readPlate {X : Ctx} (hM : MX X yX4_readPlate cX4_readPlate 2 "SlimeNetModel" (some Jvm.ClassFile.FieldType.boolean) rm_X4_readPlate []) {this : Nat} {A : AH} {out : Int32 × AH} (hf : f_X4_readPlate this A = some out) (hr : c_res X = r_X4_readPlate A out) : G X 0 0 0 [(0, vr (some this))] [] A := by
  have hX := hM.1
  unfold f_X4_readPlate at hf
  refine g_aload_n hX dX4_readPlate_0 (lg_at 0 rfl) ?_
  refine g_iconst hX dX4_readPlate_1 (0 : Int32) (by decide) ?_
  refine g_putI hX hf fs_SlimeNetModel_63_5 ⟨_, rfl, Or.inl rfl⟩ rfl dX4_readPlate_2 (fun A2 hf => ?_)
  refine g_aload_n hX dX4_readPlate_5 (lg_at 0 rfl) ?_
  refine g_iconst hX dX4_readPlate_6 (0 : Int32) (by decide) ?_
  refine g_putI hX hf fs_SlimeNetModel_77_5 ⟨_, rfl, Or.inl rfl⟩ rfl dX4_readPlate_7 (fun A7 hf => ?_)
  refine g_aload_n hX dX4_readPlate_10 (lg_at 0 rfl) ?_
  refine g_iconst hX dX4_readPlate_11 (0 : Int32) (by decide) ?_
  refine g_putI hX hf fs_SlimeNetModel_101_5 ⟨_, rfl, Or.inl rfl⟩ rfl dX4_readPlate_12 (fun A12 hf => ?_)
  refine g_aload_n hX dX4_readPlate_15 (lg_at 0 rfl) ?_
  refine g_iconst hX dX4_readPlate_16 (0 : Int32) (by decide) ?_
  refine g_putI hX hf fs_SlimeNetModel_107_5 ⟨_, rfl, Or.inl rfl⟩ rfl dX4_readPlate_17 (fun A17 hf => ?_)
  refine g_aload_n hX dX4_readPlate_20 (lg_at 0 rfl) ?_
  refine g_iconst hX dX4_readPlate_21 (5 : Int32) (by decide) ?_
  refine g_putI hX hf fs_SlimeNetModel_134_5 ⟨_, rfl, Or.inl rfl⟩ rfl dX4_readPlate_22 (fun A22 hf => ?_)
  refine g_aload_n hX dX4_readPlate_25 (lg_at 0 rfl) ?_
  refine g_iconst hX dX4_readPlate_26 (2 : Int32) (by decide) ?_
  refine g_putI hX hf fs_SlimeNetModel_137_5 ⟨_, rfl, Or.inl rfl⟩ rfl dX4_readPlate_27 (fun A27 hf => ?_)
  refine g_aload_n hX dX4_readPlate_30 (lg_at 0 rfl) ?_
  refine g_iconst hX dX4_readPlate_31 (3 : Int32) (by decide) ?_
  refine g_putI hX hf fs_SlimeNetModel_140_5 ⟨_, rfl, Or.inl rfl⟩ rfl dX4_readPlate_32 (fun A32 hf => ?_)
  refine g_aload_n hX dX4_readPlate_35 (lg_at 0 rfl) ?_
  refine g_iconst hX dX4_readPlate_36 (5 : Int32) (by decide) ?_
  refine g_putI hX hf fs_SlimeNetModel_143_5 ⟨_, rfl, Or.inl rfl⟩ rfl dX4_readPlate_37 (fun A37 hf => ?_)
  refine g_aload_n hX dX4_readPlate_40 (lg_at 0 rfl) ?_
  refine g_iconst hX dX4_readPlate_41 (0 : Int32) (by decide) ?_
  refine g_putZ hX hf fs_SlimeNetModel_120_5 ⟨_, rfl, Or.inl rfl⟩ rfl dX4_readPlate_42 (fun A42 hf => ?_)
  refine g_aload_n hX dX4_readPlate_45 (lg_at 0 rfl) ?_
  refine g_iconst hX dX4_readPlate_46 (0 : Int32) (by decide) ?_
  refine g_putZ hX hf fs_SlimeNetModel_124_5 ⟨_, rfl, Or.inl rfl⟩ rfl dX4_readPlate_47 (fun A47 hf => ?_)
  refine g_aload_n hX dX4_readPlate_50 (lg_at 0 rfl) ?_
  refine g_iconst hX dX4_readPlate_51 (0 : Int32) (by decide) ?_
  refine g_putZ hX hf fs_SlimeNetModel_127_5 ⟨_, rfl, Or.inl rfl⟩ rfl dX4_readPlate_52 (fun A52 hf => ?_)
  refine g_aload_n hX dX4_readPlate_55 (lg_at 0 rfl) ?_
  refine g_iconst hX dX4_readPlate_56 (0 : Int32) (by decide) ?_
  refine g_putI hX hf fs_SlimeNetModel_146_5 ⟨_, rfl, Or.inl rfl⟩ rfl dX4_readPlate_57 (fun A57 hf => ?_)
  exact g_pick (w_l_X4_readPlate_60 hM hf hr) [0] rfl

theorem m_X4_readPlate {l : Launch} {this : Nat} {A : AH} {out : Int32 × AH} (h : f_X4_readPlate this A = some out) : MetF l yX4_readPlate (Cond.code yX4_readPlate cX4_readPlate 2 (some Jvm.ClassFile.FieldType.boolean)) rm_X4_readPlate [vr (some this)] A (r_X4_readPlate A out) :=
  metF_of rfl rfl (Nat.le_of_ble_eq_true rfl) fun X hX hl hR hnm hr h1 h2 hno => w_f_X4_readPlate (X := X) ⟨hX, hR, h1, h2, fun _ => ⟨hnm, hno⟩⟩ h hr

/-! SlimeNetModel.begin()V -/
def rm_X4_begin : Room := { frames := 1, cells := 0, slots := 0, locals := 24 }
def r_X4_begin (_A : AH) (o : AH) : (Option AV × AH) ⊕ (Nat × AH) := .inl (none, o)
def k_X4_begin_7 (X : Ctx) (this : Nat) : ((Int32 × AH) ⊕ (AH)) → Prop
  | .inl (x1, A) => G X 0 0 7 [(0, vr (some this)), (1, vi x1)] [] A
  | .inr A => G X 0 0 38 [] [] A

set_option maxRecDepth 100000 in
theorem w_s_X4_begin_7 {X : Ctx} (hM : MX X yX4_begin cX4_begin 2 "SlimeNetModel" none rm_X4_begin []) {this : Nat} {st : Int32 × AH} {out : (Int32 × AH) ⊕ (AH)} (hf : s_X4_begin_7 this st = some out) (K : k_X4_begin_7 X this out) : k_X4_begin_7 X this (.inl st) := by
  have hX := hM.1
  obtain ⟨x1, A⟩ := st
  unfold s_X4_begin_7 at hf
  dsimp only at hf
  show G X 0 0 7 [(0, vr (some this)), (1, vi x1)] [] A
  refine g_iload_n hX dX4_begin_7 (lg_at 1 rfl) ?_
  refine g_aload_n hX dX4_begin_8 (lg_at 0 rfl) ?_
  refine g_getI hX hf fs_SlimeNetModel_297_5 rfl dX4_begin_9 (fun v9 hf => ?_)
  refine g_icmp_ge hX dX4_begin_12 38 hf (by decide) (fun c12 hf => ?_) (fun c12 hf => ?_)
  · cases hf
    exact g_pick (show G X _ _ _ _ _ _ from K) [] rfl
  · refine g_aload_n hX dX4_begin_15 (lg_at 0 rfl) ?_
    refine g_getR hX hf fs_SlimeNetModel_215_5 rfl dX4_begin_16 (fun v16 hf => ?_)
    refine g_iload_n hX dX4_begin_19 (lg_at 1 rfl) ?_
    refine g_aload_n hX dX4_begin_20 (lg_at 0 rfl) ?_
    refine g_getI hX hf fs_SlimeNetModel_183_5 rfl dX4_begin_21 (fun v21 hf => ?_)
    refine g_iast hX hf dX4_begin_24 (fun A24 hf => ?_)
    refine g_aload_n hX dX4_begin_25 (lg_at 0 rfl) ?_
    refine g_getR hX hf fs_SlimeNetModel_217_5 rfl dX4_begin_26 (fun v26 hf => ?_)
    refine g_iload_n hX dX4_begin_29 (lg_at 1 rfl) ?_
    refine g_iconst hX dX4_begin_30 (0 : Int32) (by decide) ?_
    refine g_iast hX hf dX4_begin_31 (fun A31 hf => ?_)
    refine g_iinc hX dX4_begin_32 (1 : Int32) (x1 + (1 : Int32)) [(1, vi (x1 + (1 : Int32))), (0, vr (some this))] (by decide) rfl (lg_at 1 rfl) (by decide) rfl ?_
    refine g_goto hX dX4_begin_35 7 (by decide) ?_
    cases hf
    exact g_pick (show G X _ _ _ _ _ _ from K) [1, 0] rfl

set_option maxRecDepth 100000 in
theorem w_l_X4_begin_7 {X : Ctx} (hM : MX X yX4_begin cX4_begin 2 "SlimeNetModel" none rm_X4_begin []) {this : Nat} {x1 : Int32} {A : AH} {out : AH} (hf : l_X4_begin_7 this x1 A = some out) (hr : c_res X = r_X4_begin A out) : G X 0 0 7 [(0, vr (some this)), (1, vi x1)] [] A := by
  have hX := hM.1
  unfold l_X4_begin_7 at hf
  obtain ⟨e, hw, hf⟩ := ob_some hf
  refine (whl_ind (k_X4_begin_7 X this) (fun st o hs K => w_s_X4_begin_7 hM hs K) hw ?_ : k_X4_begin_7 X this (.inl (x1, A)))
  revert hf hw; generalize e = A; intro hw hf
  dsimp only at hf
  show G X 0 0 38 [] [] A
  cases hf
  exact h_vret hM dX4_begin_38 hr rfl rfl

set_option maxRecDepth 100000 in
theorem w_f_X4_begin {X : Ctx} (hM : MX X yX4_begin cX4_begin 2 "SlimeNetModel" none rm_X4_begin []) {this : Nat} {A : AH} {out : AH} (hf : f_X4_begin this A = some out) (hr : c_res X = r_X4_begin A out) : G X 0 0 0 [(0, vr (some this))] [] A := by
  have hX := hM.1
  unfold f_X4_begin at hf
  refine g_aload_n hX dX4_begin_0 (lg_at 0 rfl) ?_
  refine g_iconst hX dX4_begin_1 (0 : Int32) (by decide) ?_
  refine g_putI hX hf fs_SlimeNetModel_362_5 ⟨_, rfl, Or.inl rfl⟩ rfl dX4_begin_2 (fun A2 hf => ?_)
  refine g_iconst hX dX4_begin_5 (0 : Int32) (by decide) ?_
  refine g_istore_n hX dX4_begin_6 [(1, vi (0 : Int32)), (0, vr (some this))] (by decide) rfl ?_
  exact g_pick (w_l_X4_begin_7 hM hf hr) [1, 0] rfl

theorem m_X4_begin {l : Launch} {this : Nat} {A : AH} {out : AH} (h : f_X4_begin this A = some out) : MetF l yX4_begin (Cond.code yX4_begin cX4_begin 2 none) rm_X4_begin [vr (some this)] A (r_X4_begin A out) :=
  metF_of rfl rfl (Nat.le_of_ble_eq_true rfl) fun X hX hl hR hnm hr h1 h2 hno => w_f_X4_begin (X := X) ⟨hX, hR, h1, h2, fun _ => ⟨hnm, hno⟩⟩ h hr

