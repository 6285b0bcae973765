/-! SlimeNetModel.findLaws()V -/
def rm_X4_findLaws : Room := { frames := 4, cells := 0, slots := 0, locals := 114 }
def r_X4_findLaws (_A : AH) (o : AH) : (Option AV × AH) ⊕ (Nat × AH) := .inl (none, o)
def k_X4_findLaws_15 (X : Ctx) (this : Nat) : ((Int32 × AH) ⊕ (AH)) → Prop
  | .inl (x1, A) => G X 0 0 15 [(0, vr (some this)), (1, vi x1)] [] A
  | .inr A => G X 0 0 124 [] [] A

def k_X4_findLaws_24 (X : Ctx) (this : Nat) (x1 : Int32) : ((Int32 × AH) ⊕ (AH)) → Prop
  | .inl (x2, A) => G X 0 0 24 [(0, vr (some this)), (1, vi x1), (2, vi x2)] [] A
  | .inr A => G X 0 0 55 [(0, vr (some this)), (1, vi x1)] [] A

def k_X4_findLaws_57 (X : Ctx) (this : Nat) (x1 : Int32) : ((Int32 × AH) ⊕ (AH)) → Prop
  | .inl (x2, A) => G X 0 0 57 [(0, vr (some this)), (1, vi x1), (2, vi x2)] [] A
  | .inr A => G X 0 0 118 [(0, vr (some this)), (1, vi x1)] [] A

set_option maxRecDepth 100000 in
theorem w_f_X4_findLaws_112 {X : Ctx} (hM : MX X yX4_findLaws cX4_findLaws 3 "SlimeNetModel" none rm_X4_findLaws []) {this : Nat} {x1 : Int32} {x2 : Int32} {A : AH} {out : (Int32 × AH) ⊕ (AH)} (hf : f_X4_findLaws_112 this x1 x2 A = some out) (K : k_X4_findLaws_57 X this x1 out) : G X 0 0 112 [(0, vr (some this)), (1, vi x1), (2, vi x2)] [] A := by
  have hX := hM.1
  unfold f_X4_findLaws_112 at hf
  refine g_iinc hX dX4_findLaws_112 (1 : Int32) (x2 + (1 : Int32)) [(2, vi (x2 + (1 : Int32))), (0, vr (some this)), (1, vi x1)] (by decide) rfl (lg_at 2 rfl) (by decide) rfl ?_
  refine g_goto hX dX4_findLaws_115 57 (by decide) ?_
  cases hf
  exact g_pick (show G X _ _ _ _ _ _ from K) [1, 2, 0] rfl

set_option maxRecDepth 100000 in
theorem w_s_X4_findLaws_57 {X : Ctx} (hM : MX X yX4_findLaws cX4_findLaws 3 "SlimeNetModel" none rm_X4_findLaws []) {this : Nat} {x1 : Int32} {st : Int32 × AH} {out : (Int32 × AH) ⊕ (AH)} (hf : s_X4_findLaws_57 this x1 st = some out) (K : k_X4_findLaws_57 X this x1 out) : k_X4_findLaws_57 X this x1 (.inl st) := by
  have hX := hM.1
  obtain ⟨x2, A⟩ := st
  unfold s_X4_findLaws_57 at hf
  dsimp only at hf
  show G X 0 0 57 [(0, vr (some this)), (1, vi x1), (2, vi x2)] [] A
  refine g_iload_n hX dX4_findLaws_57 (lg_at 2 rfl) ?_
  refine g_bipush hX dX4_findLaws_58 (40 : Int32) (by decide) ?_
  refine g_icmp_gt hX dX4_findLaws_60 118 hf (by decide) (fun c60 hf => ?_) (fun c60 hf => ?_)
  · cases hf
    exact g_pick (show G X _ _ _ _ _ _ from K) [0, 1] rfl
  · refine g_aload_n hX dX4_findLaws_63 (lg_at 0 rfl) ?_
    refine g_getR hX hf fs_SlimeNetModel_251_5 rfl dX4_findLaws_64 (fun v64 hf => ?_)
    refine g_bipush hX dX4_findLaws_67 (41 : Int32) (by decide) ?_
    refine g_iload_n hX dX4_findLaws_69 (lg_at 1 rfl) ?_
    refine g_imul hX dX4_findLaws_70 ?_
    refine g_iload_n hX dX4_findLaws_71 (lg_at 2 rfl) ?_
    refine g_iadd hX dX4_findLaws_72 ?_
    refine g_aload_n hX dX4_findLaws_73 (lg_at 0 rfl) ?_
    refine g_getR hX hf fs_SlimeNetModel_254_5 rfl dX4_findLaws_74 (fun v74 hf => ?_)
    refine g_aload_n hX dX4_findLaws_77 (lg_at 0 rfl) ?_
    refine g_getI hX hf fs_SlimeNetModel_297_5 rfl dX4_findLaws_78 (fun v78 hf => ?_)
    obtain ⟨v81, hc81, hf⟩ := ob_some hf
    refine h_callS hM [vr v74, vi v78] dX4_findLaws_81 cs_SlimeNetModel_351_s (m_X4_widths hc81) rfl rfl rfl rfl ?_
    refine g_iast hX hf dX4_findLaws_84 (fun A84 hf => ?_)
    refine g_iload_n hX dX4_findLaws_85 (lg_at 2 rfl) ?_
    refine g_bipush hX dX4_findLaws_86 (40 : Int32) (by decide) ?_
    refine g_icmp_ge hX dX4_findLaws_88 112 hf (by decide) (fun c88 hf => ?_) (fun c88 hf => ?_)
    · exact g_pick (w_f_X4_findLaws_112 hM hf K) [0, 1, 2] rfl
    · refine g_aload_n hX dX4_findLaws_91 (lg_at 0 rfl) ?_
      refine g_aload_n hX dX4_findLaws_92 (lg_at 0 rfl) ?_
      refine g_getR hX hf fs_SlimeNetModel_254_5 rfl dX4_findLaws_93 (fun v93 hf => ?_)
      refine g_aload_n hX dX4_findLaws_96 (lg_at 0 rfl) ?_
      refine g_getR hX hf fs_SlimeNetModel_257_5 rfl dX4_findLaws_97 (fun v97 hf => ?_)
      refine g_iload_n hX dX4_findLaws_100 (lg_at 2 rfl) ?_
      refine g_iload_n hX dX4_findLaws_101 (lg_at 1 rfl) ?_
      refine g_bipush hX dX4_findLaws_102 (21 : Int32) (by decide) ?_
      refine g_idiv hX dX4_findLaws_104 hf (fun v104 _ hf => ?_)
      refine g_iload_n hX dX4_findLaws_105 (lg_at 1 rfl) ?_
      refine g_bipush hX dX4_findLaws_106 (21 : Int32) (by decide) ?_
      refine g_irem hX dX4_findLaws_108 hf (fun v108 _ hf => ?_)
      obtain ⟨k109, hk109, hf⟩ := ob_some hf
      obtain ⟨A109, hc109, hf⟩ := ob_some hf
      refine h_callV hM [vr v93, vr v97, vi x2, vi v104, vi v108] dX4_findLaws_109 cs_SlimeNetModel_383_5 hk109 (m_X4_pass hc109) rfl rfl rfl rfl ?_
      exact g_pick (w_f_X4_findLaws_112 hM hf K) [0, 1, 2] rfl

set_option maxRecDepth 100000 in
theorem w_l_X4_findLaws_57 {X : Ctx} (hM : MX X yX4_findLaws cX4_findLaws 3 "SlimeNetModel" none rm_X4_findLaws []) {this : Nat} {x1 : Int32} {x2 : Int32} {A : AH} {out : (Int32 × AH) ⊕ (AH)} (hf : l_X4_findLaws_57 this x1 x2 A = some out) (K : k_X4_findLaws_15 X this out) : G X 0 0 57 [(0, vr (some this)), (1, vi x1), (2, vi x2)] [] A := by
  have hX := hM.1
  unfold l_X4_findLaws_57 at hf
  obtain ⟨e, hw, hf⟩ := ob_some hf
  refine (whl_ind (k_X4_findLaws_57 X this x1) (fun st o hs K => w_s_X4_findLaws_57 hM hs K) hw ?_ : k_X4_findLaws_57 X this x1 (.inl (x2, A)))
  revert hf hw; generalize e = A; intro hw hf
  dsimp only at hf
  show G X 0 0 118 [(0, vr (some this)), (1, vi x1)] [] A
  refine g_iinc hX dX4_findLaws_118 (1 : Int32) (x1 + (1 : Int32)) [(1, vi (x1 + (1 : Int32))), (0, vr (some this))] (by decide) rfl (lg_at 1 rfl) (by decide) rfl ?_
  refine g_goto hX dX4_findLaws_121 15 (by decide) ?_
  cases hf
  exact g_pick (show G X _ _ _ _ _ _ from K) [1, 0] rfl

set_option maxRecDepth 100000 in
theorem w_s_X4_findLaws_24 {X : Ctx} (hM : MX X yX4_findLaws cX4_findLaws 3 "SlimeNetModel" none rm_X4_findLaws []) {this : Nat} {x1 : Int32} {st : Int32 × AH} {out : (Int32 × AH) ⊕ (AH)} (hf : s_X4_findLaws_24 this x1 st = some out) (K : k_X4_findLaws_24 X this x1 out) : k_X4_findLaws_24 X this x1 (.inl st) := by
  have hX := hM.1
  obtain ⟨x2, A⟩ := st
  unfold s_X4_findLaws_24 at hf
  dsimp only at hf
  show G X 0 0 24 [(0, vr (some this)), (1, vi x1), (2, vi x2)] [] A
  refine g_iload_n hX dX4_findLaws_24 (lg_at 2 rfl) ?_
  refine g_aload_n hX dX4_findLaws_25 (lg_at 0 rfl) ?_
  refine g_getI hX hf fs_SlimeNetModel_297_5 rfl dX4_findLaws_26 (fun v26 hf => ?_)
  refine g_icmp_ge hX dX4_findLaws_29 55 hf (by decide) (fun c29 hf => ?_) (fun c29 hf => ?_)
  · cases hf
    exact g_pick (show G X _ _ _ _ _ _ from K) [0, 1] rfl
  · refine g_aload_n hX dX4_findLaws_32 (lg_at 0 rfl) ?_
    refine g_getR hX hf fs_SlimeNetModel_254_5 rfl dX4_findLaws_33 (fun v33 hf => ?_)
    refine g_iload_n hX dX4_findLaws_36 (lg_at 2 rfl) ?_
    refine g_aload_n hX dX4_findLaws_37 (lg_at 0 rfl) ?_
    refine g_getI hX hf fs_SlimeNetModel_183_5 rfl dX4_findLaws_38 (fun v38 hf => ?_)
    refine g_iast hX hf dX4_findLaws_41 (fun A41 hf => ?_)
    refine g_aload_n hX dX4_findLaws_42 (lg_at 0 rfl) ?_
    refine g_getR hX hf fs_SlimeNetModel_257_5 rfl dX4_findLaws_43 (fun v43 hf => ?_)
    refine g_iload_n hX dX4_findLaws_46 (lg_at 2 rfl) ?_
    refine g_iconst hX dX4_findLaws_47 (0 : Int32) (by decide) ?_
    refine g_iast hX hf dX4_findLaws_48 (fun A48 hf => ?_)
    refine g_iinc hX dX4_findLaws_49 (1 : Int32) (x2 + (1 : Int32)) [(2, vi (x2 + (1 : Int32))), (0, vr (some this)), (1, vi x1)] (by decide) rfl (lg_at 2 rfl) (by decide) rfl ?_
    refine g_goto hX dX4_findLaws_52 24 (by decide) ?_
    cases hf
    exact g_pick (show G X _ _ _ _ _ _ from K) [1, 2, 0] rfl

set_option maxRecDepth 100000 in
theorem w_l_X4_findLaws_24 {X : Ctx} (hM : MX X yX4_findLaws cX4_findLaws 3 "SlimeNetModel" none rm_X4_findLaws []) {this : Nat} {x1 : Int32} {x2 : Int32} {A : AH} {out : (Int32 × AH) ⊕ (AH)} (hf : l_X4_findLaws_24 this x1 x2 A = some out) (K : k_X4_findLaws_15 X this out) : G X 0 0 24 [(0, vr (some this)), (1, vi x1), (2, vi x2)] [] A := by
  have hX := hM.1
  unfold l_X4_findLaws_24 at hf
  obtain ⟨e, hw, hf⟩ := ob_some hf
  refine (whl_ind (k_X4_findLaws_24 X this x1) (fun st o hs K => w_s_X4_findLaws_24 hM hs K) hw ?_ : k_X4_findLaws_24 X this x1 (.inl (x2, A)))
  revert hf hw; generalize e = A; intro hw hf
  dsimp only at hf
  show G X 0 0 55 [(0, vr (some this)), (1, vi x1)] [] A
  refine g_iconst hX dX4_findLaws_55 (0 : Int32) (by decide) ?_
  refine g_istore_n hX dX4_findLaws_56 [(2, vi (0 : Int32)), (0, vr (some this)), (1, vi x1)] (by decide) rfl ?_
  exact g_pick (w_l_X4_findLaws_57 hM hf K) [1, 2, 0] rfl

set_option maxRecDepth 100000 in
theorem w_s_X4_findLaws_15 {X : Ctx} (hM : MX X yX4_findLaws cX4_findLaws 3 "SlimeNetModel" none rm_X4_findLaws []) {this : Nat} {st : Int32 × AH} {out : (Int32 × AH) ⊕ (AH)} (hf : s_X4_findLaws_15 this st = some out) (K : k_X4_findLaws_15 X this out) : k_X4_findLaws_15 X this (.inl st) := by
  have hX := hM.1
  obtain ⟨x1, A⟩ := st
  unfold s_X4_findLaws_15 at hf
  dsimp only at hf
  show G X 0 0 15 [(0, vr (some this)), (1, vi x1)] [] A
  refine g_iload_n hX dX4_findLaws_15 (lg_at 1 rfl) ?_
  refine g_sipush hX dX4_findLaws_16 (441 : Int32) (by decide) ?_
  refine g_icmp_ge hX dX4_findLaws_19 124 hf (by decide) (fun c19 hf => ?_) (fun c19 hf => ?_)
  · cases hf
    exact g_pick (show G X _ _ _ _ _ _ from K) [] rfl
  · refine g_iconst hX dX4_findLaws_22 (0 : Int32) (by decide) ?_
    refine g_istore_n hX dX4_findLaws_23 [(2, vi (0 : Int32)), (0, vr (some this)), (1, vi x1)] (by decide) rfl ?_
    exact g_pick (w_l_X4_findLaws_24 hM hf K) [1, 2, 0] rfl

set_option maxRecDepth 100000 in
theorem w_l_X4_findLaws_15 {X : Ctx} (hM : MX X yX4_findLaws cX4_findLaws 3 "SlimeNetModel" none rm_X4_findLaws []) {this : Nat} {x1 : Int32} {A : AH} {out : AH} (hf : l_X4_findLaws_15 this x1 A = some out) (hr : c_res X = r_X4_findLaws A out) : G X 0 0 15 [(0, vr (some this)), (1, vi x1)] [] A := by
  have hX := hM.1
  unfold l_X4_findLaws_15 at hf
  obtain ⟨e, hw, hf⟩ := ob_some hf
  refine (whl_ind (k_X4_findLaws_15 X this) (fun st o hs K => w_s_X4_findLaws_15 hM hs K) hw ?_ : k_X4_findLaws_15 X this (.inl (x1, A)))
  revert hf hw; generalize e = A; intro hw hf
  dsimp only at hf
  show G X 0 0 124 [] [] A
  cases hf
  exact h_vret hM dX4_findLaws_124 hr rfl rfl

set_option maxRecDepth 100000 in
theorem w_f_X4_findLaws {X : Ctx} (hM : MX X yX4_findLaws cX4_findLaws 3 "SlimeNetModel" none rm_X4_findLaws []) {this : Nat} {A : AH} {out : AH} (hf : f_X4_findLaws this A = some out) (hr : c_res X = r_X4_findLaws A out) : G X 0 0 0 [(0, vr (some this))] [] A := by
  have hX := hM.1
  unfold f_X4_findLaws at hf
  refine g_aload_n hX dX4_findLaws_0 (lg_at 0 rfl) ?_
  refine g_getI hX hf fs_SlimeNetModel_312_5 rfl dX4_findLaws_1 (fun v1 hf => ?_)
  refine g_if_eq hX dX4_findLaws_4 8 hf (by decide) (fun c4 hf => ?_) (fun c4 hf => ?_)
  · refine g_aload_n hX dX4_findLaws_8 (lg_at 0 rfl) ?_
    refine g_iconst hX dX4_findLaws_9 (1 : Int32) (by decide) ?_
    refine g_putZ hX hf fs_SlimeNetModel_312_5 ⟨_, rfl, Or.inl rfl⟩ rfl dX4_findLaws_10 (fun A10 hf => ?_)
    refine g_iconst hX dX4_findLaws_13 (0 : Int32) (by decide) ?_
    refine g_istore_n hX dX4_findLaws_14 [(1, vi (0 : Int32)), (0, vr (some this))] (by decide) rfl ?_
    exact g_pick (w_l_X4_findLaws_15 hM hf hr) [1, 0] rfl
  · cases hf
    exact h_vret hM dX4_findLaws_7 hr rfl rfl

theorem m_X4_findLaws {l : Launch} {this : Nat} {A : AH} {out : AH} (h : f_X4_findLaws this A = some out) : MetF l yX4_findLaws (Cond.code yX4_findLaws cX4_findLaws 3 none) rm_X4_findLaws [vr (some this)] A (r_X4_findLaws A out) :=
  metF_of rfl rfl (Nat.le_of_ble_eq_true rfl) fun X hX hl hR hnm hr h1 h2 hno => w_f_X4_findLaws (X := X) ⟨hX, hR, h1, h2, fun _ => ⟨hnm, hno⟩⟩ h hr

/-! SlimeNetModel.ownAt(II)I -/
def rm_X4_ownAt : Room := { frames := 1, cells := 0, slots := 0, locals := 24 }
def r_X4_ownAt (A : AH) (o : Int32) : (Option AV × AH) ⊕ (Nat × AH) := .inl (some (vi o), A)
set_option maxRecDepth 100000 in
theorem w_f_X4_ownAt {X : Ctx} (hM : MX X yX4_ownAt cX4_ownAt 3 "SlimeNetModel" (some Jvm.ClassFile.FieldType.int) rm_X4_ownAt []) {this : Nat} {x1 : Int32} {x2 : Int32} {A : AH} {out : Int32} (hf : f_X4_ownAt this x1 x2 A = some out) (hr : c_res X = r_X4_ownAt A out) : G X 0 0 0 [(0, vr (some this)), (1, vi x1), (2, vi x2)] [] A := by
  have hX := hM.1
  unfold f_X4_ownAt at hf
  refine g_aload_n hX dX4_ownAt_0 (lg_at 0 rfl) ?_
  refine g_getR hX hf fs_SlimeNetModel_251_5 rfl dX4_ownAt_1 (fun v1 hf => ?_)
  refine g_bipush hX dX4_ownAt_4 (41 : Int32) (by decide) ?_
  refine g_iload_n hX dX4_ownAt_6 (lg_at 1 rfl) ?_
  refine g_imul hX dX4_ownAt_7 ?_
  refine g_iload_n hX dX4_ownAt_8 (lg_at 2 rfl) ?_
  refine g_iadd hX dX4_ownAt_9 ?_
  refine g_iald hX hf dX4_ownAt_10 (fun v10 hf => ?_)
  cases hf
  exact h_iret hM dX4_ownAt_11 hr rfl rfl

theorem m_X4_ownAt {l : Launch} {this : Nat} {x1 : Int32} {x2 : Int32} {A : AH} {out : Int32} (h : f_X4_ownAt this x1 x2 A = some out) : MetF l yX4_ownAt (Cond.code yX4_ownAt cX4_ownAt 3 (some Jvm.ClassFile.FieldType.int)) rm_X4_ownAt [vr (some this), vi x1, vi x2] A (r_X4_ownAt A out) :=
  metF_of rfl rfl (Nat.le_of_ble_eq_true rfl) fun X hX hl hR hnm hr h1 h2 hno => w_f_X4_ownAt (X := X) ⟨hX, hR, h1, h2, fun _ => ⟨hnm, hno⟩⟩ h hr

/-! SlimeNetModel.netAsKnown(II)I -/
def rm_X4_netAsKnown : Room := { frames := 1, cells := 0, slots := 0, locals := 24 }
def r_X4_netAsKnown (A : AH) (o : Int32) : (Option AV × AH) ⊕ (Nat × AH) := .inl (some (vi o), A)
def k_X4_netAsKnown_10 (X : Ctx) (this : Nat) (x1 : Int32) (x2 : Int32) (A : AH) : ((Int32 × Int32) ⊕ (Int32)) → Prop
  | .inl (x3, x4) => G X 0 0 10 [(0, vr (some this)), (1, vi x1), (2, vi x2), (3, vi x3), (4, vi x4)] [] A
  | .inr x3 => G X 0 0 55 [(3, vi x3)] [] A

set_option maxRecDepth 100000 in
theorem w_f_X4_netAsKnown_49 {X : Ctx} (hM : MX X yX4_netAsKnown cX4_netAsKnown 5 "SlimeNetModel" (some Jvm.ClassFile.FieldType.int) rm_X4_netAsKnown []) {this : Nat} {x1 : Int32} {x2 : Int32} {x3 : Int32} {x4 : Int32} {A : AH} {out : (Int32 × Int32) ⊕ (Int32)} (hf : f_X4_netAsKnown_49 this x1 x2 x3 x4 A = some out) (K : k_X4_netAsKnown_10 X this x1 x2 A out) : G X 0 0 49 [(0, vr (some this)), (1, vi x1), (2, vi x2), (3, vi x3), (4, vi x4)] [] A := by
  have hX := hM.1
  unfold f_X4_netAsKnown_49 at hf
  refine g_iinc hX dX4_netAsKnown_49 (1 : Int32) (x4 + (1 : Int32)) [(4, vi (x4 + (1 : Int32))), (0, vr (some this)), (1, vi x1), (2, vi x2), (3, vi x3)] (by decide) rfl (lg_at 4 rfl) (by decide) rfl ?_
  refine g_goto hX dX4_netAsKnown_52 10 (by decide) ?_
  cases hf
  exact g_pick (show G X _ _ _ _ _ _ from K) [1, 2, 3, 4, 0] rfl

set_option maxRecDepth 100000 in
theorem w_s_X4_netAsKnown_10 {X : Ctx} (hM : MX X yX4_netAsKnown cX4_netAsKnown 5 "SlimeNetModel" (some Jvm.ClassFile.FieldType.int) rm_X4_netAsKnown []) {this : Nat} {x1 : Int32} {x2 : Int32} {A : AH} {st : Int32 × Int32} {out : (Int32 × Int32) ⊕ (Int32)} (hf : s_X4_netAsKnown_10 this x1 x2 A st = some out) (K : k_X4_netAsKnown_10 X this x1 x2 A out) : k_X4_netAsKnown_10 X this x1 x2 A (.inl st) := by
  have hX := hM.1
  obtain ⟨x3, x4⟩ := st
  unfold s_X4_netAsKnown_10 at hf
  dsimp only at hf
  show G X 0 0 10 [(0, vr (some this)), (1, vi x1), (2, vi x2), (3, vi x3), (4, vi x4)] [] A
  refine g_iload hX dX4_netAsKnown_10 (lg_at 4 rfl) ?_
  refine g_aload_n hX dX4_netAsKnown_12 (lg_at 0 rfl) ?_
  refine g_getI hX hf fs_SlimeNetModel_318_5 rfl dX4_netAsKnown_13 (fun v13 hf => ?_)
  refine g_icmp_ge hX dX4_netAsKnown_16 55 hf (by decide) (fun c16 hf => ?_) (fun c16 hf => ?_)
  · cases hf
    exact g_pick (show G X _ _ _ _ _ _ from K) [3] rfl
  · refine g_aload_n hX dX4_netAsKnown_19 (lg_at 0 rfl) ?_
    refine g_getR hX hf fs_SlimeNetModel_269_5 rfl dX4_netAsKnown_20 (fun v20 hf => ?_)
    refine g_iload hX dX4_netAsKnown_23 (lg_at 4 rfl) ?_
    refine g_iald hX hf dX4_netAsKnown_25 (fun v25 hf => ?_)
    refine g_iload_n hX dX4_netAsKnown_26 (lg_at 1 rfl) ?_
    refine g_icmp_ne hX dX4_netAsKnown_27 49 hf (by decide) (fun c27 hf => ?_) (fun c27 hf => ?_)
    · exact g_pick (w_f_X4_netAsKnown_49 hM hf K) [0, 1, 2, 3, 4] rfl
    · refine g_aload_n hX dX4_netAsKnown_30 (lg_at 0 rfl) ?_
      refine g_getR hX hf fs_SlimeNetModel_275_5 rfl dX4_netAsKnown_31 (fun v31 hf => ?_)
      refine g_iload hX dX4_netAsKnown_34 (lg_at 4 rfl) ?_
      refine g_iald hX hf dX4_netAsKnown_36 (fun v36 hf => ?_)
      refine g_iload_n hX dX4_netAsKnown_37 (lg_at 2 rfl) ?_
      refine g_icmp_gt hX dX4_netAsKnown_38 49 hf (by decide) (fun c38 hf => ?_) (fun c38 hf => ?_)
      · exact g_pick (w_f_X4_netAsKnown_49 hM hf K) [0, 1, 2, 3, 4] rfl
      · refine g_aload_n hX dX4_netAsKnown_41 (lg_at 0 rfl) ?_
        refine g_getR hX hf fs_SlimeNetModel_272_5 rfl dX4_netAsKnown_42 (fun v42 hf => ?_)
        refine g_iload hX dX4_netAsKnown_45 (lg_at 4 rfl) ?_
        refine g_iald hX hf dX4_netAsKnown_47 (fun v47 hf => ?_)
        refine g_istore_n hX dX4_netAsKnown_48 [(3, vi v47), (0, vr (some this)), (1, vi x1), (2, vi x2), (4, vi x4)] (by decide) rfl ?_
        exact g_pick (w_f_X4_netAsKnown_49 hM hf K) [1, 2, 3, 0, 4] rfl

set_option maxRecDepth 100000 in
theorem w_l_X4_netAsKnown_10 {X : Ctx} (hM : MX X yX4_netAsKnown cX4_netAsKnown 5 "SlimeNetModel" (some Jvm.ClassFile.FieldType.int) rm_X4_netAsKnown []) {this : Nat} {x1 : Int32} {x2 : Int32} {x3 : Int32} {x4 : Int32} {A : AH} {out : Int32} (hf : l_X4_netAsKnown_10 this x1 x2 x3 x4 A = some out) (hr : c_res X = r_X4_netAsKnown A out) : G X 0 0 10 [(0, vr (some this)), (1, vi x1), (2, vi x2), (3, vi x3), (4, vi x4)] [] A := by
  have hX := hM.1
  unfold l_X4_netAsKnown_10 at hf
  obtain ⟨e, hw, hf⟩ := ob_some hf
  refine (whl_ind (k_X4_netAsKnown_10 X this x1 x2 A) (fun st o hs K => w_s_X4_netAsKnown_10 hM hs K) hw ?_ : k_X4_netAsKnown_10 X this x1 x2 A (.inl (x3, x4)))
  revert hf hw; generalize e = x3; intro hw hf
  dsimp only at hf
  show G X 0 0 55 [(3, vi x3)] [] A
  refine g_iload_n hX dX4_netAsKnown_55 (lg_at 0 rfl) ?_
  cases hf
  exact h_iret hM dX4_netAsKnown_56 hr rfl rfl

set_option maxRecDepth 100000 in
theorem w_f_X4_netAsKnown {X : Ctx} (hM : MX X yX4_netAsKnown cX4_netAsKnown 5 "SlimeNetModel" (some Jvm.ClassFile.FieldType.int) rm_X4_netAsKnown []) {this : Nat} {x1 : Int32} {x2 : Int32} {A : AH} {out : Int32} (hf : f_X4_netAsKnown this x1 x2 A = some out) (hr : c_res X = r_X4_netAsKnown A out) : G X 0 0 0 [(0, vr (some this)), (1, vi x1), (2, vi x2)] [] A := by
  have hX := hM.1
  unfold f_X4_netAsKnown at hf
  refine g_aload_n hX dX4_netAsKnown_0 (lg_at 0 rfl) ?_
  refine g_getR hX hf fs_SlimeNetModel_263_5 rfl dX4_netAsKnown_1 (fun v1 hf => ?_)
  refine g_iload_n hX dX4_netAsKnown_4 (lg_at 1 rfl) ?_
  refine g_iald hX hf dX4_netAsKnown_5 (fun v5 hf => ?_)
  refine g_istore_n hX dX4_netAsKnown_6 [(3, vi v5), (0, vr (some this)), (1, vi x1), (2, vi x2)] (by decide) rfl ?_
  refine g_iconst hX dX4_netAsKnown_7 (0 : Int32) (by decide) ?_
  refine g_istore hX dX4_netAsKnown_8 [(4, vi (0 : Int32)), (3, vi v5), (0, vr (some this)), (1, vi x1), (2, vi x2)] (by decide) rfl ?_
  exact g_pick (w_l_X4_netAsKnown_10 hM hf hr) [2, 3, 4, 1, 0] rfl

theorem m_X4_netAsKnown {l : Launch} {this : Nat} {x1 : Int32} {x2 : Int32} {A : AH} {out : Int32} (h : f_X4_netAsKnown this x1 x2 A = some out) : MetF l yX4_netAsKnown (Cond.code yX4_netAsKnown cX4_netAsKnown 5 (some Jvm.ClassFile.FieldType.int)) rm_X4_netAsKnown [vr (some this), vi x1, vi x2] A (r_X4_netAsKnown A out) :=
  metF_of rfl rfl (Nat.le_of_ble_eq_true rfl) fun X hX hl hR hnm hr h1 h2 hno => w_f_X4_netAsKnown (X := X) ⟨hX, hR, h1, h2, fun _ => ⟨hnm, hno⟩⟩ h hr

/-! SlimeNetModel.fits(II)Z -/
def rm_X4_fits : Room := { frames := 2, cells := 0, slots := 0, locals := 48 }
def r_X4_fits (A : AH) (o : Int32) : (Option AV × AH) ⊕ (Nat × AH) := .inl (some (vi o), A)
def k_X4_fits_2 (X : Ctx) (this : Nat) (x1 : Int32) (x2 : Int32) (A : AH) : ((Int32) ⊕ ((Unit) ⊕ (Unit))) → Prop
  | .inl x3 => G X 0 0 2 [(0, vr (some this)), (1, vi x1), (2, vi x2), (3, vi x3)] [] A
  | .inr (.inl ()) => G X 0 0 40 [] [] A
  | .inr (.inr ()) => G X 0 0 48 [] [] A

set_option maxRecDepth 100000 in
theorem w_f_X4_fits_42 {X : Ctx} (hM : MX X yX4_fits cX4_fits 4 "SlimeNetModel" (some Jvm.ClassFile.FieldType.boolean) rm_X4_fits []) {this : Nat} {x1 : Int32} {x2 : Int32} {x3 : Int32} {A : AH} {out : (Int32) ⊕ ((Unit) ⊕ (Unit))} (hf : f_X4_fits_42 this x1 x2 x3 A = some out) (K : k_X4_fits_2 X this x1 x2 A out) : G X 0 0 42 [(0, vr (some this)), (1, vi x1), (2, vi x2), (3, vi x3)] [] A := by
  have hX := hM.1
  unfold f_X4_fits_42 at hf
  refine g_iinc hX dX4_fits_42 (1 : Int32) (x3 + (1 : Int32)) [(3, vi (x3 + (1 : Int32))), (0, vr (some this)), (1, vi x1), (2, vi x2)] (by decide) rfl (lg_at 3 rfl) (by decide) rfl ?_
  refine g_goto hX dX4_fits_45 2 (by decide) ?_
  cases hf
  exact g_pick (show G X _ _ _ _ _ _ from K) [1, 2, 3, 0] rfl

set_option maxRecDepth 100000 in
theorem w_s_X4_fits_2 {X : Ctx} (hM : MX X yX4_fits cX4_fits 4 "SlimeNetModel" (some Jvm.ClassFile.FieldType.boolean) rm_X4_fits []) {this : Nat} {x1 : Int32} {x2 : Int32} {A : AH} {st : Int32} {out : (Int32) ⊕ ((Unit) ⊕ (Unit))} (hf : s_X4_fits_2 this x1 x2 A st = some out) (K : k_X4_fits_2 X this x1 x2 A out) : k_X4_fits_2 X this x1 x2 A (.inl st) := by
  have hX := hM.1
  revert hf; generalize st = x3; intro hf
  unfold s_X4_fits_2 at hf
  dsimp only at hf
  show G X 0 0 2 [(0, vr (some this)), (1, vi x1), (2, vi x2), (3, vi x3)] [] A
  refine g_iload_n hX dX4_fits_2 (lg_at 3 rfl) ?_
  refine g_aload_n hX dX4_fits_3 (lg_at 0 rfl) ?_
  refine g_getI hX hf fs_SlimeNetModel_315_5 rfl dX4_fits_4 (fun v4 hf => ?_)
  refine g_icmp_ge hX dX4_fits_7 48 hf (by decide) (fun c7 hf => ?_) (fun c7 hf => ?_)
  · cases hf
    exact g_pick (show G X _ _ _ _ _ _ from K) [] rfl
  · refine g_aload_n hX dX4_fits_10 (lg_at 0 rfl) ?_
    refine g_getR hX hf fs_SlimeNetModel_266_5 rfl dX4_fits_11 (fun v11 hf => ?_)
    refine g_iload_n hX dX4_fits_14 (lg_at 3 rfl) ?_
    refine g_iald hX hf dX4_fits_15 (fun v15 hf => ?_)
    refine g_iload_n hX dX4_fits_16 (lg_at 2 rfl) ?_
    refine g_icmp_gt hX dX4_fits_17 42 hf (by decide) (fun c17 hf => ?_) (fun c17 hf => ?_)
    · exact g_pick (w_f_X4_fits_42 hM hf K) [0, 1, 2, 3] rfl
    · refine g_aload_n hX dX4_fits_20 (lg_at 0 rfl) ?_
      refine g_iload_n hX dX4_fits_21 (lg_at 1 rfl) ?_
      refine g_aload_n hX dX4_fits_22 (lg_at 0 rfl) ?_
      refine g_getR hX hf fs_SlimeNetModel_260_5 rfl dX4_fits_23 (fun v23 hf => ?_)
      refine g_iload_n hX dX4_fits_26 (lg_at 3 rfl) ?_
      refine g_iald hX hf dX4_fits_27 (fun v27 hf => ?_)
      obtain ⟨k28, hk28, hf⟩ := ob_some hf
      obtain ⟨v28, hc28, hf⟩ := ob_some hf
      refine h_callV hM [vi x1, vi v27] dX4_fits_28 cs_SlimeNetModel_444_5 hk28 (m_X4_ownAt hc28) rfl rfl rfl rfl ?_
      refine g_aload_n hX dX4_fits_31 (lg_at 0 rfl) ?_
      refine g_iload_n hX dX4_fits_32 (lg_at 3 rfl) ?_
      refine g_iload_n hX dX4_fits_33 (lg_at 2 rfl) ?_
      obtain ⟨k34, hk34, hf⟩ := ob_some hf
      obtain ⟨v34, hc34, hf⟩ := ob_some hf
      refine h_callV hM [vi x3, vi x2] dX4_fits_34 cs_SlimeNetModel_447_5 hk34 (m_X4_netAsKnown hc34) rfl rfl rfl rfl ?_
      refine g_icmp_eq hX dX4_fits_37 42 hf (by decide) (fun c37 hf => ?_) (fun c37 hf => ?_)
      · exact g_pick (w_f_X4_fits_42 hM hf K) [0, 1, 2, 3] rfl
      · cases hf
        exact g_pick (show G X _ _ _ _ _ _ from K) [] rfl

set_option maxRecDepth 100000 in
theorem w_l_X4_fits_2 {X : Ctx} (hM : MX X yX4_fits cX4_fits 4 "SlimeNetModel" (some Jvm.ClassFile.FieldType.boolean) rm_X4_fits []) {this : Nat} {x1 : Int32} {x2 : Int32} {x3 : Int32} {A : AH} {out : Int32} (hf : l_X4_fits_2 this x1 x2 x3 A = some out) (hr : c_res X = r_X4_fits A out) : G X 0 0 2 [(0, vr (some this)), (1, vi x1), (2, vi x2), (3, vi x3)] [] A := by
  have hX := hM.1
  unfold l_X4_fits_2 at hf
  obtain ⟨e, hw, hf⟩ := ob_some hf
  refine (whl_ind (k_X4_fits_2 X this x1 x2 A) (fun st o hs K => w_s_X4_fits_2 hM hs K) hw ?_ : k_X4_fits_2 X this x1 x2 A (.inl x3))
  rcases e with ⟨⟩ | ⟨⟩
  · dsimp only at hf
    show G X 0 0 40 [] [] A
    refine g_iconst hX dX4_fits_40 (0 : Int32) (by decide) ?_
    cases hf
    exact h_zret hM dX4_fits_41 hr rfl (by decide) rfl
  · dsimp only at hf
    show G X 0 0 48 [] [] A
    refine g_iconst hX dX4_fits_48 (1 : Int32) (by decide) ?_
    cases hf
    exact h_zret hM dX4_fits_49 hr rfl (by decide) rfl

set_option maxRecDepth 100000 in
theorem w_f_X4_fits {X : Ctx} (hM : MX X yX4_fits cX4_fits 4 "SlimeNetModel" (some Jvm.ClassFile.FieldType.boolean) rm_X4_fits []) {this : Nat} {x1 : Int32} {x2 : Int32} {A : AH} {out : Int32} (hf : f_X4_fits this x1 x2 A = some out) (hr : c_res X = r_X4_fits A out) : G X 0 0 0 [(0, vr (some this)), (1, vi x1), (2, vi x2)] [] A := by
  have hX := hM.1
  unfold f_X4_fits at hf
  refine g_iconst hX dX4_fits_0 (0 : Int32) (by decide) ?_
  refine g_istore_n hX dX4_fits_1 [(3, vi (0 : Int32)), (0, vr (some this)), (1, vi x1), (2, vi x2)] (by decide) rfl ?_
  exact g_pick (w_l_X4_fits_2 hM hf hr) [1, 2, 3, 0] rfl

theorem m_X4_fits {l : Launch} {this : Nat} {x1 : Int32} {x2 : Int32} {A : AH} {out : Int32} (h : f_X4_fits this x1 x2 A = some out) : MetF l yX4_fits (Cond.code yX4_fits cX4_fits 4 (some Jvm.ClassFile.FieldType.boolean)) rm_X4_fits [vr (some this), vi x1, vi x2] A (r_X4_fits A out) :=
  metF_of rfl rfl (Nat.le_of_ble_eq_true rfl) fun X hX hl hR hnm hr h1 h2 hno => w_f_X4_fits (X := X) ⟨hX, hR, h1, h2, fun _ => ⟨hnm, hno⟩⟩ h hr

/-! SlimeNetModel.fit(II)I -/
def rm_X4_fit : Room := { frames := 5, cells := 0, slots := 0, locals := 136 }
def r_X4_fit (_A : AH) (o : Int32 × AH) : (Option AV × AH) ⊕ (Nat × AH) := .inl (some (vi o.1), o.2)
def k_X4_fit_32 (X : Ctx) (this : Nat) (x1 : Int32) (x2 : Int32) (A : AH) : ((Int32 × Int32 × Int32) ⊕ (Int32 × Int32)) → Prop
  | .inl (x3, x4, x5) => G X 0 0 32 [(0, vr (some this)), (1, vi x1), (2, vi x2), (3, vi x3), (4, vi x4), (5, vi x5)] [] A
  | .inr (x3, x4) => G X 0 0 72 [(2, vi x2), (3, vi x3), (4, vi x4)] [] A

set_option maxRecDepth 100000 in
theorem w_f_X4_fit_17 {X : Ctx} (hM : MX X yX4_fit cX4_fit 6 "SlimeNetModel" (some Jvm.ClassFile.FieldType.int) rm_X4_fit []) {A : AH} {out : Int32 × AH} (hf : f_X4_fit_17 A = some out) (hr : c_res X = r_X4_fit A out) : G X 0 0 17 [] [] A := by
  have hX := hM.1
  unfold f_X4_fit_17 at hf
  refine g_bipush hX dX4_fit_17 (-2 : Int32) (by decide) ?_
  cases hf
  exact h_iret hM dX4_fit_19 hr rfl rfl

set_option maxRecDepth 100000 in
theorem w_f_X4_fit_66 {X : Ctx} (hM : MX X yX4_fit cX4_fit 6 "SlimeNetModel" (some Jvm.ClassFile.FieldType.int) rm_X4_fit []) {this : Nat} {x1 : Int32} {x2 : Int32} {x3 : Int32} {x4 : Int32} {x5 : Int32} {A : AH} {out : (Int32 × Int32 × Int32) ⊕ (Int32 × Int32)} (hf : f_X4_fit_66 this x1 x2 x3 x4 x5 A = some out) (K : k_X4_fit_32 X this x1 x2 A out) : G X 0 0 66 [(0, vr (some this)), (1, vi x1), (2, vi x2), (3, vi x3), (4, vi x4), (5, vi x5)] [] A := by
  have hX := hM.1
  unfold f_X4_fit_66 at hf
  refine g_iinc hX dX4_fit_66 (1 : Int32) (x5 + (1 : Int32)) [(5, vi (x5 + (1 : Int32))), (0, vr (some this)), (1, vi x1), (2, vi x2), (3, vi x3), (4, vi x4)] (by decide) rfl (lg_at 5 rfl) (by decide) rfl ?_
  refine g_goto hX dX4_fit_69 32 (by decide) ?_
  cases hf
  exact g_pick (show G X _ _ _ _ _ _ from K) [1, 2, 3, 4, 5, 0] rfl

set_option maxRecDepth 100000 in
theorem w_f_X4_fit_82 {X : Ctx} (hM : MX X yX4_fit cX4_fit 6 "SlimeNetModel" (some Jvm.ClassFile.FieldType.int) rm_X4_fit []) {t0 : Int32} {A : AH} {out : Int32 × AH} (hf : f_X4_fit_82 t0 A = some out) (hr : c_res X = r_X4_fit A out) : G X 0 0 82 [] [vi t0] A := by
  have hX := hM.1
  unfold f_X4_fit_82 at hf
  cases hf
  exact h_iret hM dX4_fit_82 hr rfl rfl

set_option maxRecDepth 100000 in
theorem w_s_X4_fit_32 {X : Ctx} (hM : MX X yX4_fit cX4_fit 6 "SlimeNetModel" (some Jvm.ClassFile.FieldType.int) rm_X4_fit []) {this : Nat} {x1 : Int32} {x2 : Int32} {A : AH} {st : Int32 × Int32 × Int32} {out : (Int32 × Int32 × Int32) ⊕ (Int32 × Int32)} (hf : s_X4_fit_32 this x1 x2 A st = some out) (K : k_X4_fit_32 X this x1 x2 A out) : k_X4_fit_32 X this x1 x2 A (.inl st) := by
  have hX := hM.1
  obtain ⟨x3, x4, x5⟩ := st
  unfold s_X4_fit_32 at hf
  dsimp only at hf
  show G X 0 0 32 [(0, vr (some this)), (1, vi x1), (2, vi x2), (3, vi x3), (4, vi x4), (5, vi x5)] [] A
  refine g_iload hX dX4_fit_32 (lg_at 5 rfl) ?_
  refine g_sipush hX dX4_fit_34 (441 : Int32) (by decide) ?_
  refine g_icmp_ge hX dX4_fit_37 72 hf (by decide) (fun c37 hf => ?_) (fun c37 hf => ?_)
  · cases hf
    exact g_pick (show G X _ _ _ _ _ _ from K) [2, 3, 4] rfl
  · refine g_aload_n hX dX4_fit_40 (lg_at 0 rfl) ?_
    refine g_iload hX dX4_fit_41 (lg_at 5 rfl) ?_
    refine g_iload_n hX dX4_fit_43 (lg_at 1 rfl) ?_
    obtain ⟨k44, hk44, hf⟩ := ob_some hf
    obtain ⟨v44, hc44, hf⟩ := ob_some hf
    refine h_callV hM [vi x5, vi x1] dX4_fit_44 cs_SlimeNetModel_456_5 hk44 (m_X4_fits hc44) rfl rfl rfl rfl ?_
    refine g_if_ne hX dX4_fit_47 53 hf (by decide) (fun c47 hf => ?_) (fun c47 hf => ?_)
    · refine g_iinc hX dX4_fit_53 (1 : Int32) (x3 + (1 : Int32)) [(3, vi (x3 + (1 : Int32))), (0, vr (some this)), (1, vi x1), (2, vi x2), (4, vi x4), (5, vi x5)] (by decide) rfl (lg_at 3 rfl) (by decide) rfl ?_
      refine g_iload hX dX4_fit_56 (lg_at 4 rfl) ?_
      refine g_iconst hX dX4_fit_58 (-1 : Int32) (by decide) ?_
      refine g_icmp_ne hX dX4_fit_59 66 hf (by decide) (fun c59 hf => ?_) (fun c59 hf => ?_)
      · exact g_pick (w_f_X4_fit_66 hM hf K) [1, 2, 3, 0, 4, 5] rfl
      · refine g_iload hX dX4_fit_62 (lg_at 5 rfl) ?_
        refine g_istore hX dX4_fit_64 [(4, vi x5), (3, vi (x3 + (1 : Int32))), (0, vr (some this)), (1, vi x1), (2, vi x2), (5, vi x5)] (by decide) rfl ?_
        exact g_pick (w_f_X4_fit_66 hM hf K) [2, 3, 4, 1, 0, 5] rfl
    · refine g_goto hX dX4_fit_50 66 (by decide) ?_
      exact g_pick (w_f_X4_fit_66 hM hf K) [0, 1, 2, 3, 4, 5] rfl

set_option maxRecDepth 100000 in
theorem w_l_X4_fit_32 {X : Ctx} (hM : MX X yX4_fit cX4_fit 6 "SlimeNetModel" (some Jvm.ClassFile.FieldType.int) rm_X4_fit []) {this : Nat} {x1 : Int32} {x2 : Int32} {x3 : Int32} {x4 : Int32} {x5 : Int32} {A : AH} {out : Int32 × AH} (hf : l_X4_fit_32 this x1 x2 x3 x4 x5 A = some out) (hr : c_res X = r_X4_fit A out) : G X 0 0 32 [(0, vr (some this)), (1, vi x1), (2, vi x2), (3, vi x3), (4, vi x4), (5, vi x5)] [] A := by
  have hX := hM.1
  unfold l_X4_fit_32 at hf
  obtain ⟨e, hw, hf⟩ := ob_some hf
  refine (whl_ind (k_X4_fit_32 X this x1 x2 A) (fun st o hs K => w_s_X4_fit_32 hM hs K) hw ?_ : k_X4_fit_32 X this x1 x2 A (.inl (x3, x4, x5)))
  obtain ⟨x3, x4⟩ := e
  dsimp only at hf
  show G X 0 0 72 [(2, vi x2), (3, vi x3), (4, vi x4)] [] A
  refine g_iload_n hX dX4_fit_72 (lg_at 0 rfl) ?_
  refine g_if_ne hX dX4_fit_73 80 hf (by decide) (fun c73 hf => ?_) (fun c73 hf => ?_)
  · refine g_iload hX dX4_fit_80 (lg_at 2 rfl) ?_
    exact g_pick (w_f_X4_fit_82 hM hf hr) [] rfl
  · refine g_iload_n hX dX4_fit_76 (lg_at 1 rfl) ?_
    refine g_goto hX dX4_fit_77 82 (by decide) ?_
    exact g_pick (w_f_X4_fit_82 hM hf hr) [] rfl

set_option maxRecDepth 100000 in
theorem w_f_X4_fit {X : Ctx} (hM : MX X yX4_fit cX4_fit 6 "SlimeNetModel" (some Jvm.ClassFile.FieldType.int) rm_X4_fit []) {this : Nat} {x1 : Int32} {x2 : Int32} {A : AH} {out : Int32 × AH} (hf : f_X4_fit this x1 x2 A = some out) (hr : c_res X = r_X4_fit A out) : G X 0 0 0 [(0, vr (some this)), (1, vi x1), (2, vi x2)] [] A := by
  have hX := hM.1
  unfold f_X4_fit at hf
  refine g_iload_n hX dX4_fit_0 (lg_at 1 rfl) ?_
  obtain ⟨v1, hc1, hf⟩ := ob_some hf
  refine h_callS hM [vi x1] dX4_fit_1 cs_SlimeNetModel_450_s (m_X4_isStep hc1) rfl rfl rfl rfl ?_
  refine g_if_eq hX dX4_fit_4 17 hf (by decide) (fun c4 hf => ?_) (fun c4 hf => ?_)
  · exact g_pick (w_f_X4_fit_17 hM hf hr) [] rfl
  · refine g_iload_n hX dX4_fit_7 (lg_at 2 rfl) ?_
    refine g_i2l hX dX4_fit_8 ?_
    refine g_lconst hX dX4_fit_9 (0 : Int64) (by decide) ?_
    refine g_lconst hX dX4_fit_10 (1 : Int64) (by decide) ?_
    obtain ⟨v11, hc11, hf⟩ := ob_some hf
    refine h_callS hM [vl (Int32.toInt64 x2), vl (0 : Int64), vl (1 : Int64)] dX4_fit_11 cs_SlimeNetModel_52_s (m_X4_in hc11) rfl rfl rfl rfl ?_
    refine g_if_ne hX dX4_fit_14 20 hf (by decide) (fun c14 hf => ?_) (fun c14 hf => ?_)
    · refine g_aload_n hX dX4_fit_20 (lg_at 0 rfl) ?_
      obtain ⟨k21, hk21, hf⟩ := ob_some hf
      obtain ⟨A21, hc21, hf⟩ := ob_some hf
      refine h_callV hM [] dX4_fit_21 cs_SlimeNetModel_453_5 hk21 (m_X4_findLaws hc21) rfl rfl rfl rfl ?_
      refine g_iconst hX dX4_fit_24 (0 : Int32) (by decide) ?_
      refine g_istore_n hX dX4_fit_25 [(3, vi (0 : Int32)), (0, vr (some this)), (1, vi x1), (2, vi x2)] (by decide) rfl ?_
      refine g_iconst hX dX4_fit_26 (-1 : Int32) (by decide) ?_
      refine g_istore hX dX4_fit_27 [(4, vi (-1 : Int32)), (3, vi (0 : Int32)), (0, vr (some this)), (1, vi x1), (2, vi x2)] (by decide) rfl ?_
      refine g_iconst hX dX4_fit_29 (0 : Int32) (by decide) ?_
      refine g_istore hX dX4_fit_30 [(5, vi (0 : Int32)), (4, vi (-1 : Int32)), (3, vi (0 : Int32)), (0, vr (some this)), (1, vi x1), (2, vi x2)] (by decide) rfl ?_
      exact g_pick (w_l_X4_fit_32 hM hf hr) [3, 4, 5, 2, 1, 0] rfl
    · exact g_pick (w_f_X4_fit_17 hM hf hr) [] rfl

theorem m_X4_fit {l : Launch} {this : Nat} {x1 : Int32} {x2 : Int32} {A : AH} {out : Int32 × AH} (h : f_X4_fit this x1 x2 A = some out) : MetF l yX4_fit (Cond.code yX4_fit cX4_fit 6 (some Jvm.ClassFile.FieldType.int)) rm_X4_fit [vr (some this), vi x1, vi x2] A (r_X4_fit A out) :=
  metF_of rfl rfl (Nat.le_of_ble_eq_true rfl) fun X hX hl hR hnm hr h1 h2 hno => w_f_X4_fit (X := X) ⟨hX, hR, h1, h2, fun _ => ⟨hnm, hno⟩⟩ h hr

/-! SlimeNet.surely(III)I -/
def rm_X0_surely : Room := { frames := 15, cells := 0, slots := 0, locals := 1154 }
def r_X0_surely (_A : AH) (o : Int32 × AH) : (Option AV × AH) ⊕ (Nat × AH) := .inl (some (vi o.1), o.2)
def k_X0_surely_44 (X : Ctx) (this : Nat) (x1 : Int32) (x2 : Int32) (A : AH) : ((Int32 × Int32) ⊕ (Int32)) → Prop
  | .inl (x4, x5) => G X 0 0 44 [(0, vr (some this)), (1, vi x1), (2, vi x2), (4, vi x4), (5, vi x5)] [] A
  | .inr x4 => G X 0 0 80 [(0, vr (some this)), (4, vi x4)] [] A

set_option maxRecDepth 100000 in
theorem w_f_X0_surely_29 {X : Ctx} (hM : MX X yX0_surely cX0_surely 6 "SlimeNet" (some Jvm.ClassFile.FieldType.int) rm_X0_surely []) {A : AH} {out : Int32 × AH} (hf : f_X0_surely_29 A = some out) (hr : c_res X = r_X0_surely A out) : G X 0 0 29 [] [] A := by
  have hX := hM.1
  unfold f_X0_surely_29 at hf
  refine g_bipush hX dX0_surely_29 (-2 : Int32) (by decide) ?_
  cases hf
  exact h_iret hM dX0_surely_31 hr rfl rfl

set_option maxRecDepth 100000 in
theorem w_f_X0_surely_114 {X : Ctx} (hM : MX X yX0_surely cX0_surely 6 "SlimeNet" (some Jvm.ClassFile.FieldType.int) rm_X0_surely []) {t0 : Int32} {A : AH} {out : Int32 × AH} (hf : f_X0_surely_114 t0 A = some out) (hr : c_res X = r_X0_surely A out) : G X 0 0 114 [] [vi t0] A := by
  have hX := hM.1
  unfold f_X0_surely_114 at hf
  cases hf
  exact h_iret hM dX0_surely_114 hr rfl rfl

set_option maxRecDepth 100000 in
theorem w_s_X0_surely_44 {X : Ctx} (hM : MX X yX0_surely cX0_surely 6 "SlimeNet" (some Jvm.ClassFile.FieldType.int) rm_X0_surely []) {this : Nat} {x1 : Int32} {x2 : Int32} {A : AH} {st : Int32 × Int32} {out : (Int32 × Int32) ⊕ (Int32)} (hf : s_X0_surely_44 this x1 x2 A st = some out) (K : k_X0_surely_44 X this x1 x2 A out) : k_X0_surely_44 X this x1 x2 A (.inl st) := by
  have hX := hM.1
  obtain ⟨x4, x5⟩ := st
  unfold s_X0_surely_44 at hf
  dsimp only at hf
  show G X 0 0 44 [(0, vr (some this)), (1, vi x1), (2, vi x2), (4, vi x4), (5, vi x5)] [] A
  refine g_iload hX dX0_surely_44 (lg_at 4 rfl) ?_
  refine g_aload_n hX dX0_surely_46 (lg_at 0 rfl) ?_
  refine g_getI hX hf fs_SlimeNet_319_1 rfl dX0_surely_47 (fun v47 hf => ?_)
  refine g_icmp_ge hX dX0_surely_50 80 hf (by decide) (fun c50 hf => ?_) (fun c50 hf => ?_)
  · cases hf
    exact g_pick (show G X _ _ _ _ _ _ from K) [0, 3] rfl
  · refine g_iload hX dX0_surely_53 (lg_at 3 rfl) ?_
    refine g_aload_n hX dX0_surely_55 (lg_at 0 rfl) ?_
    refine g_getR hX hf fs_SlimeNet_86_1 rfl dX0_surely_56 (fun v56 hf => ?_)
    refine g_bipush hX dX0_surely_59 (41 : Int32) (by decide) ?_
    refine g_iload hX dX0_surely_61 (lg_at 4 rfl) ?_
    refine g_imul hX dX0_surely_63 ?_
    refine g_iload_n hX dX0_surely_64 (lg_at 2 rfl) ?_
    refine g_iadd hX dX0_surely_65 ?_
    refine g_iald hX hf dX0_surely_66 (fun v66 hf => ?_)
    refine g_iload_n hX dX0_surely_67 (lg_at 1 rfl) ?_
    refine g_ishr hX dX0_surely_68 ?_
    refine g_iconst hX dX0_surely_69 (1 : Int32) (by decide) ?_
    refine g_iand hX dX0_surely_70 ?_
    refine g_iadd hX dX0_surely_71 ?_
    refine g_istore hX dX0_surely_72 [(4, vi (x4 + ((v66 >>> (x1 &&& 31)) &&& (1 : Int32)))), (0, vr (some this)), (1, vi x1), (2, vi x2), (5, vi x5)] (by decide) rfl ?_
    refine g_iinc hX dX0_surely_74 (1 : Int32) (x5 + (1 : Int32)) [(5, vi (x5 + (1 : Int32))), (4, vi (x4 + ((v66 >>> (x1 &&& 31)) &&& (1 : Int32)))), (0, vr (some this)), (1, vi x1), (2, vi x2)] (by decide) rfl (lg_at 4 rfl) (by decide) rfl ?_
    refine g_goto hX dX0_surely_77 44 (by decide) ?_
    cases hf
    exact g_pick (show G X _ _ _ _ _ _ from K) [2, 3, 4, 1, 0] rfl

set_option maxRecDepth 100000 in
theorem w_l_X0_surely_44 {X : Ctx} (hM : MX X yX0_surely cX0_surely 6 "SlimeNet" (some Jvm.ClassFile.FieldType.int) rm_X0_surely []) {this : Nat} {x1 : Int32} {x2 : Int32} {x4 : Int32} {x5 : Int32} {A : AH} {out : Int32 × AH} (hf : l_X0_surely_44 this x1 x2 x4 x5 A = some out) (hr : c_res X = r_X0_surely A out) : G X 0 0 44 [(0, vr (some this)), (1, vi x1), (2, vi x2), (4, vi x4), (5, vi x5)] [] A := by
  have hX := hM.1
  unfold l_X0_surely_44 at hf
  obtain ⟨e, hw, hf⟩ := ob_some hf
  refine (whl_ind (k_X0_surely_44 X this x1 x2 A) (fun st o hs K => w_s_X0_surely_44 hM hs K) hw ?_ : k_X0_surely_44 X this x1 x2 A (.inl (x4, x5)))
  revert hf hw; generalize e = x4; intro hw hf
  dsimp only at hf
  show G X 0 0 80 [(0, vr (some this)), (4, vi x4)] [] A
  refine g_aload_n hX dX0_surely_80 (lg_at 0 rfl) ?_
  refine g_getI hX hf fs_SlimeNet_319_1 rfl dX0_surely_81 (fun v81 hf => ?_)
  refine g_if_ne hX dX0_surely_84 91 hf (by decide) (fun c84 hf => ?_) (fun c84 hf => ?_)
  · refine g_iload hX dX0_surely_91 (lg_at 1 rfl) ?_
    refine g_aload_n hX dX0_surely_93 (lg_at 0 rfl) ?_
    refine g_getI hX hf fs_SlimeNet_319_1 rfl dX0_surely_94 (fun v94 hf => ?_)
    refine g_icmp_ne hX dX0_surely_97 104 hf (by decide) (fun c97 hf => ?_) (fun c97 hf => ?_)
    · refine g_iload hX dX0_surely_104 (lg_at 1 rfl) ?_
      refine g_if_ne hX dX0_surely_106 113 hf (by decide) (fun c106 hf => ?_) (fun c106 hf => ?_)
      · refine g_iconst hX dX0_surely_113 (2 : Int32) (by decide) ?_
        exact g_pick (w_f_X0_surely_114 hM hf hr) [] rfl
      · refine g_iconst hX dX0_surely_109 (0 : Int32) (by decide) ?_
        refine g_goto hX dX0_surely_110 114 (by decide) ?_
        exact g_pick (w_f_X0_surely_114 hM hf hr) [] rfl
    · refine g_iconst hX dX0_surely_100 (1 : Int32) (by decide) ?_
      refine g_goto hX dX0_surely_101 114 (by decide) ?_
      exact g_pick (w_f_X0_surely_114 hM hf hr) [] rfl
  · refine g_iconst hX dX0_surely_87 (-1 : Int32) (by decide) ?_
    refine g_goto hX dX0_surely_88 114 (by decide) ?_
    exact g_pick (w_f_X0_surely_114 hM hf hr) [] rfl

set_option maxRecDepth 100000 in
theorem w_f_X0_surely {X : Ctx} (hM : MX X yX0_surely cX0_surely 6 "SlimeNet" (some Jvm.ClassFile.FieldType.int) rm_X0_surely []) {this : Nat} {x1 : Int32} {x2 : Int32} {x3 : Int32} {A : AH} {out : Int32 × AH} (hf : f_X0_surely this x1 x2 x3 A = some out) (hr : c_res X = r_X0_surely A out) : G X 0 0 0 [(0, vr (some this)), (1, vi x1), (2, vi x2), (3, vi x3)] [] A := by
  have hX := hM.1
  unfold f_X0_surely at hf
  refine g_aload_n hX dX0_surely_0 (lg_at 0 rfl) ?_
  refine g_iload_n hX dX0_surely_1 (lg_at 1 rfl) ?_
  obtain ⟨k2, hk2, hf⟩ := ob_some hf
  obtain ⟨v2, hc2, hf⟩ := ob_some hf
  refine h_callV hM [vi x1] dX0_surely_2 cs_SlimeNet_178_1 hk2 (m_X0_isPipe hc2) rfl rfl rfl rfl ?_
  refine g_if_eq hX dX0_surely_5 29 hf (by decide) (fun c5 hf => ?_) (fun c5 hf => ?_)
  · exact g_pick (w_f_X0_surely_29 hM hf hr) [] rfl
  · refine g_iload_n hX dX0_surely_8 (lg_at 2 rfl) ?_
    refine g_iconst hX dX0_surely_9 (0 : Int32) (by decide) ?_
    refine g_bipush hX dX0_surely_10 (40 : Int32) (by decide) ?_
    obtain ⟨v12, hc12, hf⟩ := ob_some hf
    refine h_callS hM [vi x2, vi (0 : Int32), vi (40 : Int32)] dX0_surely_12 cs_SlimeNet_153_s (m_X0_in hc12) rfl rfl rfl rfl ?_
    refine g_if_eq hX dX0_surely_15 29 hf (by decide) (fun c15 hf => ?_) (fun c15 hf => ?_)
    · exact g_pick (w_f_X0_surely_29 hM hf hr) [] rfl
    · refine g_iload_n hX dX0_surely_18 (lg_at 3 rfl) ?_
      refine g_iconst hX dX0_surely_19 (0 : Int32) (by decide) ?_
      refine g_sipush hX dX0_surely_20 (999 : Int32) (by decide) ?_
      obtain ⟨v23, hc23, hf⟩ := ob_some hf
      refine h_callS hM [vi x3, vi (0 : Int32), vi (999 : Int32)] dX0_surely_23 cs_SlimeNet_153_s (m_X0_in hc23) rfl rfl rfl rfl ?_
      refine g_if_ne hX dX0_surely_26 32 hf (by decide) (fun c26 hf => ?_) (fun c26 hf => ?_)
      · refine g_aload_n hX dX0_surely_32 (lg_at 0 rfl) ?_
        refine g_iload_n hX dX0_surely_33 (lg_at 3 rfl) ?_
        refine g_iload_n hX dX0_surely_34 (lg_at 2 rfl) ?_
        obtain ⟨k35, hk35, hf⟩ := ob_some hf
        obtain ⟨A35, hc35, hf⟩ := ob_some hf
        refine h_callV hM [vi x3, vi x2] dX0_surely_35 cs_SlimeNet_322_1 hk35 (m_X0_findFits hc35) rfl rfl rfl rfl ?_
        refine g_iconst hX dX0_surely_38 (0 : Int32) (by decide) ?_
        refine g_istore hX dX0_surely_39 [(4, vi (0 : Int32)), (0, vr (some this)), (1, vi x1), (2, vi x2), (3, vi x3)] (by decide) rfl ?_
        refine g_iconst hX dX0_surely_41 (0 : Int32) (by decide) ?_
        refine g_istore hX dX0_surely_42 [(5, vi (0 : Int32)), (4, vi (0 : Int32)), (0, vr (some this)), (1, vi x1), (2, vi x2), (3, vi x3)] (by decide) rfl ?_
        exact g_pick (w_l_X0_surely_44 hM hf hr) [2, 3, 4, 1, 0] rfl
      · exact g_pick (w_f_X0_surely_29 hM hf hr) [] rfl

theorem m_X0_surely {l : Launch} {this : Nat} {x1 : Int32} {x2 : Int32} {x3 : Int32} {A : AH} {out : Int32 × AH} (h : f_X0_surely this x1 x2 x3 A = some out) : MetF l yX0_surely (Cond.code yX0_surely cX0_surely 6 (some Jvm.ClassFile.FieldType.int)) rm_X0_surely [vr (some this), vi x1, vi x2, vi x3] A (r_X0_surely A out) :=
  metF_of rfl rfl (Nat.le_of_ble_eq_true rfl) fun X hX hl hR hnm hr h1 h2 hno => w_f_X0_surely (X := X) ⟨hX, hR, h1, h2, fun _ => ⟨hnm, hno⟩⟩ h hr

/-! SlimeNetModel.surely(III)I -/
def rm_X4_surely : Room := { frames := 5, cells := 0, slots := 0, locals := 136 }
def r_X4_surely (_A : AH) (o : Int32 × AH) : (Option AV × AH) ⊕ (Nat × AH) := .inl (some (vi o.1), o.2)
def k_X4_surely_38 (X : Ctx) (this : Nat) (x1 : Int32) (x2 : Int32) (x3 : Int32) (A : AH) : ((Int32 × Int32 × Int32) ⊕ (Int32 × Int32)) → Prop
  | .inl (x4, x5, x6) => G X 0 0 38 [(0, vr (some this)), (1, vi x1), (2, vi x2), (3, vi x3), (4, vi x4), (5, vi x5), (6, vi x6)] [] A
  | .inr (x4, x5) => G X 0 0 84 [(4, vi x4), (5, vi x5)] [] A

set_option maxRecDepth 100000 in
theorem w_f_X4_surely_22 {X : Ctx} (hM : MX X yX4_surely cX4_surely 7 "SlimeNetModel" (some Jvm.ClassFile.FieldType.int) rm_X4_surely []) {A : AH} {out : Int32 × AH} (hf : f_X4_surely_22 A = some out) (hr : c_res X = r_X4_surely A out) : G X 0 0 22 [] [] A := by
  have hX := hM.1
  unfold f_X4_surely_22 at hf
  refine g_bipush hX dX4_surely_22 (-2 : Int32) (by decide) ?_
  cases hf
  exact h_iret hM dX4_surely_24 hr rfl rfl

set_option maxRecDepth 100000 in
theorem w_f_X4_surely_78 {X : Ctx} (hM : MX X yX4_surely cX4_surely 7 "SlimeNetModel" (some Jvm.ClassFile.FieldType.int) rm_X4_surely []) {this : Nat} {x1 : Int32} {x2 : Int32} {x3 : Int32} {x4 : Int32} {x5 : Int32} {x6 : Int32} {A : AH} {out : (Int32 × Int32 × Int32) ⊕ (Int32 × Int32)} (hf : f_X4_surely_78 this x1 x2 x3 x4 x5 x6 A = some out) (K : k_X4_surely_38 X this x1 x2 x3 A out) : G X 0 0 78 [(0, vr (some this)), (1, vi x1), (2, vi x2), (3, vi x3), (4, vi x4), (5, vi x5), (6, vi x6)] [] A := by
  have hX := hM.1
  unfold f_X4_surely_78 at hf
  refine g_iinc hX dX4_surely_78 (1 : Int32) (x6 + (1 : Int32)) [(6, vi (x6 + (1 : Int32))), (0, vr (some this)), (1, vi x1), (2, vi x2), (3, vi x3), (4, vi x4), (5, vi x5)] (by decide) rfl (lg_at 6 rfl) (by decide) rfl ?_
  refine g_goto hX dX4_surely_81 38 (by decide) ?_
  cases hf
  exact g_pick (show G X _ _ _ _ _ _ from K) [1, 2, 3, 4, 5, 6, 0] rfl

set_option maxRecDepth 100000 in
theorem w_f_X4_surely_114 {X : Ctx} (hM : MX X yX4_surely cX4_surely 7 "SlimeNetModel" (some Jvm.ClassFile.FieldType.int) rm_X4_surely []) {t0 : Int32} {A : AH} {out : Int32 × AH} (hf : f_X4_surely_114 t0 A = some out) (hr : c_res X = r_X4_surely A out) : G X 0 0 114 [] [vi t0] A := by
  have hX := hM.1
  unfold f_X4_surely_114 at hf
  cases hf
  exact h_iret hM dX4_surely_114 hr rfl rfl

set_option maxRecDepth 100000 in
theorem w_s_X4_surely_38 {X : Ctx} (hM : MX X yX4_surely cX4_surely 7 "SlimeNetModel" (some Jvm.ClassFile.FieldType.int) rm_X4_surely []) {this : Nat} {x1 : Int32} {x2 : Int32} {x3 : Int32} {A : AH} {st : Int32 × Int32 × Int32} {out : (Int32 × Int32 × Int32) ⊕ (Int32 × Int32)} (hf : s_X4_surely_38 this x1 x2 x3 A st = some out) (K : k_X4_surely_38 X this x1 x2 x3 A out) : k_X4_surely_38 X this x1 x2 x3 A (.inl st) := by
  have hX := hM.1
  obtain ⟨x4, x5, x6⟩ := st
  unfold s_X4_surely_38 at hf
  dsimp only at hf
  show G X 0 0 38 [(0, vr (some this)), (1, vi x1), (2, vi x2), (3, vi x3), (4, vi x4), (5, vi x5), (6, vi x6)] [] A
  refine g_iload hX dX4_surely_38 (lg_at 6 rfl) ?_
  refine g_sipush hX dX4_surely_40 (441 : Int32) (by decide) ?_
  refine g_icmp_ge hX dX4_surely_43 84 hf (by decide) (fun c43 hf => ?_) (fun c43 hf => ?_)
  · cases hf
    exact g_pick (show G X _ _ _ _ _ _ from K) [4, 5] rfl
  · refine g_aload_n hX dX4_surely_46 (lg_at 0 rfl) ?_
    refine g_iload hX dX4_surely_47 (lg_at 6 rfl) ?_
    refine g_iload_n hX dX4_surely_49 (lg_at 3 rfl) ?_
    obtain ⟨k50, hk50, hf⟩ := ob_some hf
    obtain ⟨v50, hc50, hf⟩ := ob_some hf
    refine h_callV hM [vi x6, vi x3] dX4_surely_50 cs_SlimeNetModel_456_5 hk50 (m_X4_fits hc50) rfl rfl rfl rfl ?_
    refine g_if_ne hX dX4_surely_53 59 hf (by decide) (fun c53 hf => ?_) (fun c53 hf => ?_)
    · refine g_iinc hX dX4_surely_59 (1 : Int32) (x4 + (1 : Int32)) [(4, vi (x4 + (1 : Int32))), (0, vr (some this)), (1, vi x1), (2, vi x2), (3, vi x3), (5, vi x5), (6, vi x6)] (by decide) rfl (lg_at 4 rfl) (by decide) rfl ?_
      refine g_iload hX dX4_surely_62 (lg_at 5 rfl) ?_
      refine g_aload_n hX dX4_surely_64 (lg_at 1 rfl) ?_
      refine g_iload hX dX4_surely_65 (lg_at 6 rfl) ?_
      refine g_iload_n hX dX4_surely_67 (lg_at 3 rfl) ?_
      obtain ⟨k68, hk68, hf⟩ := ob_some hf
      obtain ⟨v68, hc68, hf⟩ := ob_some hf
      refine h_callV hM [vi x6, vi x2] dX4_surely_68 cs_SlimeNetModel_444_5 hk68 (m_X4_ownAt hc68) rfl rfl rfl rfl ?_
      refine g_iload_n hX dX4_surely_71 (lg_at 2 rfl) ?_
      refine g_ishr hX dX4_surely_72 ?_
      refine g_iconst hX dX4_surely_73 (1 : Int32) (by decide) ?_
      refine g_iand hX dX4_surely_74 ?_
      refine g_iadd hX dX4_surely_75 ?_
      refine g_istore hX dX4_surely_76 [(5, vi (x5 + ((v68 >>> (x1 &&& 31)) &&& (1 : Int32)))), (4, vi (x4 + (1 : Int32))), (0, vr (some this)), (1, vi x1), (2, vi x2), (3, vi x3), (6, vi x6)] (by decide) rfl ?_
      exact g_pick (w_f_X4_surely_78 hM hf K) [2, 3, 4, 5, 1, 0, 6] rfl
    · refine g_goto hX dX4_surely_56 78 (by decide) ?_
      exact g_pick (w_f_X4_surely_78 hM hf K) [0, 1, 2, 3, 4, 5, 6] rfl

set_option maxRecDepth 100000 in
theorem w_l_X4_surely_38 {X : Ctx} (hM : MX X yX4_surely cX4_surely 7 "SlimeNetModel" (some Jvm.ClassFile.FieldType.int) rm_X4_surely []) {this : Nat} {x1 : Int32} {x2 : Int32} {x3 : Int32} {x4 : Int32} {x5 : Int32} {x6 : Int32} {A : AH} {out : Int32 × AH} (hf : l_X4_surely_38 this x1 x2 x3 x4 x5 x6 A = some out) (hr : c_res X = r_X4_surely A out) : G X 0 0 38 [(0, vr (some this)), (1, vi x1), (2, vi x2), (3, vi x3), (4, vi x4), (5, vi x5), (6, vi x6)] [] A := by
  have hX := hM.1
  unfold l_X4_surely_38 at hf
  obtain ⟨e, hw, hf⟩ := ob_some hf
  refine (whl_ind (k_X4_surely_38 X this x1 x2 x3 A) (fun st o hs K => w_s_X4_surely_38 hM hs K) hw ?_ : k_X4_surely_38 X this x1 x2 x3 A (.inl (x4, x5, x6)))
  obtain ⟨x4, x5⟩ := e
  dsimp only at hf
  show G X 0 0 84 [(4, vi x4), (5, vi x5)] [] A
  refine g_iload hX dX4_surely_84 (lg_at 0 rfl) ?_
  refine g_if_ne hX dX4_surely_86 93 hf (by decide) (fun c86 hf => ?_) (fun c86 hf => ?_)
  · refine g_iload hX dX4_surely_93 (lg_at 1 rfl) ?_
    refine g_iload hX dX4_surely_95 (lg_at 0 rfl) ?_
    refine g_icmp_ne hX dX4_surely_97 104 hf (by decide) (fun c97 hf => ?_) (fun c97 hf => ?_)
    · refine g_iload hX dX4_surely_104 (lg_at 1 rfl) ?_
      refine g_if_ne hX dX4_surely_106 113 hf (by decide) (fun c106 hf => ?_) (fun c106 hf => ?_)
      · refine g_iconst hX dX4_surely_113 (2 : Int32) (by decide) ?_
        exact g_pick (w_f_X4_surely_114 hM hf hr) [] rfl
      · refine g_iconst hX dX4_surely_109 (0 : Int32) (by decide) ?_
        refine g_goto hX dX4_surely_110 114 (by decide) ?_
        exact g_pick (w_f_X4_surely_114 hM hf hr) [] rfl
    · refine g_iconst hX dX4_surely_100 (1 : Int32) (by decide) ?_
      refine g_goto hX dX4_surely_101 114 (by decide) ?_
      exact g_pick (w_f_X4_surely_114 hM hf hr) [] rfl
  · refine g_iconst hX dX4_surely_89 (-1 : Int32) (by decide) ?_
    refine g_goto hX dX4_surely_90 114 (by decide) ?_
    exact g_pick (w_f_X4_surely_114 hM hf hr) [] rfl

set_option maxRecDepth 100000 in
theorem w_f_X4_surely {X : Ctx} (hM : MX X yX4_surely cX4_surely 7 "SlimeNetModel" (some Jvm.ClassFile.FieldType.int) rm_X4_surely []) {this : Nat} {x1 : Int32} {x2 : Int32} {x3 : Int32} {A : AH} {out : Int32 × AH} (hf : f_X4_surely this x1 x2 x3 A = some out) (hr : c_res X = r_X4_surely A out) : G X 0 0 0 [(0, vr (some this)), (1, vi x1), (2, vi x2), (3, vi x3)] [] A := by
  have hX := hM.1
  unfold f_X4_surely at hf
  refine g_aload_n hX dX4_surely_0 (lg_at 0 rfl) ?_
  refine g_iload_n hX dX4_surely_1 (lg_at 1 rfl) ?_
  obtain ⟨k2, hk2, hf⟩ := ob_some hf
  obtain ⟨v2, hc2, hf⟩ := ob_some hf
  refine h_callV hM [vi x1] dX4_surely_2 cs_SlimeNetModel_365_5 hk2 (m_X4_isPipe hc2) rfl rfl rfl rfl ?_
  refine g_if_eq hX dX4_surely_5 22 hf (by decide) (fun c5 hf => ?_) (fun c5 hf => ?_)
  · exact g_pick (w_f_X4_surely_22 hM hf hr) [] rfl
  · refine g_iload_n hX dX4_surely_8 (lg_at 2 rfl) ?_
    obtain ⟨v9, hc9, hf⟩ := ob_some hf
    refine h_callS hM [vi x2] dX4_surely_9 cs_SlimeNetModel_441_s (m_X4_isHour hc9) rfl rfl rfl rfl ?_
    refine g_if_eq hX dX4_surely_12 22 hf (by decide) (fun c12 hf => ?_) (fun c12 hf => ?_)
    · exact g_pick (w_f_X4_surely_22 hM hf hr) [] rfl
    · refine g_iload_n hX dX4_surely_15 (lg_at 3 rfl) ?_
      obtain ⟨v16, hc16, hf⟩ := ob_some hf
      refine h_callS hM [vi x3] dX4_surely_16 cs_SlimeNetModel_450_s (m_X4_isStep hc16) rfl rfl rfl rfl ?_
      refine g_if_ne hX dX4_surely_19 25 hf (by decide) (fun c19 hf => ?_) (fun c19 hf => ?_)
      · refine g_aload_n hX dX4_surely_25 (lg_at 0 rfl) ?_
        obtain ⟨k26, hk26, hf⟩ := ob_some hf
        obtain ⟨A26, hc26, hf⟩ := ob_some hf
        refine h_callV hM [] dX4_surely_26 cs_SlimeNetModel_453_5 hk26 (m_X4_findLaws hc26) rfl rfl rfl rfl ?_
        refine g_iconst hX dX4_surely_29 (0 : Int32) (by decide) ?_
        refine g_istore hX dX4_surely_30 [(4, vi (0 : Int32)), (0, vr (some this)), (1, vi x1), (2, vi x2), (3, vi x3)] (by decide) rfl ?_
        refine g_iconst hX dX4_surely_32 (0 : Int32) (by decide) ?_
        refine g_istore hX dX4_surely_33 [(5, vi (0 : Int32)), (4, vi (0 : Int32)), (0, vr (some this)), (1, vi x1), (2, vi x2), (3, vi x3)] (by decide) rfl ?_
        refine g_iconst hX dX4_surely_35 (0 : Int32) (by decide) ?_
        refine g_istore hX dX4_surely_36 [(6, vi (0 : Int32)), (5, vi (0 : Int32)), (4, vi (0 : Int32)), (0, vr (some this)), (1, vi x1), (2, vi x2), (3, vi x3)] (by decide) rfl ?_
        exact g_pick (w_l_X4_surely_38 hM hf hr) [3, 4, 5, 6, 2, 1, 0] rfl
      · exact g_pick (w_f_X4_surely_22 hM hf hr) [] rfl

theorem m_X4_surely {l : Launch} {this : Nat} {x1 : Int32} {x2 : Int32} {x3 : Int32} {A : AH} {out : Int32 × AH} (h : f_X4_surely this x1 x2 x3 A = some out) : MetF l yX4_surely (Cond.code yX4_surely cX4_surely 7 (some Jvm.ClassFile.FieldType.int)) rm_X4_surely [vr (some this), vi x1, vi x2, vi x3] A (r_X4_surely A out) :=
  metF_of rfl rfl (Nat.le_of_ble_eq_true rfl) fun X hX hl hR hnm hr h1 h2 hno => w_f_X4_surely (X := X) ⟨hX, hR, h1, h2, fun _ => ⟨hnm, hno⟩⟩ h hr

/-! SlimeNet.look()I -/
def rm_X0_look : Room := { frames := 15, cells := 0, slots := 0, locals := 1154 }
def r_X0_look (_A : AH) (o : Int32 × AH) : (Option AV × AH) ⊕ (Nat × AH) := .inl (some (vi o.1), o.2)
def k_X0_look_18 (X : Ctx) (this : Nat) (A : AH) : ((Int32 × Int32 × Int32) ⊕ (Int32)) → Prop
  | .inl (x1, x2, x3) => G X 0 0 18 [(0, vr (some this)), (1, vi x1), (2, vi x2), (3, vi x3)] [] A
  | .inr x1 => G X 0 0 132 [(1, vi x1)] [] A

def k_X0_look_30 (X : Ctx) (this : Nat) (x1 : Int32) (x2 : Int32) (x3 : Int32) (A : AH) : ((Int32 × Int32) ⊕ (Int32)) → Prop
  | .inl (x4, x5) => G X 0 0 30 [(0, vr (some this)), (1, vi x1), (2, vi x2), (3, vi x3), (4, vi x4), (5, vi x5)] [] A
  | .inr x4 => G X 0 0 112 [(0, vr (some this)), (1, vi x1), (2, vi x2), (3, vi x3), (4, vi x4)] [] A

def k_X0_look_45 (X : Ctx) (this : Nat) (x1 : Int32) (x2 : Int32) (x3 : Int32) (x4 : Int32) (x5 : Int32) (A : AH) : ((Int32 × Int32) ⊕ (Int32)) → Prop
  | .inl (x6, x7) => G X 0 0 45 [(0, vr (some this)), (1, vi x1), (2, vi x2), (3, vi x3), (4, vi x4), (5, vi x5), (6, vi x6), (7, vi x7)] [] A
  | .inr x6 => G X 0 0 97 [(0, vr (some this)), (1, vi x1), (2, vi x2), (3, vi x3), (4, vi x4), (5, vi x5), (6, vi x6)] [] A

set_option maxRecDepth 100000 in
theorem w_f_X0_look_88 {X : Ctx} (hM : MX X yX0_look cX0_look 8 "SlimeNet" (some Jvm.ClassFile.FieldType.int) rm_X0_look []) {this : Nat} {x1 : Int32} {x2 : Int32} {x3 : Int32} {x4 : Int32} {x5 : Int32} {x7 : Int32} {t0 : Int32} {t1 : Int32} {A : AH} {out : (Int32 × Int32) ⊕ (Int32)} (hf : f_X0_look_88 this x1 x2 x3 x4 x5 x7 t0 t1 A = some out) (K : k_X0_look_45 X this x1 x2 x3 x4 x5 A out) : G X 0 0 88 [(0, vr (some this)), (1, vi x1), (2, vi x2), (3, vi x3), (4, vi x4), (5, vi x5), (7, vi x7)] [vi t0, vi t1] A := by
  have hX := hM.1
  unfold f_X0_look_88 at hf
  refine g_iadd hX dX0_look_88 ?_
  refine g_istore hX dX0_look_89 [(6, vi (t1 + t0)), (0, vr (some this)), (1, vi x1), (2, vi x2), (3, vi x3), (4, vi x4), (5, vi x5), (7, vi x7)] (by decide) rfl ?_
  refine g_iinc hX dX0_look_91 (1 : Int32) (x7 + (1 : Int32)) [(7, vi (x7 + (1 : Int32))), (6, vi (t1 + t0)), (0, vr (some this)), (1, vi x1), (2, vi x2), (3, vi x3), (4, vi x4), (5, vi x5)] (by decide) rfl (lg_at 7 rfl) (by decide) rfl ?_
  refine g_goto hX dX0_look_94 45 (by decide) ?_
  cases hf
  exact g_pick (show G X _ _ _ _ _ _ from K) [2, 3, 4, 5, 6, 7, 1, 0] rfl

set_option maxRecDepth 100000 in
theorem w_s_X0_look_45 {X : Ctx} (hM : MX X yX0_look cX0_look 8 "SlimeNet" (some Jvm.ClassFile.FieldType.int) rm_X0_look []) {this : Nat} {x1 : Int32} {x2 : Int32} {x3 : Int32} {x4 : Int32} {x5 : Int32} {A : AH} {st : Int32 × Int32} {out : (Int32 × Int32) ⊕ (Int32)} (hf : s_X0_look_45 this x1 x2 x3 x4 x5 A st = some out) (K : k_X0_look_45 X this x1 x2 x3 x4 x5 A out) : k_X0_look_45 X this x1 x2 x3 x4 x5 A (.inl st) := by
  have hX := hM.1
  obtain ⟨x6, x7⟩ := st
  unfold s_X0_look_45 at hf
  dsimp only at hf
  show G X 0 0 45 [(0, vr (some this)), (1, vi x1), (2, vi x2), (3, vi x3), (4, vi x4), (5, vi x5), (6, vi x6), (7, vi x7)] [] A
  refine g_iload hX dX0_look_45 (lg_at 7 rfl) ?_
  refine g_aload_n hX dX0_look_47 (lg_at 0 rfl) ?_
  refine g_getI hX hf fs_SlimeNet_319_1 rfl dX0_look_48 (fun v48 hf => ?_)
  refine g_icmp_ge hX dX0_look_51 97 hf (by decide) (fun c51 hf => ?_) (fun c51 hf => ?_)
  · cases hf
    exact g_pick (show G X _ _ _ _ _ _ from K) [0, 1, 2, 3, 4, 5, 6] rfl
  · refine g_iload hX dX0_look_54 (lg_at 6 rfl) ?_
    refine g_aload_n hX dX0_look_56 (lg_at 0 rfl) ?_
    refine g_getR hX hf fs_SlimeNet_86_1 rfl dX0_look_57 (fun v57 hf => ?_)
    refine g_bipush hX dX0_look_60 (41 : Int32) (by decide) ?_
    refine g_iload hX dX0_look_62 (lg_at 5 rfl) ?_
    refine g_imul hX dX0_look_64 ?_
    refine g_iload_n hX dX0_look_65 (lg_at 3 rfl) ?_
    refine g_iadd hX dX0_look_66 ?_
    refine g_iald hX hf dX0_look_67 (fun v67 hf => ?_)
    refine g_aload_n hX dX0_look_68 (lg_at 0 rfl) ?_
    refine g_getR hX hf fs_SlimeNet_86_1 rfl dX0_look_69 (fun v69 hf => ?_)
    refine g_bipush hX dX0_look_72 (41 : Int32) (by decide) ?_
    refine g_iload hX dX0_look_74 (lg_at 7 rfl) ?_
    refine g_imul hX dX0_look_76 ?_
    refine g_iload_n hX dX0_look_77 (lg_at 3 rfl) ?_
    refine g_iadd hX dX0_look_78 ?_
    refine g_iald hX hf dX0_look_79 (fun v79 hf => ?_)
    refine g_icmp_ne hX dX0_look_80 87 hf (by decide) (fun c80 hf => ?_) (fun c80 hf => ?_)
    · refine g_iconst hX dX0_look_87 (0 : Int32) (by decide) ?_
      exact g_pick (w_f_X0_look_88 hM hf K) [0, 1, 2, 3, 4, 5, 7] rfl
    · refine g_iconst hX dX0_look_83 (1 : Int32) (by decide) ?_
      refine g_goto hX dX0_look_84 88 (by decide) ?_
      exact g_pick (w_f_X0_look_88 hM hf K) [0, 1, 2, 3, 4, 5, 7] rfl

set_option maxRecDepth 100000 in
theorem w_l_X0_look_45 {X : Ctx} (hM : MX X yX0_look cX0_look 8 "SlimeNet" (some Jvm.ClassFile.FieldType.int) rm_X0_look []) {this : Nat} {x1 : Int32} {x2 : Int32} {x3 : Int32} {x4 : Int32} {x5 : Int32} {x6 : Int32} {x7 : Int32} {A : AH} {out : (Int32 × Int32) ⊕ (Int32)} (hf : l_X0_look_45 this x1 x2 x3 x4 x5 x6 x7 A = some out) (K : k_X0_look_30 X this x1 x2 x3 A out) : G X 0 0 45 [(0, vr (some this)), (1, vi x1), (2, vi x2), (3, vi x3), (4, vi x4), (5, vi x5), (6, vi x6), (7, vi x7)] [] A := by
  have hX := hM.1
  unfold l_X0_look_45 at hf
  obtain ⟨e, hw, hf⟩ := ob_some hf
  refine (whl_ind (k_X0_look_45 X this x1 x2 x3 x4 x5 A) (fun st o hs K => w_s_X0_look_45 hM hs K) hw ?_ : k_X0_look_45 X this x1 x2 x3 x4 x5 A (.inl (x6, x7)))
  revert hf hw; generalize e = x6; intro hw hf
  dsimp only at hf
  show G X 0 0 97 [(0, vr (some this)), (1, vi x1), (2, vi x2), (3, vi x3), (4, vi x4), (5, vi x5), (6, vi x6)] [] A
  refine g_iload hX dX0_look_97 (lg_at 4 rfl) ?_
  refine g_iload hX dX0_look_99 (lg_at 6 rfl) ?_
  refine g_mmax hM dX0_look_101 (lw_LW q1011) (lw_LW q689) (lw_LW q80) (lw_LW q690) rfl rfl ?_
  refine g_istore hX dX0_look_104 [(4, vi (mxI x4 x6)), (0, vr (some this)), (1, vi x1), (2, vi x2), (3, vi x3), (5, vi x5), (6, vi x6)] (by decide) rfl ?_
  refine g_iinc hX dX0_look_106 (1 : Int32) (x5 + (1 : Int32)) [(5, vi (x5 + (1 : Int32))), (4, vi (mxI x4 x6)), (0, vr (some this)), (1, vi x1), (2, vi x2), (3, vi x3), (6, vi x6)] (by decide) rfl (lg_at 5 rfl) (by decide) rfl ?_
  refine g_goto hX dX0_look_109 30 (by decide) ?_
  cases hf
  exact g_pick (show G X _ _ _ _ _ _ from K) [2, 3, 4, 5, 1, 0] rfl

set_option maxRecDepth 100000 in
theorem w_f_X0_look_126 {X : Ctx} (hM : MX X yX0_look cX0_look 8 "SlimeNet" (some Jvm.ClassFile.FieldType.int) rm_X0_look []) {this : Nat} {x1 : Int32} {x2 : Int32} {x3 : Int32} {A : AH} {out : (Int32 × Int32 × Int32) ⊕ (Int32)} (hf : f_X0_look_126 this x1 x2 x3 A = some out) (K : k_X0_look_18 X this A out) : G X 0 0 126 [(0, vr (some this)), (1, vi x1), (2, vi x2), (3, vi x3)] [] A := by
  have hX := hM.1
  unfold f_X0_look_126 at hf
  refine g_iinc hX dX0_look_126 (1 : Int32) (x3 + (1 : Int32)) [(3, vi (x3 + (1 : Int32))), (0, vr (some this)), (1, vi x1), (2, vi x2)] (by decide) rfl (lg_at 3 rfl) (by decide) rfl ?_
  refine g_goto hX dX0_look_129 18 (by decide) ?_
  cases hf
  exact g_pick (show G X _ _ _ _ _ _ from K) [1, 2, 3, 0] rfl

set_option maxRecDepth 100000 in
theorem w_s_X0_look_30 {X : Ctx} (hM : MX X yX0_look cX0_look 8 "SlimeNet" (some Jvm.ClassFile.FieldType.int) rm_X0_look []) {this : Nat} {x1 : Int32} {x2 : Int32} {x3 : Int32} {A : AH} {st : Int32 × Int32} {out : (Int32 × Int32) ⊕ (Int32)} (hf : s_X0_look_30 this x1 x2 x3 A st = some out) (K : k_X0_look_30 X this x1 x2 x3 A out) : k_X0_look_30 X this x1 x2 x3 A (.inl st) := by
  have hX := hM.1
  obtain ⟨x4, x5⟩ := st
  unfold s_X0_look_30 at hf
  dsimp only at hf
  show G X 0 0 30 [(0, vr (some this)), (1, vi x1), (2, vi x2), (3, vi x3), (4, vi x4), (5, vi x5)] [] A
  refine g_iload hX dX0_look_30 (lg_at 5 rfl) ?_
  refine g_aload_n hX dX0_look_32 (lg_at 0 rfl) ?_
  refine g_getI hX hf fs_SlimeNet_319_1 rfl dX0_look_33 (fun v33 hf => ?_)
  refine g_icmp_ge hX dX0_look_36 112 hf (by decide) (fun c36 hf => ?_) (fun c36 hf => ?_)
  · cases hf
    exact g_pick (show G X _ _ _ _ _ _ from K) [0, 1, 2, 3, 4] rfl
  · refine g_iconst hX dX0_look_39 (0 : Int32) (by decide) ?_
    refine g_istore hX dX0_look_40 [(6, vi (0 : Int32)), (0, vr (some this)), (1, vi x1), (2, vi x2), (3, vi x3), (4, vi x4), (5, vi x5)] (by decide) rfl ?_
    refine g_iconst hX dX0_look_42 (0 : Int32) (by decide) ?_
    refine g_istore hX dX0_look_43 [(7, vi (0 : Int32)), (6, vi (0 : Int32)), (0, vr (some this)), (1, vi x1), (2, vi x2), (3, vi x3), (4, vi x4), (5, vi x5)] (by decide) rfl ?_
    exact g_pick (w_l_X0_look_45 hM hf K) [2, 3, 4, 5, 6, 7, 1, 0] rfl

set_option maxRecDepth 100000 in
theorem w_l_X0_look_30 {X : Ctx} (hM : MX X yX0_look cX0_look 8 "SlimeNet" (some Jvm.ClassFile.FieldType.int) rm_X0_look []) {this : Nat} {x1 : Int32} {x2 : Int32} {x3 : Int32} {x4 : Int32} {x5 : Int32} {A : AH} {out : (Int32 × Int32 × Int32) ⊕ (Int32)} (hf : l_X0_look_30 this x1 x2 x3 x4 x5 A = some out) (K : k_X0_look_18 X this A out) : G X 0 0 30 [(0, vr (some this)), (1, vi x1), (2, vi x2), (3, vi x3), (4, vi x4), (5, vi x5)] [] A := by
  have hX := hM.1
  unfold l_X0_look_30 at hf
  obtain ⟨e, hw, hf⟩ := ob_some hf
  refine (whl_ind (k_X0_look_30 X this x1 x2 x3 A) (fun st o hs K => w_s_X0_look_30 hM hs K) hw ?_ : k_X0_look_30 X this x1 x2 x3 A (.inl (x4, x5)))
  revert hf hw; generalize e = x4; intro hw hf
  dsimp only at hf
  show G X 0 0 112 [(0, vr (some this)), (1, vi x1), (2, vi x2), (3, vi x3), (4, vi x4)] [] A
  refine g_iload hX dX0_look_112 (lg_at 4 rfl) ?_
  refine g_iload_n hX dX0_look_114 (lg_at 2 rfl) ?_
  refine g_icmp_lt hX dX0_look_115 121 hf (by decide) (fun c115 hf => ?_) (fun c115 hf => ?_)
  · refine g_iload hX dX0_look_121 (lg_at 4 rfl) ?_
    refine g_istore_n hX dX0_look_123 [(2, vi x4), (0, vr (some this)), (1, vi x1), (3, vi x3), (4, vi x4)] (by decide) rfl ?_
    refine g_iload_n hX dX0_look_124 (lg_at 3 rfl) ?_
    refine g_istore_n hX dX0_look_125 [(1, vi x3), (2, vi x4), (0, vr (some this)), (3, vi x3), (4, vi x4)] (by decide) rfl ?_
    exact g_pick (w_f_X0_look_126 hM hf K) [2, 0, 1, 3] rfl
  · refine g_goto hX dX0_look_118 126 (by decide) ?_
    exact g_pick (w_f_X0_look_126 hM hf K) [0, 1, 2, 3] rfl

set_option maxRecDepth 100000 in
theorem w_s_X0_look_18 {X : Ctx} (hM : MX X yX0_look cX0_look 8 "SlimeNet" (some Jvm.ClassFile.FieldType.int) rm_X0_look []) {this : Nat} {A : AH} {st : Int32 × Int32 × Int32} {out : (Int32 × Int32 × Int32) ⊕ (Int32)} (hf : s_X0_look_18 this A st = some out) (K : k_X0_look_18 X this A out) : k_X0_look_18 X this A (.inl st) := by
  have hX := hM.1
  obtain ⟨x1, x2, x3⟩ := st
  unfold s_X0_look_18 at hf
  dsimp only at hf
  show G X 0 0 18 [(0, vr (some this)), (1, vi x1), (2, vi x2), (3, vi x3)] [] A
  refine g_iload_n hX dX0_look_18 (lg_at 3 rfl) ?_
  refine g_bipush hX dX0_look_19 (40 : Int32) (by decide) ?_
  refine g_icmp_gt hX dX0_look_21 132 hf (by decide) (fun c21 hf => ?_) (fun c21 hf => ?_)
  · cases hf
    exact g_pick (show G X _ _ _ _ _ _ from K) [1] rfl
  · refine g_iconst hX dX0_look_24 (0 : Int32) (by decide) ?_
    refine g_istore hX dX0_look_25 [(4, vi (0 : Int32)), (0, vr (some this)), (1, vi x1), (2, vi x2), (3, vi x3)] (by decide) rfl ?_
    refine g_iconst hX dX0_look_27 (0 : Int32) (by decide) ?_
    refine g_istore hX dX0_look_28 [(5, vi (0 : Int32)), (4, vi (0 : Int32)), (0, vr (some this)), (1, vi x1), (2, vi x2), (3, vi x3)] (by decide) rfl ?_
    exact g_pick (w_l_X0_look_30 hM hf K) [2, 3, 4, 5, 1, 0] rfl

set_option maxRecDepth 100000 in
theorem w_l_X0_look_18 {X : Ctx} (hM : MX X yX0_look cX0_look 8 "SlimeNet" (some Jvm.ClassFile.FieldType.int) rm_X0_look []) {this : Nat} {x1 : Int32} {x2 : Int32} {x3 : Int32} {A : AH} {out : Int32 × AH} (hf : l_X0_look_18 this x1 x2 x3 A = some out) (hr : c_res X = r_X0_look A out) : G X 0 0 18 [(0, vr (some this)), (1, vi x1), (2, vi x2), (3, vi x3)] [] A := by
  have hX := hM.1
  unfold l_X0_look_18 at hf
  obtain ⟨e, hw, hf⟩ := ob_some hf
  refine (whl_ind (k_X0_look_18 X this A) (fun st o hs K => w_s_X0_look_18 hM hs K) hw ?_ : k_X0_look_18 X this A (.inl (x1, x2, x3)))
  revert hf hw; generalize e = x1; intro hw hf
  dsimp only at hf
  show G X 0 0 132 [(1, vi x1)] [] A
  refine g_iload_n hX dX0_look_132 (lg_at 0 rfl) ?_
  cases hf
  exact h_iret hM dX0_look_133 hr rfl rfl

set_option maxRecDepth 100000 in
theorem w_f_X0_look {X : Ctx} (hM : MX X yX0_look cX0_look 8 "SlimeNet" (some Jvm.ClassFile.FieldType.int) rm_X0_look []) {this : Nat} {A : AH} {out : Int32 × AH} (hf : f_X0_look this A = some out) (hr : c_res X = r_X0_look A out) : G X 0 0 0 [(0, vr (some this))] [] A := by
  have hX := hM.1
  unfold f_X0_look at hf
  refine g_aload_n hX dX0_look_0 (lg_at 0 rfl) ?_
  refine g_sipush hX dX0_look_1 (999 : Int32) (by decide) ?_
  refine g_bipush hX dX0_look_4 (40 : Int32) (by decide) ?_
  obtain ⟨k6, hk6, hf⟩ := ob_some hf
  obtain ⟨A6, hc6, hf⟩ := ob_some hf
  refine h_callV hM [vi (999 : Int32), vi (40 : Int32)] dX0_look_6 cs_SlimeNet_322_1 hk6 (m_X0_findFits hc6) rfl rfl rfl rfl ?_
  refine g_iconst hX dX0_look_9 (-1 : Int32) (by decide) ?_
  refine g_istore_n hX dX0_look_10 [(1, vi (-1 : Int32)), (0, vr (some this))] (by decide) rfl ?_
  refine g_aload_n hX dX0_look_11 (lg_at 1 rfl) ?_
  refine g_getI hX hf fs_SlimeNet_319_1 rfl dX0_look_12 (fun v12 hf => ?_)
  refine g_istore_n hX dX0_look_15 [(2, vi v12), (1, vi (-1 : Int32)), (0, vr (some this))] (by decide) rfl ?_
  refine g_iconst hX dX0_look_16 (0 : Int32) (by decide) ?_
  refine g_istore_n hX dX0_look_17 [(3, vi (0 : Int32)), (2, vi v12), (1, vi (-1 : Int32)), (0, vr (some this))] (by decide) rfl ?_
  exact g_pick (w_l_X0_look_18 hM hf hr) [3, 2, 1, 0] rfl

theorem m_X0_look {l : Launch} {this : Nat} {A : AH} {out : Int32 × AH} (h : f_X0_look this A = some out) : MetF l yX0_look (Cond.code yX0_look cX0_look 8 (some Jvm.ClassFile.FieldType.int)) rm_X0_look [vr (some this)] A (r_X0_look A out) :=
  metF_of rfl rfl (Nat.le_of_ble_eq_true rfl) fun X hX hl hR hnm hr h1 h2 hno => w_f_X0_look (X := X) ⟨hX, hR, h1, h2, fun _ => ⟨hnm, hno⟩⟩ h hr

/-! SlimeNetModel.look()I -/
def rm_X4_look : Room := { frames := 5, cells := 0, slots := 0, locals := 136 }
def r_X4_look (_A : AH) (o : Int32 × AH) : (Option AV × AH) ⊕ (Nat × AH) := .inl (some (vi o.1), o.2)
def k_X4_look_10 (X : Ctx) (this : Nat) : ((Int32 × Int32 × Int32 × AH) ⊕ (Int32 × AH)) → Prop
  | .inl (x1, x2, x3, A) => G X 0 0 10 [(0, vr (some this)), (1, vi x1), (2, vi x2), (3, vi x3)] [] A
  | .inr (x1, A) => G X 0 0 152 [(1, vi x1)] [] A

def k_X4_look_19 (X : Ctx) (this : Nat) (x1 : Int32) (x2 : Int32) (x3 : Int32) : ((Int32 × AH) ⊕ (AH)) → Prop
  | .inl (x4, A) => G X 0 0 19 [(0, vr (some this)), (1, vi x1), (2, vi x2), (3, vi x3), (4, vi x4)] [] A
  | .inr A => G X 0 0 44 [(0, vr (some this)), (1, vi x1), (2, vi x2), (3, vi x3)] [] A

def k_X4_look_53 (X : Ctx) (this : Nat) (x1 : Int32) (x2 : Int32) (x3 : Int32) : ((Int32 × Int32 × Int32 × AH) ⊕ (Int32 × Int32 × AH)) → Prop
  | .inl (x4, x5, x6, A) => G X 0 0 53 [(0, vr (some this)), (1, vi x1), (2, vi x2), (3, vi x3), (4, vi x4), (5, vi x5), (6, vi x6)] [] A
  | .inr (x4, x5, A) => G X 0 0 120 [(0, vr (some this)), (1, vi x1), (2, vi x2), (3, vi x3), (4, vi x4), (5, vi x5)] [] A

set_option maxRecDepth 100000 in
theorem w_f_X4_look_114 {X : Ctx} (hM : MX X yX4_look cX4_look 7 "SlimeNetModel" (some Jvm.ClassFile.FieldType.int) rm_X4_look []) {this : Nat} {x1 : Int32} {x2 : Int32} {x3 : Int32} {x4 : Int32} {x5 : Int32} {x6 : Int32} {A : AH} {out : (Int32 × Int32 × Int32 × AH) ⊕ (Int32 × Int32 × AH)} (hf : f_X4_look_114 this x1 x2 x3 x4 x5 x6 A = some out) (K : k_X4_look_53 X this x1 x2 x3 out) : G X 0 0 114 [(0, vr (some this)), (1, vi x1), (2, vi x2), (3, vi x3), (4, vi x4), (5, vi x5), (6, vi x6)] [] A := by
  have hX := hM.1
  unfold f_X4_look_114 at hf
  refine g_iinc hX dX4_look_114 (1 : Int32) (x6 + (1 : Int32)) [(6, vi (x6 + (1 : Int32))), (0, vr (some this)), (1, vi x1), (2, vi x2), (3, vi x3), (4, vi x4), (5, vi x5)] (by decide) rfl (lg_at 6 rfl) (by decide) rfl ?_
  refine g_goto hX dX4_look_117 53 (by decide) ?_
  cases hf
  exact g_pick (show G X _ _ _ _ _ _ from K) [1, 2, 3, 4, 5, 6, 0] rfl

set_option maxRecDepth 100000 in
theorem w_f_X4_look_146 {X : Ctx} (hM : MX X yX4_look cX4_look 7 "SlimeNetModel" (some Jvm.ClassFile.FieldType.int) rm_X4_look []) {this : Nat} {x1 : Int32} {x2 : Int32} {x3 : Int32} {A : AH} {out : (Int32 × Int32 × Int32 × AH) ⊕ (Int32 × AH)} (hf : f_X4_look_146 this x1 x2 x3 A = some out) (K : k_X4_look_10 X this out) : G X 0 0 146 [(0, vr (some this)), (1, vi x1), (2, vi x2), (3, vi x3)] [] A := by
  have hX := hM.1
  unfold f_X4_look_146 at hf
  refine g_iinc hX dX4_look_146 (1 : Int32) (x3 + (1 : Int32)) [(3, vi (x3 + (1 : Int32))), (0, vr (some this)), (1, vi x1), (2, vi x2)] (by decide) rfl (lg_at 3 rfl) (by decide) rfl ?_
  refine g_goto hX dX4_look_149 10 (by decide) ?_
  cases hf
  exact g_pick (show G X _ _ _ _ _ _ from K) [1, 2, 3, 0] rfl

set_option maxRecDepth 100000 in
theorem w_f_X4_look_141 {X : Ctx} (hM : MX X yX4_look cX4_look 7 "SlimeNetModel" (some Jvm.ClassFile.FieldType.int) rm_X4_look []) {this : Nat} {x3 : Int32} {x5 : Int32} {A : AH} {out : (Int32 × Int32 × Int32 × AH) ⊕ (Int32 × AH)} (hf : f_X4_look_141 this x3 x5 A = some out) (K : k_X4_look_10 X this out) : G X 0 0 141 [(0, vr (some this)), (3, vi x3), (5, vi x5)] [] A := by
  have hX := hM.1
  unfold f_X4_look_141 at hf
  refine g_iload_n hX dX4_look_141 (lg_at 1 rfl) ?_
  refine g_istore_n hX dX4_look_142 [(1, vi x3), (0, vr (some this)), (3, vi x3), (5, vi x5)] (by decide) rfl ?_
  refine g_iload hX dX4_look_143 (lg_at 3 rfl) ?_
  refine g_istore_n hX dX4_look_145 [(2, vi x5), (1, vi x3), (0, vr (some this)), (3, vi x3), (5, vi x5)] (by decide) rfl ?_
  exact g_pick (w_f_X4_look_146 hM hf K) [2, 1, 0, 3] rfl

set_option maxRecDepth 100000 in
theorem w_s_X4_look_53 {X : Ctx} (hM : MX X yX4_look cX4_look 7 "SlimeNetModel" (some Jvm.ClassFile.FieldType.int) rm_X4_look []) {this : Nat} {x1 : Int32} {x2 : Int32} {x3 : Int32} {st : Int32 × Int32 × Int32 × AH} {out : (Int32 × Int32 × Int32 × AH) ⊕ (Int32 × Int32 × AH)} (hf : s_X4_look_53 this x1 x2 x3 st = some out) (K : k_X4_look_53 X this x1 x2 x3 out) : k_X4_look_53 X this x1 x2 x3 (.inl st) := by
  have hX := hM.1
  obtain ⟨x4, x5, x6, A⟩ := st
  unfold s_X4_look_53 at hf
  dsimp only at hf
  show G X 0 0 53 [(0, vr (some this)), (1, vi x1), (2, vi x2), (3, vi x3), (4, vi x4), (5, vi x5), (6, vi x6)] [] A
  refine g_iload hX dX4_look_53 (lg_at 6 rfl) ?_
  refine g_sipush hX dX4_look_55 (441 : Int32) (by decide) ?_
  refine g_icmp_ge hX dX4_look_58 120 hf (by decide) (fun c58 hf => ?_) (fun c58 hf => ?_)
  · cases hf
    exact g_pick (show G X _ _ _ _ _ _ from K) [0, 1, 2, 3, 4, 5] rfl
  · refine g_aload_n hX dX4_look_61 (lg_at 0 rfl) ?_
    refine g_iload hX dX4_look_62 (lg_at 6 rfl) ?_
    refine g_sipush hX dX4_look_64 (999 : Int32) (by decide) ?_
    obtain ⟨k67, hk67, hf⟩ := ob_some hf
    obtain ⟨v67, hc67, hf⟩ := ob_some hf
    refine h_callV hM [vi x6, vi (999 : Int32)] dX4_look_67 cs_SlimeNetModel_456_5 hk67 (m_X4_fits hc67) rfl rfl rfl rfl ?_
    refine g_if_ne hX dX4_look_70 76 hf (by decide) (fun c70 hf => ?_) (fun c70 hf => ?_)
    · refine g_iinc hX dX4_look_76 (1 : Int32) (x4 + (1 : Int32)) [(4, vi (x4 + (1 : Int32))), (0, vr (some this)), (1, vi x1), (2, vi x2), (3, vi x3), (5, vi x5), (6, vi x6)] (by decide) rfl (lg_at 4 rfl) (by decide) rfl ?_
      refine g_aload_n hX dX4_look_79 (lg_at 1 rfl) ?_
      refine g_getR hX hf fs_SlimeNetModel_278_5 rfl dX4_look_80 (fun v80 hf => ?_)
      refine g_aload_n hX dX4_look_83 (lg_at 1 rfl) ?_
      refine g_iload hX dX4_look_84 (lg_at 6 rfl) ?_
      refine g_iload_n hX dX4_look_86 (lg_at 4 rfl) ?_
      obtain ⟨k87, hk87, hf⟩ := ob_some hf
      obtain ⟨v87, hc87, hf⟩ := ob_some hf
      refine h_callV hM [vi x6, vi x3] dX4_look_87 cs_SlimeNetModel_444_5 hk87 (m_X4_ownAt hc87) rfl rfl rfl rfl ?_
      refine g_dup2 hX dX4_look_90 rfl rfl ?_
      refine g_iald hX hf dX4_look_91 (fun v91 hf => ?_)
      refine g_iconst hX dX4_look_92 (1 : Int32) (by decide) ?_
      refine g_iadd hX dX4_look_93 ?_
      refine g_iast hX hf dX4_look_94 (fun A94 hf => ?_)
      refine g_iload hX dX4_look_95 (lg_at 5 rfl) ?_
      refine g_aload_n hX dX4_look_97 (lg_at 1 rfl) ?_
      refine g_getR hX hf fs_SlimeNetModel_278_5 rfl dX4_look_98 (fun v98 hf => ?_)
      refine g_aload_n hX dX4_look_101 (lg_at 1 rfl) ?_
      refine g_iload hX dX4_look_102 (lg_at 6 rfl) ?_
      refine g_iload_n hX dX4_look_104 (lg_at 4 rfl) ?_
      obtain ⟨k105, hk105, hf⟩ := ob_some hf
      obtain ⟨v105, hc105, hf⟩ := ob_some hf
      refine h_callV hM [vi x6, vi x3] dX4_look_105 cs_SlimeNetModel_444_5 hk105 (m_X4_ownAt hc105) rfl rfl rfl rfl ?_
      refine g_iald hX hf dX4_look_108 (fun v108 hf => ?_)
      refine g_mmax hM dX4_look_109 (lw_LW q1439) (lw_LW q689) (lw_LW q80) (lw_LW q690) rfl rfl ?_
      refine g_istore hX dX4_look_112 [(5, vi (mxI x5 v108)), (4, vi (x4 + (1 : Int32))), (0, vr (some this)), (1, vi x1), (2, vi x2), (3, vi x3), (6, vi x6)] (by decide) rfl ?_
      exact g_pick (w_f_X4_look_114 hM hf K) [2, 3, 4, 5, 1, 0, 6] rfl
    · refine g_goto hX dX4_look_73 114 (by decide) ?_
      exact g_pick (w_f_X4_look_114 hM hf K) [0, 1, 2, 3, 4, 5, 6] rfl

set_option maxRecDepth 100000 in
theorem w_l_X4_look_53 {X : Ctx} (hM : MX X yX4_look cX4_look 7 "SlimeNetModel" (some Jvm.ClassFile.FieldType.int) rm_X4_look []) {this : Nat} {x1 : Int32} {x2 : Int32} {x3 : Int32} {x4 : Int32} {x5 : Int32} {x6 : Int32} {A : AH} {out : (Int32 × Int32 × Int32 × AH) ⊕ (Int32 × AH)} (hf : l_X4_look_53 this x1 x2 x3 x4 x5 x6 A = some out) (K : k_X4_look_10 X this out) : G X 0 0 53 [(0, vr (some this)), (1, vi x1), (2, vi x2), (3, vi x3), (4, vi x4), (5, vi x5), (6, vi x6)] [] A := by
  have hX := hM.1
  unfold l_X4_look_53 at hf
  obtain ⟨e, hw, hf⟩ := ob_some hf
  refine (whl_ind (k_X4_look_53 X this x1 x2 x3) (fun st o hs K => w_s_X4_look_53 hM hs K) hw ?_ : k_X4_look_53 X this x1 x2 x3 (.inl (x4, x5, x6, A)))
  obtain ⟨x4, x5, A⟩ := e
  dsimp only at hf
  show G X 0 0 120 [(0, vr (some this)), (1, vi x1), (2, vi x2), (3, vi x3), (4, vi x4), (5, vi x5)] [] A
  refine g_iload hX dX4_look_120 (lg_at 5 rfl) ?_
  refine g_iload hX dX4_look_122 (lg_at 4 rfl) ?_
  refine g_icmp_eq hX dX4_look_124 146 hf (by decide) (fun c124 hf => ?_) (fun c124 hf => ?_)
  · exact g_pick (w_f_X4_look_146 hM hf K) [0, 1, 2, 3] rfl
  · refine g_iload_n hX dX4_look_127 (lg_at 1 rfl) ?_
    refine g_iconst hX dX4_look_128 (-1 : Int32) (by decide) ?_
    refine g_icmp_eq hX dX4_look_129 141 hf (by decide) (fun c129 hf => ?_) (fun c129 hf => ?_)
    · exact g_pick (w_f_X4_look_141 hM hf K) [0, 3, 5] rfl
    · refine g_iload hX dX4_look_132 (lg_at 5 rfl) ?_
      refine g_iload_n hX dX4_look_134 (lg_at 2 rfl) ?_
      refine g_icmp_lt hX dX4_look_135 141 hf (by decide) (fun c135 hf => ?_) (fun c135 hf => ?_)
      · exact g_pick (w_f_X4_look_141 hM hf K) [0, 3, 5] rfl
      · refine g_goto hX dX4_look_138 146 (by decide) ?_
        exact g_pick (w_f_X4_look_146 hM hf K) [0, 1, 2, 3] rfl

set_option maxRecDepth 100000 in
theorem w_s_X4_look_19 {X : Ctx} (hM : MX X yX4_look cX4_look 7 "SlimeNetModel" (some Jvm.ClassFile.FieldType.int) rm_X4_look []) {this : Nat} {x1 : Int32} {x2 : Int32} {x3 : Int32} {st : Int32 × AH} {out : (Int32 × AH) ⊕ (AH)} (hf : s_X4_look_19 this x1 x2 x3 st = some out) (K : k_X4_look_19 X this x1 x2 x3 out) : k_X4_look_19 X this x1 x2 x3 (.inl st) := by
  have hX := hM.1
  obtain ⟨x4, A⟩ := st
  unfold s_X4_look_19 at hf
  dsimp only at hf
  show G X 0 0 19 [(0, vr (some this)), (1, vi x1), (2, vi x2), (3, vi x3), (4, vi x4)] [] A
  refine g_iload hX dX4_look_19 (lg_at 4 rfl) ?_
  refine g_iconst hX dX4_look_21 (1 : Int32) (by decide) ?_
  refine g_aload_n hX dX4_look_22 (lg_at 0 rfl) ?_
  refine g_getI hX hf fs_SlimeNetModel_297_5 rfl dX4_look_23 (fun v23 hf => ?_)
  refine g_ishl hX dX4_look_26 ?_
  refine g_icmp_ge hX dX4_look_27 44 hf (by decide) (fun c27 hf => ?_) (fun c27 hf => ?_)
  · cases hf
    exact g_pick (show G X _ _ _ _ _ _ from K) [0, 1, 2, 3] rfl
  · refine g_aload_n hX dX4_look_30 (lg_at 0 rfl) ?_
    refine g_getR hX hf fs_SlimeNetModel_278_5 rfl dX4_look_31 (fun v31 hf => ?_)
    refine g_iload hX dX4_look_34 (lg_at 4 rfl) ?_
    refine g_iconst hX dX4_look_36 (0 : Int32) (by decide) ?_
    refine g_iast hX hf dX4_look_37 (fun A37 hf => ?_)
    refine g_iinc hX dX4_look_38 (1 : Int32) (x4 + (1 : Int32)) [(4, vi (x4 + (1 : Int32))), (0, vr (some this)), (1, vi x1), (2, vi x2), (3, vi x3)] (by decide) rfl (lg_at 4 rfl) (by decide) rfl ?_
    refine g_goto hX dX4_look_41 19 (by decide) ?_
    cases hf
    exact g_pick (show G X _ _ _ _ _ _ from K) [1, 2, 3, 4, 0] rfl

set_option maxRecDepth 100000 in
theorem w_l_X4_look_19 {X : Ctx} (hM : MX X yX4_look cX4_look 7 "SlimeNetModel" (some Jvm.ClassFile.FieldType.int) rm_X4_look []) {this : Nat} {x1 : Int32} {x2 : Int32} {x3 : Int32} {x4 : Int32} {A : AH} {out : (Int32 × Int32 × Int32 × AH) ⊕ (Int32 × AH)} (hf : l_X4_look_19 this x1 x2 x3 x4 A = some out) (K : k_X4_look_10 X this out) : G X 0 0 19 [(0, vr (some this)), (1, vi x1), (2, vi x2), (3, vi x3), (4, vi x4)] [] A := by
  have hX := hM.1
  unfold l_X4_look_19 at hf
  obtain ⟨e, hw, hf⟩ := ob_some hf
  refine (whl_ind (k_X4_look_19 X this x1 x2 x3) (fun st o hs K => w_s_X4_look_19 hM hs K) hw ?_ : k_X4_look_19 X this x1 x2 x3 (.inl (x4, A)))
  revert hf hw; generalize e = A; intro hw hf
  dsimp only at hf
  show G X 0 0 44 [(0, vr (some this)), (1, vi x1), (2, vi x2), (3, vi x3)] [] A
  refine g_iconst hX dX4_look_44 (0 : Int32) (by decide) ?_
  refine g_istore hX dX4_look_45 [(4, vi (0 : Int32)), (0, vr (some this)), (1, vi x1), (2, vi x2), (3, vi x3)] (by decide) rfl ?_
  refine g_iconst hX dX4_look_47 (0 : Int32) (by decide) ?_
  refine g_istore hX dX4_look_48 [(5, vi (0 : Int32)), (4, vi (0 : Int32)), (0, vr (some this)), (1, vi x1), (2, vi x2), (3, vi x3)] (by decide) rfl ?_
  refine g_iconst hX dX4_look_50 (0 : Int32) (by decide) ?_
  refine g_istore hX dX4_look_51 [(6, vi (0 : Int32)), (5, vi (0 : Int32)), (4, vi (0 : Int32)), (0, vr (some this)), (1, vi x1), (2, vi x2), (3, vi x3)] (by decide) rfl ?_
  exact g_pick (w_l_X4_look_53 hM hf K) [3, 4, 5, 6, 2, 1, 0] rfl

set_option maxRecDepth 100000 in
theorem w_s_X4_look_10 {X : Ctx} (hM : MX X yX4_look cX4_look 7 "SlimeNetModel" (some Jvm.ClassFile.FieldType.int) rm_X4_look []) {this : Nat} {st : Int32 × Int32 × Int32 × AH} {out : (Int32 × Int32 × Int32 × AH) ⊕ (Int32 × AH)} (hf : s_X4_look_10 this st = some out) (K : k_X4_look_10 X this out) : k_X4_look_10 X this (.inl st) := by
  have hX := hM.1
  obtain ⟨x1, x2, x3, A⟩ := st
  unfold s_X4_look_10 at hf
  dsimp only at hf
  show G X 0 0 10 [(0, vr (some this)), (1, vi x1), (2, vi x2), (3, vi x3)] [] A
  refine g_iload_n hX dX4_look_10 (lg_at 3 rfl) ?_
  refine g_bipush hX dX4_look_11 (40 : Int32) (by decide) ?_
  refine g_icmp_gt hX dX4_look_13 152 hf (by decide) (fun c13 hf => ?_) (fun c13 hf => ?_)
  · cases hf
    exact g_pick (show G X _ _ _ _ _ _ from K) [1] rfl
  · refine g_iconst hX dX4_look_16 (0 : Int32) (by decide) ?_
    refine g_istore hX dX4_look_17 [(4, vi (0 : Int32)), (0, vr (some this)), (1, vi x1), (2, vi x2), (3, vi x3)] (by decide) rfl ?_
    exact g_pick (w_l_X4_look_19 hM hf K) [1, 2, 3, 4, 0] rfl

set_option maxRecDepth 100000 in
theorem w_l_X4_look_10 {X : Ctx} (hM : MX X yX4_look cX4_look 7 "SlimeNetModel" (some Jvm.ClassFile.FieldType.int) rm_X4_look []) {this : Nat} {x1 : Int32} {x2 : Int32} {x3 : Int32} {A : AH} {out : Int32 × AH} (hf : l_X4_look_10 this x1 x2 x3 A = some out) (hr : c_res X = r_X4_look A out) : G X 0 0 10 [(0, vr (some this)), (1, vi x1), (2, vi x2), (3, vi x3)] [] A := by
  have hX := hM.1
  unfold l_X4_look_10 at hf
  obtain ⟨e, hw, hf⟩ := ob_some hf
  refine (whl_ind (k_X4_look_10 X this) (fun st o hs K => w_s_X4_look_10 hM hs K) hw ?_ : k_X4_look_10 X this (.inl (x1, x2, x3, A)))
  obtain ⟨x1, A⟩ := e
  dsimp only at hf
  show G X 0 0 152 [(1, vi x1)] [] A
  refine g_iload_n hX dX4_look_152 (lg_at 0 rfl) ?_
  cases hf
  exact h_iret hM dX4_look_153 hr rfl rfl

set_option maxRecDepth 100000 in
theorem w_f_X4_look {X : Ctx} (hM : MX X yX4_look cX4_look 7 "SlimeNetModel" (some Jvm.ClassFile.FieldType.int) rm_X4_look []) {this : Nat} {A : AH} {out : Int32 × AH} (hf : f_X4_look this A = some out) (hr : c_res X = r_X4_look A out) : G X 0 0 0 [(0, vr (some this))] [] A := by
  have hX := hM.1
  unfold f_X4_look at hf
  refine g_aload_n hX dX4_look_0 (lg_at 0 rfl) ?_
  obtain ⟨k1, hk1, hf⟩ := ob_some hf
  obtain ⟨A1, hc1, hf⟩ := ob_some hf
  refine h_callV hM [] dX4_look_1 cs_SlimeNetModel_453_5 hk1 (m_X4_findLaws hc1) rfl rfl rfl rfl ?_
  refine g_iconst hX dX4_look_4 (-1 : Int32) (by decide) ?_
  refine g_istore_n hX dX4_look_5 [(1, vi (-1 : Int32)), (0, vr (some this))] (by decide) rfl ?_
  refine g_iconst hX dX4_look_6 (0 : Int32) (by decide) ?_
  refine g_istore_n hX dX4_look_7 [(2, vi (0 : Int32)), (1, vi (-1 : Int32)), (0, vr (some this))] (by decide) rfl ?_
  refine g_iconst hX dX4_look_8 (0 : Int32) (by decide) ?_
  refine g_istore_n hX dX4_look_9 [(3, vi (0 : Int32)), (2, vi (0 : Int32)), (1, vi (-1 : Int32)), (0, vr (some this))] (by decide) rfl ?_
  exact g_pick (w_l_X4_look_10 hM hf hr) [3, 2, 1, 0] rfl

theorem m_X4_look {l : Launch} {this : Nat} {A : AH} {out : Int32 × AH} (h : f_X4_look this A = some out) : MetF l yX4_look (Cond.code yX4_look cX4_look 7 (some Jvm.ClassFile.FieldType.int)) rm_X4_look [vr (some this)] A (r_X4_look A out) :=
  metF_of rfl rfl (Nat.le_of_ble_eq_true rfl) fun X hX hl hR hnm hr h1 h2 hno => w_f_X4_look (X := X) ⟨hX, hR, h1, h2, fun _ => ⟨hnm, hno⟩⟩ h hr

/-! SlimeNet.count(I)I -/
def rm_X0_count : Room := { frames := 1, cells := 0, slots := 0, locals := 24 }
def r_X0_count (A : AH) (o : Int32) : (Option AV × AH) ⊕ (Nat × AH) := .inl (some (vi o), A)
set_option maxRecDepth 100000 in
theorem w_f_X0_count {X : Ctx} (hM : MX X yX0_count cX0_count 2 "SlimeNet" (some Jvm.ClassFile.FieldType.int) rm_X0_count []) {this : Nat} {x1 : Int32} {A : AH} {out : Int32} (hf : f_X0_count this x1 A = some out) (hr : c_res X = r_X0_count A out) : G X 0 0 0 [(0, vr (some this)), (1, vi x1)] [] A := by
  have hX := hM.1
  unfold f_X0_count at hf
  refine g_iload_n hX dX0_count_0 (lg_at 1 rfl) ?_
  by_cases hd : Int32.toInt x1 < 0 ∨ 4 < Int32.toInt x1
  · rw [if_pos hd] at hf
    refine g_tblO hX dX0_count_1 67 hd (by decide) ?_
    refine g_iconst hX dX0_count_67 (-1 : Int32) (by decide) ?_
    cases hf
    exact h_iret hM dX0_count_68 hr rfl rfl
  rw [if_neg hd] at hf
  by_cases hc0 : x1 = (0 : Int32)
  · rw [if_pos hc0] at hf
    refine g_tblI hX dX0_count_1 (0 : Int32) 0 (35) 36 (by decide) (by decide) rfl (by decide) hc0 ?_
    refine g_aload_n hX dX0_count_36 (lg_at 0 rfl) ?_
    refine g_getR hX hf fs_SlimeNet_27_1 rfl dX0_count_37 (fun v37 hf => ?_)
    refine g_getI hX hf fs_SlimeNet_140_3 rfl dX0_count_40 (fun v40 hf => ?_)
    cases hf
    exact h_iret hM dX0_count_43 hr rfl rfl
  rw [if_neg hc0] at hf
  by_cases hc1 : x1 = (1 : Int32)
  · rw [if_pos hc1] at hf
    refine g_tblI hX dX0_count_1 (1 : Int32) 1 (43) 44 (by decide) (by decide) rfl (by decide) hc1 ?_
    refine g_aload_n hX dX0_count_44 (lg_at 0 rfl) ?_
    refine g_getI hX hf fs_SlimeNet_127_1 rfl dX0_count_45 (fun v45 hf => ?_)
    cases hf
    exact h_iret hM dX0_count_48 hr rfl rfl
  rw [if_neg hc1] at hf
  by_cases hc2 : x1 = (2 : Int32)
  · rw [if_pos hc2] at hf
    refine g_tblI hX dX0_count_1 (2 : Int32) 2 (48) 49 (by decide) (by decide) rfl (by decide) hc2 ?_
    refine g_aload_n hX dX0_count_49 (lg_at 0 rfl) ?_
    refine g_getI hX hf fs_SlimeNet_130_1 rfl dX0_count_50 (fun v50 hf => ?_)
    cases hf
    exact h_iret hM dX0_count_53 hr rfl rfl
  rw [if_neg hc2] at hf
  by_cases hc3 : x1 = (3 : Int32)
  · rw [if_pos hc3] at hf
    refine g_tblI hX dX0_count_1 (3 : Int32) 3 (53) 54 (by decide) (by decide) rfl (by decide) hc3 ?_
    refine g_aload_n hX dX0_count_54 (lg_at 0 rfl) ?_
    refine g_getI hX hf fs_SlimeNet_96_1 rfl dX0_count_55 (fun v55 hf => ?_)
    cases hf
    exact h_iret hM dX0_count_58 hr rfl rfl
  rw [if_neg hc3] at hf
  by_cases hc4 : x1 = (4 : Int32)
  · rw [if_pos hc4] at hf
    refine g_tblI hX dX0_count_1 (4 : Int32) 4 (58) 59 (by decide) (by decide) rfl (by decide) hc4 ?_
    refine g_aload_n hX dX0_count_59 (lg_at 0 rfl) ?_
    refine g_getR hX hf fs_SlimeNet_34_1 rfl dX0_count_60 (fun v60 hf => ?_)
    refine g_getI hX hf fs_SlimeNet_234_4 rfl dX0_count_63 (fun v63 hf => ?_)
    cases hf
    exact h_iret hM dX0_count_66 hr rfl rfl
  rw [if_neg hc4] at hf
  cases hf

theorem m_X0_count {l : Launch} {this : Nat} {x1 : Int32} {A : AH} {out : Int32} (h : f_X0_count this x1 A = some out) : MetF l yX0_count (Cond.code yX0_count cX0_count 2 (some Jvm.ClassFile.FieldType.int)) rm_X0_count [vr (some this), vi x1] A (r_X0_count A out) :=
  metF_of rfl rfl (Nat.le_of_ble_eq_true rfl) fun X hX hl hR hnm hr h1 h2 hno => w_f_X0_count (X := X) ⟨hX, hR, h1, h2, fun _ => ⟨hnm, hno⟩⟩ h hr

/-! SlimeNetModel.count(I)I -/
def rm_X4_count : Room := { frames := 1, cells := 0, slots := 0, locals := 24 }
def r_X4_count (A : AH) (o : Int32) : (Option AV × AH) ⊕ (Nat × AH) := .inl (some (vi o), A)
set_option maxRecDepth 100000 in
theorem w_f_X4_count {X : Ctx} (hM : MX X yX4_count cX4_count 2 "SlimeNetModel" (some Jvm.ClassFile.FieldType.int) rm_X4_count []) {this : Nat} {x1 : Int32} {A : AH} {out : Int32} (hf : f_X4_count this x1 A = some out) (hr : c_res X = r_X4_count A out) : G X 0 0 0 [(0, vr (some this)), (1, vi x1)] [] A := by
  have hX := hM.1
  unfold f_X4_count at hf
  refine g_iload_n hX dX4_count_0 (lg_at 1 rfl) ?_
  by_cases hd : Int32.toInt x1 < 0 ∨ 4 < Int32.toInt x1
  · rw [if_pos hd] at hf
    refine g_tblO hX dX4_count_1 61 hd (by decide) ?_
    refine g_iconst hX dX4_count_61 (-1 : Int32) (by decide) ?_
    cases hf
    exact h_iret hM dX4_count_62 hr rfl rfl
  rw [if_neg hd] at hf
  by_cases hc0 : x1 = (0 : Int32)
  · rw [if_pos hc0] at hf
    refine g_tblI hX dX4_count_1 (0 : Int32) 0 (35) 36 (by decide) (by decide) rfl (by decide) hc0 ?_
    refine g_aload_n hX dX4_count_36 (lg_at 0 rfl) ?_
    refine g_getI hX hf fs_SlimeNetModel_306_5 rfl dX4_count_37 (fun v37 hf => ?_)
    cases hf
    exact h_iret hM dX4_count_40 hr rfl rfl
  rw [if_neg hc0] at hf
  by_cases hc1 : x1 = (1 : Int32)
  · rw [if_pos hc1] at hf
    refine g_tblI hX dX4_count_1 (1 : Int32) 1 (40) 41 (by decide) (by decide) rfl (by decide) hc1 ?_
    refine g_aload_n hX dX4_count_41 (lg_at 0 rfl) ?_
    refine g_getI hX hf fs_SlimeNetModel_315_5 rfl dX4_count_42 (fun v42 hf => ?_)
    cases hf
    exact h_iret hM dX4_count_45 hr rfl rfl
  rw [if_neg hc1] at hf
  by_cases hc2 : x1 = (2 : Int32)
  · rw [if_pos hc2] at hf
    refine g_tblI hX dX4_count_1 (2 : Int32) 2 (45) 46 (by decide) (by decide) rfl (by decide) hc2 ?_
    refine g_aload_n hX dX4_count_46 (lg_at 0 rfl) ?_
    refine g_getI hX hf fs_SlimeNetModel_318_5 rfl dX4_count_47 (fun v47 hf => ?_)
    cases hf
    exact h_iret hM dX4_count_50 hr rfl rfl
  rw [if_neg hc2] at hf
  by_cases hc3 : x1 = (3 : Int32)
  · rw [if_pos hc3] at hf
    refine g_tblI hX dX4_count_1 (3 : Int32) 3 (50) 51 (by decide) (by decide) rfl (by decide) hc3 ?_
    refine g_aload_n hX dX4_count_51 (lg_at 0 rfl) ?_
    refine g_getI hX hf fs_SlimeNetModel_284_5 rfl dX4_count_52 (fun v52 hf => ?_)
    cases hf
    exact h_iret hM dX4_count_55 hr rfl rfl
  rw [if_neg hc3] at hf
  by_cases hc4 : x1 = (4 : Int32)
  · rw [if_pos hc4] at hf
    refine g_tblI hX dX4_count_1 (4 : Int32) 4 (55) 56 (by decide) (by decide) rfl (by decide) hc4 ?_
    refine g_aload_n hX dX4_count_56 (lg_at 0 rfl) ?_
    refine g_getI hX hf fs_SlimeNetModel_362_5 rfl dX4_count_57 (fun v57 hf => ?_)
    cases hf
    exact h_iret hM dX4_count_60 hr rfl rfl
  rw [if_neg hc4] at hf
  cases hf

theorem m_X4_count {l : Launch} {this : Nat} {x1 : Int32} {A : AH} {out : Int32} (h : f_X4_count this x1 A = some out) : MetF l yX4_count (Cond.code yX4_count cX4_count 2 (some Jvm.ClassFile.FieldType.int)) rm_X4_count [vr (some this), vi x1] A (r_X4_count A out) :=
  metF_of rfl rfl (Nat.le_of_ble_eq_true rfl) fun X hX hl hR hnm hr h1 h2 hno => w_f_X4_count (X := X) ⟨hX, hR, h1, h2, fun _ => ⟨hnm, hno⟩⟩ h hr

