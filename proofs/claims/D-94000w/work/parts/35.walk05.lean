/-! SlimeNetModel.pass([I[IIII)V -/
def rm_X4_pass : Room := { frames := 3, cells := 0, slots := 0, locals := 86 }
def r_X4_pass (_A : AH) (o : AH) : (Option AV × AH) ⊕ (Nat × AH) := .inl (none, o)
def k_X4_pass_10 (X : Ctx) (this : Nat) (x1 : Option Nat) (x2 : Option Nat) (x4 : Int32) (x5 : Int32) : ((Int32 × AH) ⊕ (AH)) → Prop
  | .inl (x6, A) => G X 0 0 10 [(0, vr (some this)), (1, vr x1), (2, vr x2), (4, vi x4), (5, vi x5), (6, vi x6)] [] A
  | .inr A => G X 0 0 187 [] [] A

set_option maxRecDepth 100000 in
theorem w_f_X4_pass_181 {X : Ctx} (hM : MX X yX4_pass cX4_pass 9 "SlimeNetModel" none rm_X4_pass []) {this : Nat} {x1 : Option Nat} {x2 : Option Nat} {x4 : Int32} {x5 : Int32} {x6 : Int32} {A : AH} {out : (Int32 × AH) ⊕ (AH)} (hf : f_X4_pass_181 this x1 x2 x4 x5 x6 A = some out) (K : k_X4_pass_10 X this x1 x2 x4 x5 out) : G X 0 0 181 [(0, vr (some this)), (1, vr x1), (2, vr x2), (4, vi x4), (5, vi x5), (6, vi x6)] [] A := by
  have hX := hM.1
  unfold f_X4_pass_181 at hf
  refine g_iinc hX dX4_pass_181 (1 : Int32) (x6 + (1 : Int32)) [(6, vi (x6 + (1 : Int32))), (0, vr (some this)), (1, vr x1), (2, vr x2), (4, vi x4), (5, vi x5)] (by decide) rfl (lg_at 5 rfl) (by decide) rfl ?_
  refine g_goto hX dX4_pass_184 10 (by decide) ?_
  cases hf
  exact g_pick (show G X _ _ _ _ _ _ from K) [1, 2, 3, 4, 5, 0] rfl

set_option maxRecDepth 100000 in
theorem w_f_X4_pass_180 {X : Ctx} (hM : MX X yX4_pass cX4_pass 9 "SlimeNetModel" none rm_X4_pass []) {this : Nat} {x1 : Option Nat} {x2 : Option Nat} {x4 : Int32} {x5 : Int32} {x6 : Int32} {t0 : Int32} {t1 : Int32} {t2 : Option Nat} {A : AH} {out : (Int32 × AH) ⊕ (AH)} (hf : f_X4_pass_180 this x1 x2 x4 x5 x6 t0 t1 t2 A = some out) (K : k_X4_pass_10 X this x1 x2 x4 x5 out) : G X 0 0 180 [(0, vr (some this)), (1, vr x1), (2, vr x2), (4, vi x4), (5, vi x5), (6, vi x6)] [vi t0, vi t1, vr t2] A := by
  have hX := hM.1
  unfold f_X4_pass_180 at hf
  refine g_iast hX hf dX4_pass_180 (fun A180 hf => ?_)
  exact g_pick (w_f_X4_pass_181 hM hf K) [0, 1, 2, 3, 4, 5] rfl

set_option maxRecDepth 100000 in
theorem w_f_X4_pass_170 {X : Ctx} (hM : MX X yX4_pass cX4_pass 9 "SlimeNetModel" none rm_X4_pass []) {this : Nat} {x1 : Option Nat} {x2 : Option Nat} {x4 : Int32} {x5 : Int32} {x6 : Int32} {t0 : Int32} {t1 : Option Nat} {A : AH} {out : (Int32 × AH) ⊕ (AH)} (hf : f_X4_pass_170 this x1 x2 x4 x5 x6 t0 t1 A = some out) (K : k_X4_pass_10 X this x1 x2 x4 x5 out) : G X 0 0 170 [(0, vr (some this)), (1, vr x1), (2, vr x2), (4, vi x4), (5, vi x5), (6, vi x6)] [vi t0, vr t1] A := by
  have hX := hM.1
  unfold f_X4_pass_170 at hf
  refine g_iconst hX dX4_pass_170 (0 : Int32) (by decide) ?_
  refine g_aload_n hX dX4_pass_171 (lg_at 2 rfl) ?_
  refine g_iload hX dX4_pass_172 (lg_at 5 rfl) ?_
  refine g_iald hX hf dX4_pass_174 (fun v174 hf => ?_)
  refine g_iconst hX dX4_pass_175 (1 : Int32) (by decide) ?_
  refine g_isub hX dX4_pass_176 ?_
  refine g_mmax hM dX4_pass_177 (lw_LW q1439) (lw_LW q689) (lw_LW q80) (lw_LW q690) rfl rfl ?_
  exact g_pick (w_f_X4_pass_180 hM hf K) [0, 1, 2, 3, 4, 5] rfl

set_option maxRecDepth 100000 in
theorem w_f_X4_pass_119 {X : Ctx} (hM : MX X yX4_pass cX4_pass 9 "SlimeNetModel" none rm_X4_pass []) {this : Nat} {x1 : Option Nat} {x2 : Option Nat} {x4 : Int32} {x5 : Int32} {x6 : Int32} {x7 : Int64} {A : AH} {out : (Int32 × AH) ⊕ (AH)} (hf : f_X4_pass_119 this x1 x2 x4 x5 x6 x7 A = some out) (K : k_X4_pass_10 X this x1 x2 x4 x5 out) : G X 0 0 119 [(0, vr (some this)), (1, vr x1), (2, vr x2), (4, vi x4), (5, vi x5), (6, vi x6), (7, vl x7)] [] A := by
  have hX := hM.1
  unfold f_X4_pass_119 at hf
  refine g_aload_n hX dX4_pass_119 (lg_at 0 rfl) ?_
  refine g_getI hX hf fs_SlimeNetModel_303_5 rfl dX4_pass_120 (fun v120 hf => ?_)
  refine g_iload hX dX4_pass_123 (lg_at 5 rfl) ?_
  refine g_ishr hX dX4_pass_125 ?_
  refine g_iconst hX dX4_pass_126 (1 : Int32) (by decide) ?_
  refine g_iand hX dX4_pass_127 ?_
  refine g_iconst hX dX4_pass_128 (1 : Int32) (by decide) ?_
  refine g_icmp_ne hX dX4_pass_129 181 hf (by decide) (fun c129 hf => ?_) (fun c129 hf => ?_)
  · exact g_pick (w_f_X4_pass_181 hM hf K) [0, 1, 2, 3, 4, 5] rfl
  · refine g_aload_n hX dX4_pass_132 (lg_at 2 rfl) ?_
    refine g_iload hX dX4_pass_133 (lg_at 5 rfl) ?_
    refine g_lload hX dX4_pass_135 (lg_at 6 rfl) ?_
    refine g_lconst hX dX4_pass_137 (0 : Int64) (by decide) ?_
    refine g_lcmp hX dX4_pass_138 ?_
    refine g_if_le hX dX4_pass_139 170 hf (by decide) (fun c139 hf => ?_) (fun c139 hf => ?_)
    · exact g_pick (w_f_X4_pass_170 hM hf K) [0, 1, 2, 3, 4, 5] rfl
    · refine g_lload hX dX4_pass_142 (lg_at 6 rfl) ?_
      refine g_iload hX dX4_pass_144 (lg_at 4 rfl) ?_
      refine g_i2l hX dX4_pass_146 ?_
      refine g_aload_n hX dX4_pass_147 (lg_at 0 rfl) ?_
      refine g_getL hX hf fs_SlimeNetModel_347_5 rfl dX4_pass_148 (fun v148 hf => ?_)
      refine g_lmul hX dX4_pass_151 ?_
      refine g_lcmp hX dX4_pass_152 ?_
      refine g_if_lt hX dX4_pass_153 170 hf (by decide) (fun c153 hf => ?_) (fun c153 hf => ?_)
      · exact g_pick (w_f_X4_pass_170 hM hf K) [0, 1, 2, 3, 4, 5] rfl
      · refine g_bipush hX dX4_pass_156 (9 : Int32) (by decide) ?_
        refine g_aload_n hX dX4_pass_158 (lg_at 2 rfl) ?_
        refine g_iload hX dX4_pass_159 (lg_at 5 rfl) ?_
        refine g_iald hX hf dX4_pass_161 (fun v161 hf => ?_)
        refine g_iconst hX dX4_pass_162 (1 : Int32) (by decide) ?_
        refine g_iadd hX dX4_pass_163 ?_
        refine g_mmin hM dX4_pass_164 (lw_LW q1038) (lw_LW q717) (lw_LW q80) (lw_LW q718) rfl rfl ?_
        refine g_goto hX dX4_pass_167 180 (by decide) ?_
        exact g_pick (w_f_X4_pass_180 hM hf K) [0, 1, 2, 3, 4, 5] rfl

set_option maxRecDepth 100000 in
theorem w_f_X4_pass_56 {X : Ctx} (hM : MX X yX4_pass cX4_pass 9 "SlimeNetModel" none rm_X4_pass []) {this : Nat} {x1 : Option Nat} {x2 : Option Nat} {x4 : Int32} {x5 : Int32} {x6 : Int32} {t0 : Int64} {A : AH} {out : (Int32 × AH) ⊕ (AH)} (hf : f_X4_pass_56 this x1 x2 x4 x5 x6 t0 A = some out) (K : k_X4_pass_10 X this x1 x2 x4 x5 out) : G X 0 0 56 [(0, vr (some this)), (1, vr x1), (2, vr x2), (4, vi x4), (5, vi x5), (6, vi x6)] [vl t0] A := by
  have hX := hM.1
  unfold f_X4_pass_56 at hf
  refine g_lstore hX dX4_pass_56 [(7, vl t0), (0, vr (some this)), (1, vr x1), (2, vr x2), (4, vi x4), (5, vi x5), (6, vi x6)] (by decide) rfl ?_
  refine g_aload_n hX dX4_pass_58 (lg_at 2 rfl) ?_
  refine g_iload hX dX4_pass_59 (lg_at 6 rfl) ?_
  refine g_iald hX hf dX4_pass_61 (fun v61 hf => ?_)
  refine g_if_le hX dX4_pass_62 119 hf (by decide) (fun c62 hf => ?_) (fun c62 hf => ?_)
  · exact g_pick (w_f_X4_pass_119 hM hf K) [1, 2, 3, 4, 5, 6, 0] rfl
  · refine g_lload hX dX4_pass_65 (lg_at 0 rfl) ?_
    refine g_iload hX dX4_pass_67 (lg_at 4 rfl) ?_
    refine g_i2l hX dX4_pass_69 ?_
    refine g_aload_n hX dX4_pass_70 (lg_at 1 rfl) ?_
    refine g_getL hX hf fs_SlimeNetModel_347_5 rfl dX4_pass_71 (fun v71 hf => ?_)
    refine g_lmul hX dX4_pass_74 ?_
    refine g_lcmp hX dX4_pass_75 ?_
    refine g_if_lt hX dX4_pass_76 97 hf (by decide) (fun c76 hf => ?_) (fun c76 hf => ?_)
    · refine g_lload hX dX4_pass_97 (lg_at 0 rfl) ?_
      refine g_iload hX dX4_pass_99 (lg_at 5 rfl) ?_
      refine g_i2l hX dX4_pass_101 ?_
      refine g_aload_n hX dX4_pass_102 (lg_at 1 rfl) ?_
      refine g_getL hX hf fs_SlimeNetModel_347_5 rfl dX4_pass_103 (fun v103 hf => ?_)
      refine g_lmul hX dX4_pass_106 ?_
      refine g_lcmp hX dX4_pass_107 ?_
      refine g_if_ge hX dX4_pass_108 119 hf (by decide) (fun c108 hf => ?_) (fun c108 hf => ?_)
      · exact g_pick (w_f_X4_pass_119 hM hf K) [1, 2, 3, 4, 5, 6, 0] rfl
      · refine g_aload_n hX dX4_pass_111 (lg_at 2 rfl) ?_
        refine g_iload hX dX4_pass_112 (lg_at 6 rfl) ?_
        refine g_dup2 hX dX4_pass_114 rfl rfl ?_
        refine g_iald hX hf dX4_pass_115 (fun v115 hf => ?_)
        refine g_iconst hX dX4_pass_116 (1 : Int32) (by decide) ?_
        refine g_isub hX dX4_pass_117 ?_
        refine g_iast hX hf dX4_pass_118 (fun A118 hf => ?_)
        exact g_pick (w_f_X4_pass_119 hM hf K) [1, 2, 3, 4, 5, 6, 0] rfl
    · refine g_aload_n hX dX4_pass_79 (lg_at 2 rfl) ?_
      refine g_iload hX dX4_pass_80 (lg_at 6 rfl) ?_
      refine g_bipush hX dX4_pass_82 (9 : Int32) (by decide) ?_
      refine g_aload_n hX dX4_pass_84 (lg_at 2 rfl) ?_
      refine g_iload hX dX4_pass_85 (lg_at 6 rfl) ?_
      refine g_iald hX hf dX4_pass_87 (fun v87 hf => ?_)
      refine g_iconst hX dX4_pass_88 (1 : Int32) (by decide) ?_
      refine g_iadd hX dX4_pass_89 ?_
      refine g_mmin hM dX4_pass_90 (lw_LW q1038) (lw_LW q717) (lw_LW q80) (lw_LW q718) rfl rfl ?_
      refine g_iast hX hf dX4_pass_93 (fun A93 hf => ?_)
      refine g_goto hX dX4_pass_94 119 (by decide) ?_
      exact g_pick (w_f_X4_pass_119 hM hf K) [1, 2, 3, 4, 5, 6, 0] rfl

set_option maxRecDepth 100000 in
theorem w_s_X4_pass_10 {X : Ctx} (hM : MX X yX4_pass cX4_pass 9 "SlimeNetModel" none rm_X4_pass []) {this : Nat} {x1 : Option Nat} {x2 : Option Nat} {x4 : Int32} {x5 : Int32} {st : Int32 × AH} {out : (Int32 × AH) ⊕ (AH)} (hf : s_X4_pass_10 this x1 x2 x4 x5 st = some out) (K : k_X4_pass_10 X this x1 x2 x4 x5 out) : k_X4_pass_10 X this x1 x2 x4 x5 (.inl st) := by
  have hX := hM.1
  obtain ⟨x6, A⟩ := st
  unfold s_X4_pass_10 at hf
  dsimp only at hf
  show G X 0 0 10 [(0, vr (some this)), (1, vr x1), (2, vr x2), (4, vi x4), (5, vi x5), (6, vi x6)] [] A
  refine g_iload hX dX4_pass_10 (lg_at 5 rfl) ?_
  refine g_aload_n hX dX4_pass_12 (lg_at 0 rfl) ?_
  refine g_getI hX hf fs_SlimeNetModel_297_5 rfl dX4_pass_13 (fun v13 hf => ?_)
  refine g_icmp_ge hX dX4_pass_16 187 hf (by decide) (fun c16 hf => ?_) (fun c16 hf => ?_)
  · cases hf
    exact g_pick (show G X _ _ _ _ _ _ from K) [] rfl
  · refine g_aload_n hX dX4_pass_19 (lg_at 0 rfl) ?_
    refine g_getR hX hf fs_SlimeNetModel_212_5 rfl dX4_pass_20 (fun v20 hf => ?_)
    refine g_iload hX dX4_pass_23 (lg_at 5 rfl) ?_
    refine g_lald hX hf dX4_pass_25 (fun v25 hf => ?_)
    refine g_lconst hX dX4_pass_26 (0 : Int64) (by decide) ?_
    refine g_lcmp hX dX4_pass_27 ?_
    refine g_if_ge hX dX4_pass_28 45 hf (by decide) (fun c28 hf => ?_) (fun c28 hf => ?_)
    · refine g_ldc2 hX dX4_pass_45 (v := (10 : Int64)) (lw_LW q1368) ?_
      refine g_aload_n hX dX4_pass_48 (lg_at 0 rfl) ?_
      refine g_getR hX hf fs_SlimeNetModel_212_5 rfl dX4_pass_49 (fun v49 hf => ?_)
      refine g_iload hX dX4_pass_52 (lg_at 5 rfl) ?_
      refine g_lald hX hf dX4_pass_54 (fun v54 hf => ?_)
      refine g_lmul hX dX4_pass_55 ?_
      exact g_pick (w_f_X4_pass_56 hM hf K) [0, 1, 2, 3, 4, 5] rfl
    · refine g_ldc2 hX dX4_pass_31 (v := (-10 : Int64)) (lw_LW q1438) ?_
      refine g_aload_n hX dX4_pass_34 (lg_at 0 rfl) ?_
      refine g_getR hX hf fs_SlimeNetModel_212_5 rfl dX4_pass_35 (fun v35 hf => ?_)
      refine g_iload hX dX4_pass_38 (lg_at 5 rfl) ?_
      refine g_lald hX hf dX4_pass_40 (fun v40 hf => ?_)
      refine g_lmul hX dX4_pass_41 ?_
      refine g_goto hX dX4_pass_42 56 (by decide) ?_
      exact g_pick (w_f_X4_pass_56 hM hf K) [0, 1, 2, 3, 4, 5] rfl

set_option maxRecDepth 100000 in
theorem w_l_X4_pass_10 {X : Ctx} (hM : MX X yX4_pass cX4_pass 9 "SlimeNetModel" none rm_X4_pass []) {this : Nat} {x1 : Option Nat} {x2 : Option Nat} {x4 : Int32} {x5 : Int32} {x6 : Int32} {A : AH} {out : AH} (hf : l_X4_pass_10 this x1 x2 x4 x5 x6 A = some out) (hr : c_res X = r_X4_pass A out) : G X 0 0 10 [(0, vr (some this)), (1, vr x1), (2, vr x2), (4, vi x4), (5, vi x5), (6, vi x6)] [] A := by
  have hX := hM.1
  unfold l_X4_pass_10 at hf
  obtain ⟨e, hw, hf⟩ := ob_some hf
  refine (whl_ind (k_X4_pass_10 X this x1 x2 x4 x5) (fun st o hs K => w_s_X4_pass_10 hM hs K) hw ?_ : k_X4_pass_10 X this x1 x2 x4 x5 (.inl (x6, A)))
  revert hf hw; generalize e = A; intro hw hf
  dsimp only at hf
  show G X 0 0 187 [] [] A
  cases hf
  exact h_vret hM dX4_pass_187 hr rfl rfl

set_option maxRecDepth 100000 in
theorem w_f_X4_pass {X : Ctx} (hM : MX X yX4_pass cX4_pass 9 "SlimeNetModel" none rm_X4_pass []) {this : Nat} {x1 : Option Nat} {x2 : Option Nat} {x3 : Int32} {x4 : Int32} {x5 : Int32} {A : AH} {out : AH} (hf : f_X4_pass this x1 x2 x3 x4 x5 A = some out) (hr : c_res X = r_X4_pass A out) : G X 0 0 0 [(0, vr (some this)), (1, vr x1), (2, vr x2), (3, vi x3), (4, vi x4), (5, vi x5)] [] A := by
  have hX := hM.1
  unfold f_X4_pass at hf
  refine g_aload_n hX dX4_pass_0 (lg_at 0 rfl) ?_
  refine g_aload_n hX dX4_pass_1 (lg_at 1 rfl) ?_
  refine g_aload_n hX dX4_pass_2 (lg_at 2 rfl) ?_
  refine g_iload_n hX dX4_pass_3 (lg_at 3 rfl) ?_
  obtain ⟨k4, hk4, hf⟩ := ob_some hf
  obtain ⟨A4, hc4, hf⟩ := ob_some hf
  refine h_callV hM [vr x1, vr x2, vi x3] dX4_pass_4 cs_SlimeNetModel_370_5 hk4 (m_X4_findFlows hc4) rfl rfl rfl rfl ?_
  refine g_iconst hX dX4_pass_7 (0 : Int32) (by decide) ?_
  refine g_istore hX dX4_pass_8 [(6, vi (0 : Int32)), (0, vr (some this)), (1, vr x1), (2, vr x2), (3, vi x3), (4, vi x4), (5, vi x5)] (by decide) rfl ?_
  exact g_pick (w_l_X4_pass_10 hM hf hr) [1, 2, 3, 5, 6, 0] rfl

theorem m_X4_pass {l : Launch} {this : Nat} {x1 : Option Nat} {x2 : Option Nat} {x3 : Int32} {x4 : Int32} {x5 : Int32} {A : AH} {out : AH} (h : f_X4_pass this x1 x2 x3 x4 x5 A = some out) : MetF l yX4_pass (Cond.code yX4_pass cX4_pass 9 none) rm_X4_pass [vr (some this), vr x1, vr x2, vi x3, vi x4, vi x5] A (r_X4_pass A out) :=
  metF_of rfl rfl (Nat.le_of_ble_eq_true rfl) fun X hX hl hR hnm hr h1 h2 hno => w_f_X4_pass (X := X) ⟨hX, hR, h1, h2, fun _ => ⟨hnm, hno⟩⟩ h hr

/-! SlimeNetModel.goOn(I)V -/
def rm_X4_goOn : Room := { frames := 4, cells := 0, slots := 0, locals := 114 }
def r_X4_goOn (_A : AH) (o : AH) : (Option AV × AH) ⊕ (Nat × AH) := .inl (none, o)
def k_X4_goOn_2 (X : Ctx) (this : Nat) (x1 : Int32) : ((Int32 × AH) ⊕ (AH)) → Prop
  | .inl (x2, A) => G X 0 0 2 [(0, vr (some this)), (1, vi x1), (2, vi x2)] [] A
  | .inr A => G X 0 0 47 [] [] A

set_option maxRecDepth 100000 in
theorem w_s_X4_goOn_2 {X : Ctx} (hM : MX X yX4_goOn cX4_goOn 3 "SlimeNetModel" none rm_X4_goOn []) {this : Nat} {x1 : Int32} {st : Int32 × AH} {out : (Int32 × AH) ⊕ (AH)} (hf : s_X4_goOn_2 this x1 st = some out) (K : k_X4_goOn_2 X this x1 out) : k_X4_goOn_2 X this x1 (.inl st) := by
  have hX := hM.1
  obtain ⟨x2, A⟩ := st
  unfold s_X4_goOn_2 at hf
  dsimp only at hf
  show G X 0 0 2 [(0, vr (some this)), (1, vi x1), (2, vi x2)] [] A
  refine g_iload_n hX dX4_goOn_2 (lg_at 2 rfl) ?_
  refine g_iload_n hX dX4_goOn_3 (lg_at 1 rfl) ?_
  refine g_icmp_ge hX dX4_goOn_4 47 hf (by decide) (fun c4 hf => ?_) (fun c4 hf => ?_)
  · cases hf
    exact g_pick (show G X _ _ _ _ _ _ from K) [] rfl
  · refine g_aload_n hX dX4_goOn_7 (lg_at 0 rfl) ?_
    refine g_aload_n hX dX4_goOn_8 (lg_at 0 rfl) ?_
    refine g_getR hX hf fs_SlimeNetModel_215_5 rfl dX4_goOn_9 (fun v9 hf => ?_)
    refine g_aload_n hX dX4_goOn_12 (lg_at 0 rfl) ?_
    refine g_getR hX hf fs_SlimeNetModel_217_5 rfl dX4_goOn_13 (fun v13 hf => ?_)
    refine g_aload_n hX dX4_goOn_16 (lg_at 0 rfl) ?_
    refine g_getI hX hf fs_SlimeNetModel_362_5 rfl dX4_goOn_17 (fun v17 hf => ?_)
    refine g_aload_n hX dX4_goOn_20 (lg_at 0 rfl) ?_
    refine g_getI hX hf fs_SlimeNetModel_177_5 rfl dX4_goOn_21 (fun v21 hf => ?_)
    refine g_aload_n hX dX4_goOn_24 (lg_at 0 rfl) ?_
    refine g_getI hX hf fs_SlimeNetModel_180_5 rfl dX4_goOn_25 (fun v25 hf => ?_)
    obtain ⟨k28, hk28, hf⟩ := ob_some hf
    obtain ⟨A28, hc28, hf⟩ := ob_some hf
    refine h_callV hM [vr v9, vr v13, vi v17, vi v21, vi v25] dX4_goOn_28 cs_SlimeNetModel_383_5 hk28 (m_X4_pass hc28) rfl rfl rfl rfl ?_
    refine g_aload_n hX dX4_goOn_31 (lg_at 0 rfl) ?_
    refine g_dup hX dX4_goOn_32 rfl ?_
    refine g_getI hX hf fs_SlimeNetModel_362_5 rfl dX4_goOn_33 (fun v33 hf => ?_)
    refine g_iconst hX dX4_goOn_36 (1 : Int32) (by decide) ?_
    refine g_iadd hX dX4_goOn_37 ?_
    refine g_putI hX hf fs_SlimeNetModel_362_5 ⟨_, rfl, Or.inl rfl⟩ rfl dX4_goOn_38 (fun A38 hf => ?_)
    refine g_iinc hX dX4_goOn_41 (1 : Int32) (x2 + (1 : Int32)) [(2, vi (x2 + (1 : Int32))), (0, vr (some this)), (1, vi x1)] (by decide) rfl (lg_at 2 rfl) (by decide) rfl ?_
    refine g_goto hX dX4_goOn_44 2 (by decide) ?_
    cases hf
    exact g_pick (show G X _ _ _ _ _ _ from K) [1, 2, 0] rfl

set_option maxRecDepth 100000 in
theorem w_l_X4_goOn_2 {X : Ctx} (hM : MX X yX4_goOn cX4_goOn 3 "SlimeNetModel" none rm_X4_goOn []) {this : Nat} {x1 : Int32} {x2 : Int32} {A : AH} {out : AH} (hf : l_X4_goOn_2 this x1 x2 A = some out) (hr : c_res X = r_X4_goOn A out) : G X 0 0 2 [(0, vr (some this)), (1, vi x1), (2, vi x2)] [] A := by
  have hX := hM.1
  unfold l_X4_goOn_2 at hf
  obtain ⟨e, hw, hf⟩ := ob_some hf
  refine (whl_ind (k_X4_goOn_2 X this x1) (fun st o hs K => w_s_X4_goOn_2 hM hs K) hw ?_ : k_X4_goOn_2 X this x1 (.inl (x2, A)))
  revert hf hw; generalize e = A; intro hw hf
  dsimp only at hf
  show G X 0 0 47 [] [] A
  cases hf
  exact h_vret hM dX4_goOn_47 hr rfl rfl

set_option maxRecDepth 100000 in
theorem w_f_X4_goOn {X : Ctx} (hM : MX X yX4_goOn cX4_goOn 3 "SlimeNetModel" none rm_X4_goOn []) {this : Nat} {x1 : Int32} {A : AH} {out : AH} (hf : f_X4_goOn this x1 A = some out) (hr : c_res X = r_X4_goOn A out) : G X 0 0 0 [(0, vr (some this)), (1, vi x1)] [] A := by
  have hX := hM.1
  unfold f_X4_goOn at hf
  refine g_iconst hX dX4_goOn_0 (0 : Int32) (by decide) ?_
  refine g_istore_n hX dX4_goOn_1 [(2, vi (0 : Int32)), (0, vr (some this)), (1, vi x1)] (by decide) rfl ?_
  exact g_pick (w_l_X4_goOn_2 hM hf hr) [1, 2, 0] rfl

theorem m_X4_goOn {l : Launch} {this : Nat} {x1 : Int32} {A : AH} {out : AH} (h : f_X4_goOn this x1 A = some out) : MetF l yX4_goOn (Cond.code yX4_goOn cX4_goOn 3 none) rm_X4_goOn [vr (some this), vi x1] A (r_X4_goOn A out) :=
  metF_of rfl rfl (Nat.le_of_ble_eq_true rfl) fun X hX hl hR hnm hr h1 h2 hno => w_f_X4_goOn (X := X) ⟨hX, hR, h1, h2, fun _ => ⟨hnm, hno⟩⟩ h hr

/-! SlimeNetModel.hours(I)I -/
def rm_X4_hours : Room := { frames := 5, cells := 0, slots := 0, locals := 136 }
def r_X4_hours (_A : AH) (o : Int32 × AH) : (Option AV × AH) ⊕ (Nat × AH) := .inl (some (vi o.1), o.2)
set_option maxRecDepth 100000 in
theorem w_f_X4_hours {X : Ctx} (hM : MX X yX4_hours cX4_hours 2 "SlimeNetModel" (some Jvm.ClassFile.FieldType.int) rm_X4_hours []) {this : Nat} {x1 : Int32} {A : AH} {out : Int32 × AH} (hf : f_X4_hours this x1 A = some out) (hr : c_res X = r_X4_hours A out) : G X 0 0 0 [(0, vr (some this)), (1, vi x1)] [] A := by
  have hX := hM.1
  unfold f_X4_hours at hf
  refine g_iload_n hX dX4_hours_0 (lg_at 1 rfl) ?_
  refine g_i2l hX dX4_hours_1 ?_
  refine g_lconst hX dX4_hours_2 (0 : Int64) (by decide) ?_
  refine g_ldc2 hX dX4_hours_3 (v := (500 : Int64)) (lw_LW q1429) ?_
  obtain ⟨v6, hc6, hf⟩ := ob_some hf
  refine h_callS hM [vl (Int32.toInt64 x1), vl (0 : Int64), vl (500 : Int64)] dX4_hours_6 cs_SlimeNetModel_52_s (m_X4_in hc6) rfl rfl rfl rfl ?_
  refine g_if_ne hX dX4_hours_9 15 hf (by decide) (fun c9 hf => ?_) (fun c9 hf => ?_)
  · refine g_aload_n hX dX4_hours_15 (lg_at 0 rfl) ?_
    refine g_iload_n hX dX4_hours_16 (lg_at 1 rfl) ?_
    obtain ⟨k17, hk17, hf⟩ := ob_some hf
    obtain ⟨A17, hc17, hf⟩ := ob_some hf
    refine h_callV hM [vi x1] dX4_hours_17 cs_SlimeNetModel_389_5 hk17 (m_X4_goOn hc17) rfl rfl rfl rfl ?_
    refine g_aload_n hX dX4_hours_20 (lg_at 0 rfl) ?_
    refine g_getI hX hf fs_SlimeNetModel_362_5 rfl dX4_hours_21 (fun v21 hf => ?_)
    cases hf
    exact h_iret hM dX4_hours_24 hr rfl rfl
  · refine g_bipush hX dX4_hours_12 (-2 : Int32) (by decide) ?_
    cases hf
    exact h_iret hM dX4_hours_14 hr rfl rfl

theorem m_X4_hours {l : Launch} {this : Nat} {x1 : Int32} {A : AH} {out : Int32 × AH} (h : f_X4_hours this x1 A = some out) : MetF l yX4_hours (Cond.code yX4_hours cX4_hours 2 (some Jvm.ClassFile.FieldType.int)) rm_X4_hours [vr (some this), vi x1] A (r_X4_hours A out) :=
  metF_of rfl rfl (Nat.le_of_ble_eq_true rfl) fun X hX hl hR hnm hr h1 h2 hno => w_f_X4_hours (X := X) ⟨hX, hR, h1, h2, fun _ => ⟨hnm, hno⟩⟩ h hr

/-! SlimeNet.note(I)V -/
def rm_X0_note : Room := { frames := 1, cells := 0, slots := 0, locals := 24 }
def r_X0_note (_A : AH) (o : AH) : (Option AV × AH) ⊕ (Nat × AH) := .inl (none, o)
def k_X0_note_2 (X : Ctx) (this : Nat) (x1 : Int32) : ((Int32 × AH) ⊕ (AH)) → Prop
  | .inl (x2, A) => G X 0 0 2 [(0, vr (some this)), (1, vi x1), (2, vi x2)] [] A
  | .inr A => G X 0 0 57 [] [] A

set_option maxRecDepth 100000 in
theorem w_s_X0_note_2 {X : Ctx} (hM : MX X yX0_note cX0_note 3 "SlimeNet" none rm_X0_note []) {this : Nat} {x1 : Int32} {st : Int32 × AH} {out : (Int32 × AH) ⊕ (AH)} (hf : s_X0_note_2 this x1 st = some out) (K : k_X0_note_2 X this x1 out) : k_X0_note_2 X this x1 (.inl st) := by
  have hX := hM.1
  obtain ⟨x2, A⟩ := st
  unfold s_X0_note_2 at hf
  dsimp only at hf
  show G X 0 0 2 [(0, vr (some this)), (1, vi x1), (2, vi x2)] [] A
  refine g_iload_n hX dX0_note_2 (lg_at 2 rfl) ?_
  refine g_bipush hX dX0_note_3 (10 : Int32) (by decide) ?_
  refine g_icmp_ge hX dX0_note_5 57 hf (by decide) (fun c5 hf => ?_) (fun c5 hf => ?_)
  · cases hf
    exact g_pick (show G X _ _ _ _ _ _ from K) [] rfl
  · refine g_aload_n hX dX0_note_8 (lg_at 0 rfl) ?_
    refine g_getR hX hf fs_SlimeNet_52_1 rfl dX0_note_9 (fun v9 hf => ?_)
    refine g_bipush hX dX0_note_12 (20 : Int32) (by decide) ?_
    refine g_iload_n hX dX0_note_14 (lg_at 1 rfl) ?_
    refine g_imul hX dX0_note_15 ?_
    refine g_iload_n hX dX0_note_16 (lg_at 2 rfl) ?_
    refine g_iadd hX dX0_note_17 ?_
    refine g_aload_n hX dX0_note_18 (lg_at 0 rfl) ?_
    refine g_getR hX hf fs_SlimeNet_34_1 rfl dX0_note_19 (fun v19 hf => ?_)
    refine g_getR hX hf fs_SlimeNet_203_4 rfl dX0_note_22 (fun v22 hf => ?_)
    refine g_iload_n hX dX0_note_25 (lg_at 2 rfl) ?_
    refine g_iald hX hf dX0_note_26 (fun v26 hf => ?_)
    refine g_iast hX hf dX0_note_27 (fun A27 hf => ?_)
    refine g_aload_n hX dX0_note_28 (lg_at 0 rfl) ?_
    refine g_getR hX hf fs_SlimeNet_52_1 rfl dX0_note_29 (fun v29 hf => ?_)
    refine g_bipush hX dX0_note_32 (20 : Int32) (by decide) ?_
    refine g_iload_n hX dX0_note_34 (lg_at 1 rfl) ?_
    refine g_imul hX dX0_note_35 ?_
    refine g_bipush hX dX0_note_36 (10 : Int32) (by decide) ?_
    refine g_iadd hX dX0_note_38 ?_
    refine g_iload_n hX dX0_note_39 (lg_at 2 rfl) ?_
    refine g_iadd hX dX0_note_40 ?_
    refine g_aload_n hX dX0_note_41 (lg_at 0 rfl) ?_
    refine g_getR hX hf fs_SlimeNet_34_1 rfl dX0_note_42 (fun v42 hf => ?_)
    refine g_getR hX hf fs_SlimeNet_206_4 rfl dX0_note_45 (fun v45 hf => ?_)
    refine g_iload_n hX dX0_note_48 (lg_at 2 rfl) ?_
    refine g_iald hX hf dX0_note_49 (fun v49 hf => ?_)
    refine g_iast hX hf dX0_note_50 (fun A50 hf => ?_)
    refine g_iinc hX dX0_note_51 (1 : Int32) (x2 + (1 : Int32)) [(2, vi (x2 + (1 : Int32))), (0, vr (some this)), (1, vi x1)] (by decide) rfl (lg_at 2 rfl) (by decide) rfl ?_
    refine g_goto hX dX0_note_54 2 (by decide) ?_
    cases hf
    exact g_pick (show G X _ _ _ _ _ _ from K) [1, 2, 0] rfl

set_option maxRecDepth 100000 in
theorem w_l_X0_note_2 {X : Ctx} (hM : MX X yX0_note cX0_note 3 "SlimeNet" none rm_X0_note []) {this : Nat} {x1 : Int32} {x2 : Int32} {A : AH} {out : AH} (hf : l_X0_note_2 this x1 x2 A = some out) (hr : c_res X = r_X0_note A out) : G X 0 0 2 [(0, vr (some this)), (1, vi x1), (2, vi x2)] [] A := by
  have hX := hM.1
  unfold l_X0_note_2 at hf
  obtain ⟨e, hw, hf⟩ := ob_some hf
  refine (whl_ind (k_X0_note_2 X this x1) (fun st o hs K => w_s_X0_note_2 hM hs K) hw ?_ : k_X0_note_2 X this x1 (.inl (x2, A)))
  revert hf hw; generalize e = A; intro hw hf
  dsimp only at hf
  show G X 0 0 57 [] [] A
  cases hf
  exact h_vret hM dX0_note_57 hr rfl rfl

set_option maxRecDepth 100000 in
theorem w_f_X0_note {X : Ctx} (hM : MX X yX0_note cX0_note 3 "SlimeNet" none rm_X0_note []) {this : Nat} {x1 : Int32} {A : AH} {out : AH} (hf : f_X0_note this x1 A = some out) (hr : c_res X = r_X0_note A out) : G X 0 0 0 [(0, vr (some this)), (1, vi x1)] [] A := by
  have hX := hM.1
  unfold f_X0_note at hf
  refine g_iconst hX dX0_note_0 (0 : Int32) (by decide) ?_
  refine g_istore_n hX dX0_note_1 [(2, vi (0 : Int32)), (0, vr (some this)), (1, vi x1)] (by decide) rfl ?_
  exact g_pick (w_l_X0_note_2 hM hf hr) [1, 2, 0] rfl

theorem m_X0_note {l : Launch} {this : Nat} {x1 : Int32} {A : AH} {out : AH} (h : f_X0_note this x1 A = some out) : MetF l yX0_note (Cond.code yX0_note cX0_note 3 none) rm_X0_note [vr (some this), vi x1] A (r_X0_note A out) :=
  metF_of rfl rfl (Nat.le_of_ble_eq_true rfl) fun X hX hl hR hnm hr h1 h2 hno => w_f_X0_note (X := X) ⟨hX, hR, h1, h2, fun _ => ⟨hnm, hno⟩⟩ h hr

/-! SlimeNet$Slime.liveRound()V -/
def rm_X3_liveRound : Room := { frames := 14, cells := 0, slots := 0, locals := 1127 }
def r_X3_liveRound (_A : AH) (o : AH) : (Option AV × AH) ⊕ (Nat × AH) := .inl (none, o)
def k_X3_liveRound_12 (X : Ctx) (this : Nat) : ((Int32 × AH) ⊕ (AH)) → Prop
  | .inl (x1, A) => G X 0 0 12 [(0, vr (some this)), (1, vi x1)] [] A
  | .inr A => G X 0 0 26 [] [] A

set_option maxRecDepth 100000 in
theorem w_s_X3_liveRound_12 {X : Ctx} (hM : MX X yX3_liveRound cX3_liveRound 2 "SlimeNet$Slime" none rm_X3_liveRound []) {this : Nat} {st : Int32 × AH} {out : (Int32 × AH) ⊕ (AH)} (hf : s_X3_liveRound_12 this st = some out) (K : k_X3_liveRound_12 X this out) : k_X3_liveRound_12 X this (.inl st) := by
  have hX := hM.1
  obtain ⟨x1, A⟩ := st
  unfold s_X3_liveRound_12 at hf
  dsimp only at hf
  show G X 0 0 12 [(0, vr (some this)), (1, vi x1)] [] A
  refine g_iload_n hX dX3_liveRound_12 (lg_at 1 rfl) ?_
  refine g_if_le hX dX3_liveRound_13 26 hf (by decide) (fun c13 hf => ?_) (fun c13 hf => ?_)
  · cases hf
    exact g_pick (show G X _ _ _ _ _ _ from K) [] rfl
  · refine g_aload_n hX dX3_liveRound_16 (lg_at 0 rfl) ?_
    obtain ⟨k17, hk17, hf⟩ := ob_some hf
    obtain ⟨A17, hc17, hf⟩ := ob_some hf
    refine h_callV hM [] dX3_liveRound_17 cs_SlimeNet_Slime_157_4 hk17 (m_X3_live hc17) rfl rfl rfl rfl ?_
    refine g_iinc hX dX3_liveRound_20 (-1 : Int32) (x1 + (-1 : Int32)) [(1, vi (x1 + (-1 : Int32))), (0, vr (some this))] (by decide) rfl (lg_at 1 rfl) (by decide) rfl ?_
    refine g_goto hX dX3_liveRound_23 12 (by decide) ?_
    cases hf
    exact g_pick (show G X _ _ _ _ _ _ from K) [1, 0] rfl

set_option maxRecDepth 100000 in
theorem w_l_X3_liveRound_12 {X : Ctx} (hM : MX X yX3_liveRound cX3_liveRound 2 "SlimeNet$Slime" none rm_X3_liveRound []) {this : Nat} {x1 : Int32} {A : AH} {out : AH} (hf : l_X3_liveRound_12 this x1 A = some out) (hr : c_res X = r_X3_liveRound A out) : G X 0 0 12 [(0, vr (some this)), (1, vi x1)] [] A := by
  have hX := hM.1
  unfold l_X3_liveRound_12 at hf
  obtain ⟨e, hw, hf⟩ := ob_some hf
  refine (whl_ind (k_X3_liveRound_12 X this) (fun st o hs K => w_s_X3_liveRound_12 hM hs K) hw ?_ : k_X3_liveRound_12 X this (.inl (x1, A)))
  revert hf hw; generalize e = A; intro hw hf
  dsimp only at hf
  show G X 0 0 26 [] [] A
  cases hf
  exact h_vret hM dX3_liveRound_26 hr rfl rfl

set_option maxRecDepth 100000 in
theorem w_f_X3_liveRound {X : Ctx} (hM : MX X yX3_liveRound cX3_liveRound 2 "SlimeNet$Slime" none rm_X3_liveRound []) {this : Nat} {A : AH} {out : AH} (hf : f_X3_liveRound this A = some out) (hr : c_res X = r_X3_liveRound A out) : G X 0 0 0 [(0, vr (some this))] [] A := by
  have hX := hM.1
  unfold f_X3_liveRound at hf
  refine g_iconst hX dX3_liveRound_0 (1 : Int32) (by decide) ?_
  refine g_aload_n hX dX3_liveRound_1 (lg_at 0 rfl) ?_
  refine g_getR hX hf fs_SlimeNet_Slime_34_4 rfl dX3_liveRound_2 (fun v2 hf => ?_)
  obtain ⟨k5, hk5, hf⟩ := ob_some hf
  obtain ⟨v5, hc5, hf⟩ := ob_some hf
  refine h_callV hM [] dX3_liveRound_5 cs_SlimeNet_Slime_100_3 hk5 (m_X2_pairs hc5) rfl rfl rfl rfl ?_
  refine g_mmax hM dX3_liveRound_8 (lw_LW q862) (lw_LW q689) (lw_LW q80) (lw_LW q690) rfl rfl ?_
  refine g_istore_n hX dX3_liveRound_11 [(1, vi (mxI (1 : Int32) v5)), (0, vr (some this))] (by decide) rfl ?_
  exact g_pick (w_l_X3_liveRound_12 hM hf hr) [1, 0] rfl

theorem m_X3_liveRound {l : Launch} {this : Nat} {A : AH} {out : AH} (h : f_X3_liveRound this A = some out) : MetF l yX3_liveRound (Cond.code yX3_liveRound cX3_liveRound 2 none) rm_X3_liveRound [vr (some this)] A (r_X3_liveRound A out) :=
  metF_of rfl rfl (Nat.le_of_ble_eq_true rfl) fun X hX hl hR hnm hr h1 h2 hno => w_f_X3_liveRound (X := X) ⟨hX, hR, h1, h2, fun _ => ⟨hnm, hno⟩⟩ h hr

/-! SlimeNet.isAsThen(II)Z -/
def rm_X0_isAsThen : Room := { frames := 1, cells := 0, slots := 0, locals := 24 }
def r_X0_isAsThen (A : AH) (o : Int32) : (Option AV × AH) ⊕ (Nat × AH) := .inl (some (vi o), A)
def k_X0_isAsThen_2 (X : Ctx) (this : Nat) (x1 : Int32) (x2 : Int32) (A : AH) : ((Int32) ⊕ ((Unit) ⊕ (Unit))) → Prop
  | .inl x3 => G X 0 0 2 [(0, vr (some this)), (1, vi x1), (2, vi x2), (3, vi x3)] [] A
  | .inr (.inl ()) => G X 0 0 33 [] [] A
  | .inr (.inr ()) => G X 0 0 41 [] [] A

set_option maxRecDepth 100000 in
theorem w_s_X0_isAsThen_2 {X : Ctx} (hM : MX X yX0_isAsThen cX0_isAsThen 4 "SlimeNet" (some Jvm.ClassFile.FieldType.boolean) rm_X0_isAsThen []) {this : Nat} {x1 : Int32} {x2 : Int32} {A : AH} {st : Int32} {out : (Int32) ⊕ ((Unit) ⊕ (Unit))} (hf : s_X0_isAsThen_2 this x1 x2 A st = some out) (K : k_X0_isAsThen_2 X this x1 x2 A out) : k_X0_isAsThen_2 X this x1 x2 A (.inl st) := by
  have hX := hM.1
  revert hf; generalize st = x3; intro hf
  unfold s_X0_isAsThen_2 at hf
  dsimp only at hf
  show G X 0 0 2 [(0, vr (some this)), (1, vi x1), (2, vi x2), (3, vi x3)] [] A
  refine g_iload_n hX dX0_isAsThen_2 (lg_at 3 rfl) ?_
  refine g_bipush hX dX0_isAsThen_3 (20 : Int32) (by decide) ?_
  refine g_icmp_ge hX dX0_isAsThen_5 41 hf (by decide) (fun c5 hf => ?_) (fun c5 hf => ?_)
  · cases hf
    exact g_pick (show G X _ _ _ _ _ _ from K) [] rfl
  · refine g_aload_n hX dX0_isAsThen_8 (lg_at 0 rfl) ?_
    refine g_getR hX hf fs_SlimeNet_52_1 rfl dX0_isAsThen_9 (fun v9 hf => ?_)
    refine g_bipush hX dX0_isAsThen_12 (20 : Int32) (by decide) ?_
    refine g_iload_n hX dX0_isAsThen_14 (lg_at 1 rfl) ?_
    refine g_imul hX dX0_isAsThen_15 ?_
    refine g_iload_n hX dX0_isAsThen_16 (lg_at 3 rfl) ?_
    refine g_iadd hX dX0_isAsThen_17 ?_
    refine g_iald hX hf dX0_isAsThen_18 (fun v18 hf => ?_)
    refine g_aload_n hX dX0_isAsThen_19 (lg_at 0 rfl) ?_
    refine g_getR hX hf fs_SlimeNet_52_1 rfl dX0_isAsThen_20 (fun v20 hf => ?_)
    refine g_bipush hX dX0_isAsThen_23 (20 : Int32) (by decide) ?_
    refine g_iload_n hX dX0_isAsThen_25 (lg_at 2 rfl) ?_
    refine g_imul hX dX0_isAsThen_26 ?_
    refine g_iload_n hX dX0_isAsThen_27 (lg_at 3 rfl) ?_
    refine g_iadd hX dX0_isAsThen_28 ?_
    refine g_iald hX hf dX0_isAsThen_29 (fun v29 hf => ?_)
    refine g_icmp_eq hX dX0_isAsThen_30 35 hf (by decide) (fun c30 hf => ?_) (fun c30 hf => ?_)
    · refine g_iinc hX dX0_isAsThen_35 (1 : Int32) (x3 + (1 : Int32)) [(3, vi (x3 + (1 : Int32))), (0, vr (some this)), (1, vi x1), (2, vi x2)] (by decide) rfl (lg_at 3 rfl) (by decide) rfl ?_
      refine g_goto hX dX0_isAsThen_38 2 (by decide) ?_
      cases hf
      exact g_pick (show G X _ _ _ _ _ _ from K) [1, 2, 3, 0] rfl
    · cases hf
      exact g_pick (show G X _ _ _ _ _ _ from K) [] rfl

set_option maxRecDepth 100000 in
theorem w_l_X0_isAsThen_2 {X : Ctx} (hM : MX X yX0_isAsThen cX0_isAsThen 4 "SlimeNet" (some Jvm.ClassFile.FieldType.boolean) rm_X0_isAsThen []) {this : Nat} {x1 : Int32} {x2 : Int32} {x3 : Int32} {A : AH} {out : Int32} (hf : l_X0_isAsThen_2 this x1 x2 x3 A = some out) (hr : c_res X = r_X0_isAsThen A out) : G X 0 0 2 [(0, vr (some this)), (1, vi x1), (2, vi x2), (3, vi x3)] [] A := by
  have hX := hM.1
  unfold l_X0_isAsThen_2 at hf
  obtain ⟨e, hw, hf⟩ := ob_some hf
  refine (whl_ind (k_X0_isAsThen_2 X this x1 x2 A) (fun st o hs K => w_s_X0_isAsThen_2 hM hs K) hw ?_ : k_X0_isAsThen_2 X this x1 x2 A (.inl x3))
  rcases e with ⟨⟩ | ⟨⟩
  · dsimp only at hf
    show G X 0 0 33 [] [] A
    refine g_iconst hX dX0_isAsThen_33 (0 : Int32) (by decide) ?_
    cases hf
    exact h_zret hM dX0_isAsThen_34 hr rfl (by decide) rfl
  · dsimp only at hf
    show G X 0 0 41 [] [] A
    refine g_iconst hX dX0_isAsThen_41 (1 : Int32) (by decide) ?_
    cases hf
    exact h_zret hM dX0_isAsThen_42 hr rfl (by decide) rfl

set_option maxRecDepth 100000 in
theorem w_f_X0_isAsThen {X : Ctx} (hM : MX X yX0_isAsThen cX0_isAsThen 4 "SlimeNet" (some Jvm.ClassFile.FieldType.boolean) rm_X0_isAsThen []) {this : Nat} {x1 : Int32} {x2 : Int32} {A : AH} {out : Int32} (hf : f_X0_isAsThen this x1 x2 A = some out) (hr : c_res X = r_X0_isAsThen A out) : G X 0 0 0 [(0, vr (some this)), (1, vi x1), (2, vi x2)] [] A := by
  have hX := hM.1
  unfold f_X0_isAsThen at hf
  refine g_iconst hX dX0_isAsThen_0 (0 : Int32) (by decide) ?_
  refine g_istore_n hX dX0_isAsThen_1 [(3, vi (0 : Int32)), (0, vr (some this)), (1, vi x1), (2, vi x2)] (by decide) rfl ?_
  exact g_pick (w_l_X0_isAsThen_2 hM hf hr) [1, 2, 3, 0] rfl

theorem m_X0_isAsThen {l : Launch} {this : Nat} {x1 : Int32} {x2 : Int32} {A : AH} {out : Int32} (h : f_X0_isAsThen this x1 x2 A = some out) : MetF l yX0_isAsThen (Cond.code yX0_isAsThen cX0_isAsThen 4 (some Jvm.ClassFile.FieldType.boolean)) rm_X0_isAsThen [vr (some this), vi x1, vi x2] A (r_X0_isAsThen A out) :=
  metF_of rfl rfl (Nat.le_of_ble_eq_true rfl) fun X hX hl hR hnm hr h1 h2 hno => w_f_X0_isAsThen (X := X) ⟨hX, hR, h1, h2, fun _ => ⟨hnm, hno⟩⟩ h hr

/-! SlimeNet.rest()I -/
def rm_X0_rest : Room := { frames := 15, cells := 0, slots := 0, locals := 1148 }
def r_X0_rest (_A : AH) (o : Int32 × AH) : (Option AV × AH) ⊕ (Nat × AH) := .inl (some (vi o.1), o.2)
def k_X0_rest_7 (X : Ctx) (this : Nat) : ((Int32 × AH) ⊕ ((Int32 × Int32 × AH) ⊕ (AH))) → Prop
  | .inl (x1, A) => G X 0 0 7 [(0, vr (some this)), (1, vi x1)] [] A
  | .inr (.inl (x1, x2, A)) => G X 0 0 46 [(0, vr (some this)), (1, vi x1), (2, vi x2)] [] A
  | .inr (.inr A) => G X 0 0 67 [] [] A

def k_X0_rest_30 (X : Ctx) (this : Nat) (x1 : Int32) (A : AH) : ((Int32) ⊕ ((Int32) ⊕ (Unit))) → Prop
  | .inl x2 => G X 0 0 30 [(0, vr (some this)), (1, vi x1), (2, vi x2)] [] A
  | .inr (.inl x2) => G X 0 0 46 [(0, vr (some this)), (1, vi x1), (2, vi x2)] [] A
  | .inr (.inr ()) => G X 0 0 61 [(0, vr (some this)), (1, vi x1)] [] A

set_option maxRecDepth 100000 in
theorem w_s_X0_rest_30 {X : Ctx} (hM : MX X yX0_rest cX0_rest 3 "SlimeNet" (some Jvm.ClassFile.FieldType.int) rm_X0_rest []) {this : Nat} {x1 : Int32} {A : AH} {st : Int32} {out : (Int32) ⊕ ((Int32) ⊕ (Unit))} (hf : s_X0_rest_30 this x1 A st = some out) (K : k_X0_rest_30 X this x1 A out) : k_X0_rest_30 X this x1 A (.inl st) := by
  have hX := hM.1
  revert hf; generalize st = x2; intro hf
  unfold s_X0_rest_30 at hf
  dsimp only at hf
  show G X 0 0 30 [(0, vr (some this)), (1, vi x1), (2, vi x2)] [] A
  refine g_iload_n hX dX0_rest_30 (lg_at 2 rfl) ?_
  refine g_if_lt hX dX0_rest_31 61 hf (by decide) (fun c31 hf => ?_) (fun c31 hf => ?_)
  · cases hf
    exact g_pick (show G X _ _ _ _ _ _ from K) [0, 1] rfl
  · refine g_aload_n hX dX0_rest_34 (lg_at 0 rfl) ?_
    refine g_iload_n hX dX0_rest_35 (lg_at 1 rfl) ?_
    refine g_iload_n hX dX0_rest_36 (lg_at 2 rfl) ?_
    obtain ⟨k37, hk37, hf⟩ := ob_some hf
    obtain ⟨v37, hc37, hf⟩ := ob_some hf
    refine h_callV hM [vi x1, vi x2] dX0_rest_37 cs_SlimeNet_243_1 hk37 (m_X0_isAsThen hc37) rfl rfl rfl rfl ?_
    refine g_if_ne hX dX0_rest_40 46 hf (by decide) (fun c40 hf => ?_) (fun c40 hf => ?_)
    · cases hf
      exact g_pick (show G X _ _ _ _ _ _ from K) [0, 1, 2] rfl
    · refine g_goto hX dX0_rest_43 55 (by decide) ?_
      refine g_iinc hX dX0_rest_55 (-1 : Int32) (x2 + (-1 : Int32)) [(2, vi (x2 + (-1 : Int32))), (0, vr (some this)), (1, vi x1)] (by decide) rfl (lg_at 2 rfl) (by decide) rfl ?_
      refine g_goto hX dX0_rest_58 30 (by decide) ?_
      cases hf
      exact g_pick (show G X _ _ _ _ _ _ from K) [1, 2, 0] rfl

set_option maxRecDepth 100000 in
theorem w_l_X0_rest_30 {X : Ctx} (hM : MX X yX0_rest cX0_rest 3 "SlimeNet" (some Jvm.ClassFile.FieldType.int) rm_X0_rest []) {this : Nat} {x1 : Int32} {x2 : Int32} {A : AH} {out : (Int32 × AH) ⊕ ((Int32 × Int32 × AH) ⊕ (AH))} (hf : l_X0_rest_30 this x1 x2 A = some out) (K : k_X0_rest_7 X this out) : G X 0 0 30 [(0, vr (some this)), (1, vi x1), (2, vi x2)] [] A := by
  have hX := hM.1
  unfold l_X0_rest_30 at hf
  obtain ⟨e, hw, hf⟩ := ob_some hf
  refine (whl_ind (k_X0_rest_30 X this x1 A) (fun st o hs K => w_s_X0_rest_30 hM hs K) hw ?_ : k_X0_rest_30 X this x1 A (.inl x2))
  rcases e with x2 | ⟨⟩
  · dsimp only at hf
    show G X 0 0 46 [(0, vr (some this)), (1, vi x1), (2, vi x2)] [] A
    cases hf
    exact g_pick (show G X _ _ _ _ _ _ from K) [0, 1, 2] rfl
  · dsimp only at hf
    show G X 0 0 61 [(0, vr (some this)), (1, vi x1)] [] A
    refine g_iinc hX dX0_rest_61 (1 : Int32) (x1 + (1 : Int32)) [(1, vi (x1 + (1 : Int32))), (0, vr (some this))] (by decide) rfl (lg_at 1 rfl) (by decide) rfl ?_
    refine g_goto hX dX0_rest_64 7 (by decide) ?_
    cases hf
    exact g_pick (show G X _ _ _ _ _ _ from K) [1, 0] rfl

set_option maxRecDepth 100000 in
theorem w_s_X0_rest_7 {X : Ctx} (hM : MX X yX0_rest cX0_rest 3 "SlimeNet" (some Jvm.ClassFile.FieldType.int) rm_X0_rest []) {this : Nat} {st : Int32 × AH} {out : (Int32 × AH) ⊕ ((Int32 × Int32 × AH) ⊕ (AH))} (hf : s_X0_rest_7 this st = some out) (K : k_X0_rest_7 X this out) : k_X0_rest_7 X this (.inl st) := by
  have hX := hM.1
  obtain ⟨x1, A⟩ := st
  unfold s_X0_rest_7 at hf
  dsimp only at hf
  show G X 0 0 7 [(0, vr (some this)), (1, vi x1)] [] A
  refine g_iload_n hX dX0_rest_7 (lg_at 1 rfl) ?_
  refine g_sipush hX dX0_rest_8 (200 : Int32) (by decide) ?_
  refine g_icmp_gt hX dX0_rest_11 67 hf (by decide) (fun c11 hf => ?_) (fun c11 hf => ?_)
  · cases hf
    exact g_pick (show G X _ _ _ _ _ _ from K) [] rfl
  · refine g_aload_n hX dX0_rest_14 (lg_at 0 rfl) ?_
    refine g_getR hX hf fs_SlimeNet_34_1 rfl dX0_rest_15 (fun v15 hf => ?_)
    obtain ⟨k18, hk18, hf⟩ := ob_some hf
    obtain ⟨A18, hc18, hf⟩ := ob_some hf
    refine h_callV hM [] dX0_rest_18 cs_SlimeNet_240_4 hk18 (m_X3_liveRound hc18) rfl rfl rfl rfl ?_
    refine g_aload_n hX dX0_rest_21 (lg_at 0 rfl) ?_
    refine g_iload_n hX dX0_rest_22 (lg_at 1 rfl) ?_
    obtain ⟨k23, hk23, hf⟩ := ob_some hf
    obtain ⟨A23, hc23, hf⟩ := ob_some hf
    refine h_callV hM [vi x1] dX0_rest_23 cs_SlimeNet_237_1 hk23 (m_X0_note hc23) rfl rfl rfl rfl ?_
    refine g_iload_n hX dX0_rest_26 (lg_at 1 rfl) ?_
    refine g_iconst hX dX0_rest_27 (1 : Int32) (by decide) ?_
    refine g_isub hX dX0_rest_28 ?_
    refine g_istore_n hX dX0_rest_29 [(2, vi (x1 - (1 : Int32))), (0, vr (some this)), (1, vi x1)] (by decide) rfl ?_
    exact g_pick (w_l_X0_rest_30 hM hf K) [1, 2, 0] rfl

set_option maxRecDepth 100000 in
theorem w_l_X0_rest_7 {X : Ctx} (hM : MX X yX0_rest cX0_rest 3 "SlimeNet" (some Jvm.ClassFile.FieldType.int) rm_X0_rest []) {this : Nat} {x1 : Int32} {A : AH} {out : Int32 × AH} (hf : l_X0_rest_7 this x1 A = some out) (hr : c_res X = r_X0_rest A out) : G X 0 0 7 [(0, vr (some this)), (1, vi x1)] [] A := by
  have hX := hM.1
  unfold l_X0_rest_7 at hf
  obtain ⟨e, hw, hf⟩ := ob_some hf
  refine (whl_ind (k_X0_rest_7 X this) (fun st o hs K => w_s_X0_rest_7 hM hs K) hw ?_ : k_X0_rest_7 X this (.inl (x1, A)))
  rcases e with ⟨x1, x2, A⟩ | A
  · dsimp only at hf
    show G X 0 0 46 [(0, vr (some this)), (1, vi x1), (2, vi x2)] [] A
    refine g_aload_n hX dX0_rest_46 (lg_at 0 rfl) ?_
    refine g_iload_n hX dX0_rest_47 (lg_at 1 rfl) ?_
    refine g_iload_n hX dX0_rest_48 (lg_at 2 rfl) ?_
    refine g_isub hX dX0_rest_49 ?_
    refine g_putI hX hf fs_SlimeNet_49_1 ⟨_, rfl, Or.inl rfl⟩ rfl dX0_rest_50 (fun A50 hf => ?_)
    refine g_iload_n hX dX0_rest_53 (lg_at 1 rfl) ?_
    cases hf
    exact h_iret hM dX0_rest_54 hr rfl rfl
  · dsimp only at hf
    show G X 0 0 67 [] [] A
    refine g_iconst hX dX0_rest_67 (-1 : Int32) (by decide) ?_
    cases hf
    exact h_iret hM dX0_rest_68 hr rfl rfl

set_option maxRecDepth 100000 in
theorem w_f_X0_rest {X : Ctx} (hM : MX X yX0_rest cX0_rest 3 "SlimeNet" (some Jvm.ClassFile.FieldType.int) rm_X0_rest []) {this : Nat} {A : AH} {out : Int32 × AH} (hf : f_X0_rest this A = some out) (hr : c_res X = r_X0_rest A out) : G X 0 0 0 [(0, vr (some this))] [] A := by
  have hX := hM.1
  unfold f_X0_rest at hf
  refine g_aload_n hX dX0_rest_0 (lg_at 0 rfl) ?_
  refine g_iconst hX dX0_rest_1 (0 : Int32) (by decide) ?_
  obtain ⟨k2, hk2, hf⟩ := ob_some hf
  obtain ⟨A2, hc2, hf⟩ := ob_some hf
  refine h_callV hM [vi (0 : Int32)] dX0_rest_2 cs_SlimeNet_237_1 hk2 (m_X0_note hc2) rfl rfl rfl rfl ?_
  refine g_iconst hX dX0_rest_5 (1 : Int32) (by decide) ?_
  refine g_istore_n hX dX0_rest_6 [(1, vi (1 : Int32)), (0, vr (some this))] (by decide) rfl ?_
  exact g_pick (w_l_X0_rest_7 hM hf hr) [1, 0] rfl

theorem m_X0_rest {l : Launch} {this : Nat} {A : AH} {out : Int32 × AH} (h : f_X0_rest this A = some out) : MetF l yX0_rest (Cond.code yX0_rest cX0_rest 3 (some Jvm.ClassFile.FieldType.int)) rm_X0_rest [vr (some this)] A (r_X0_rest A out) :=
  metF_of rfl rfl (Nat.le_of_ble_eq_true rfl) fun X hX hl hR hnm hr h1 h2 hno => w_f_X0_rest (X := X) ⟨hX, hR, h1, h2, fun _ => ⟨hnm, hno⟩⟩ h hr

/-! SlimeNetModel.note(I)V -/
def rm_X4_note : Room := { frames := 1, cells := 0, slots := 0, locals := 24 }
def r_X4_note (_A : AH) (o : AH) : (Option AV × AH) ⊕ (Nat × AH) := .inl (none, o)
def k_X4_note_2 (X : Ctx) (this : Nat) (x1 : Int32) : ((Int32 × AH) ⊕ (AH)) → Prop
  | .inl (x2, A) => G X 0 0 2 [(0, vr (some this)), (1, vi x1), (2, vi x2)] [] A
  | .inr A => G X 0 0 50 [] [] A

set_option maxRecDepth 100000 in
theorem w_s_X4_note_2 {X : Ctx} (hM : MX X yX4_note cX4_note 3 "SlimeNetModel" none rm_X4_note []) {this : Nat} {x1 : Int32} {st : Int32 × AH} {out : (Int32 × AH) ⊕ (AH)} (hf : s_X4_note_2 this x1 st = some out) (K : k_X4_note_2 X this x1 out) : k_X4_note_2 X this x1 (.inl st) := by
  have hX := hM.1
  obtain ⟨x2, A⟩ := st
  unfold s_X4_note_2 at hf
  dsimp only at hf
  show G X 0 0 2 [(0, vr (some this)), (1, vi x1), (2, vi x2)] [] A
  refine g_iload_n hX dX4_note_2 (lg_at 2 rfl) ?_
  refine g_aload_n hX dX4_note_3 (lg_at 0 rfl) ?_
  refine g_getI hX hf fs_SlimeNetModel_297_5 rfl dX4_note_4 (fun v4 hf => ?_)
  refine g_icmp_ge hX dX4_note_7 50 hf (by decide) (fun c7 hf => ?_) (fun c7 hf => ?_)
  · cases hf
    exact g_pick (show G X _ _ _ _ _ _ from K) [] rfl
  · refine g_aload_n hX dX4_note_10 (lg_at 0 rfl) ?_
    refine g_getR hX hf fs_SlimeNetModel_220_5 rfl dX4_note_11 (fun v11 hf => ?_)
    refine g_bipush hX dX4_note_14 (10 : Int32) (by decide) ?_
    refine g_iload_n hX dX4_note_16 (lg_at 1 rfl) ?_
    refine g_imul hX dX4_note_17 ?_
    refine g_iload_n hX dX4_note_18 (lg_at 2 rfl) ?_
    refine g_iadd hX dX4_note_19 ?_
    refine g_aload_n hX dX4_note_20 (lg_at 0 rfl) ?_
    refine g_getR hX hf fs_SlimeNetModel_215_5 rfl dX4_note_21 (fun v21 hf => ?_)
    refine g_iload_n hX dX4_note_24 (lg_at 2 rfl) ?_
    refine g_iald hX hf dX4_note_25 (fun v25 hf => ?_)
    refine g_iast hX hf dX4_note_26 (fun A26 hf => ?_)
    refine g_aload_n hX dX4_note_27 (lg_at 0 rfl) ?_
    refine g_getR hX hf fs_SlimeNetModel_223_5 rfl dX4_note_28 (fun v28 hf => ?_)
    refine g_bipush hX dX4_note_31 (10 : Int32) (by decide) ?_
    refine g_iload_n hX dX4_note_33 (lg_at 1 rfl) ?_
    refine g_imul hX dX4_note_34 ?_
    refine g_iload_n hX dX4_note_35 (lg_at 2 rfl) ?_
    refine g_iadd hX dX4_note_36 ?_
    refine g_aload_n hX dX4_note_37 (lg_at 0 rfl) ?_
    refine g_getR hX hf fs_SlimeNetModel_217_5 rfl dX4_note_38 (fun v38 hf => ?_)
    refine g_iload_n hX dX4_note_41 (lg_at 2 rfl) ?_
    refine g_iald hX hf dX4_note_42 (fun v42 hf => ?_)
    refine g_iast hX hf dX4_note_43 (fun A43 hf => ?_)
    refine g_iinc hX dX4_note_44 (1 : Int32) (x2 + (1 : Int32)) [(2, vi (x2 + (1 : Int32))), (0, vr (some this)), (1, vi x1)] (by decide) rfl (lg_at 2 rfl) (by decide) rfl ?_
    refine g_goto hX dX4_note_47 2 (by decide) ?_
    cases hf
    exact g_pick (show G X _ _ _ _ _ _ from K) [1, 2, 0] rfl

set_option maxRecDepth 100000 in
theorem w_l_X4_note_2 {X : Ctx} (hM : MX X yX4_note cX4_note 3 "SlimeNetModel" none rm_X4_note []) {this : Nat} {x1 : Int32} {x2 : Int32} {A : AH} {out : AH} (hf : l_X4_note_2 this x1 x2 A = some out) (hr : c_res X = r_X4_note A out) : G X 0 0 2 [(0, vr (some this)), (1, vi x1), (2, vi x2)] [] A := by
  have hX := hM.1
  unfold l_X4_note_2 at hf
  obtain ⟨e, hw, hf⟩ := ob_some hf
  refine (whl_ind (k_X4_note_2 X this x1) (fun st o hs K => w_s_X4_note_2 hM hs K) hw ?_ : k_X4_note_2 X this x1 (.inl (x2, A)))
  revert hf hw; generalize e = A; intro hw hf
  dsimp only at hf
  show G X 0 0 50 [] [] A
  cases hf
  exact h_vret hM dX4_note_50 hr rfl rfl

set_option maxRecDepth 100000 in
theorem w_f_X4_note {X : Ctx} (hM : MX X yX4_note cX4_note 3 "SlimeNetModel" none rm_X4_note []) {this : Nat} {x1 : Int32} {A : AH} {out : AH} (hf : f_X4_note this x1 A = some out) (hr : c_res X = r_X4_note A out) : G X 0 0 0 [(0, vr (some this)), (1, vi x1)] [] A := by
  have hX := hM.1
  unfold f_X4_note at hf
  refine g_iconst hX dX4_note_0 (0 : Int32) (by decide) ?_
  refine g_istore_n hX dX4_note_1 [(2, vi (0 : Int32)), (0, vr (some this)), (1, vi x1)] (by decide) rfl ?_
  exact g_pick (w_l_X4_note_2 hM hf hr) [1, 2, 0] rfl

theorem m_X4_note {l : Launch} {this : Nat} {x1 : Int32} {A : AH} {out : AH} (h : f_X4_note this x1 A = some out) : MetF l yX4_note (Cond.code yX4_note cX4_note 3 none) rm_X4_note [vr (some this), vi x1] A (r_X4_note A out) :=
  metF_of rfl rfl (Nat.le_of_ble_eq_true rfl) fun X hX hl hR hnm hr h1 h2 hno => w_f_X4_note (X := X) ⟨hX, hR, h1, h2, fun _ => ⟨hnm, hno⟩⟩ h hr

/-! SlimeNetModel.isAsIn(I)Z -/
def rm_X4_isAsIn : Room := { frames := 1, cells := 0, slots := 0, locals := 24 }
def r_X4_isAsIn (A : AH) (o : Int32) : (Option AV × AH) ⊕ (Nat × AH) := .inl (some (vi o), A)
def k_X4_isAsIn_2 (X : Ctx) (this : Nat) (x1 : Int32) (A : AH) : ((Int32) ⊕ ((Unit) ⊕ (Unit))) → Prop
  | .inl x2 => G X 0 0 2 [(0, vr (some this)), (1, vi x1), (2, vi x2)] [] A
  | .inr (.inl ()) => G X 0 0 50 [] [] A
  | .inr (.inr ()) => G X 0 0 58 [] [] A

set_option maxRecDepth 100000 in
theorem w_f_X4_isAsIn_50 {X : Ctx} (hM : MX X yX4_isAsIn cX4_isAsIn 3 "SlimeNetModel" (some Jvm.ClassFile.FieldType.boolean) rm_X4_isAsIn []) {A : AH} {out : Int32} (hf : f_X4_isAsIn_50 A = some out) (hr : c_res X = r_X4_isAsIn A out) : G X 0 0 50 [] [] A := by
  have hX := hM.1
  unfold f_X4_isAsIn_50 at hf
  refine g_iconst hX dX4_isAsIn_50 (0 : Int32) (by decide) ?_
  cases hf
  exact h_zret hM dX4_isAsIn_51 hr rfl (by decide) rfl

set_option maxRecDepth 100000 in
theorem w_s_X4_isAsIn_2 {X : Ctx} (hM : MX X yX4_isAsIn cX4_isAsIn 3 "SlimeNetModel" (some Jvm.ClassFile.FieldType.boolean) rm_X4_isAsIn []) {this : Nat} {x1 : Int32} {A : AH} {st : Int32} {out : (Int32) ⊕ ((Unit) ⊕ (Unit))} (hf : s_X4_isAsIn_2 this x1 A st = some out) (K : k_X4_isAsIn_2 X this x1 A out) : k_X4_isAsIn_2 X this x1 A (.inl st) := by
  have hX := hM.1
  revert hf; generalize st = x2; intro hf
  unfold s_X4_isAsIn_2 at hf
  dsimp only at hf
  show G X 0 0 2 [(0, vr (some this)), (1, vi x1), (2, vi x2)] [] A
  refine g_iload_n hX dX4_isAsIn_2 (lg_at 2 rfl) ?_
  refine g_aload_n hX dX4_isAsIn_3 (lg_at 0 rfl) ?_
  refine g_getI hX hf fs_SlimeNetModel_297_5 rfl dX4_isAsIn_4 (fun v4 hf => ?_)
  refine g_icmp_ge hX dX4_isAsIn_7 58 hf (by decide) (fun c7 hf => ?_) (fun c7 hf => ?_)
  · cases hf
    exact g_pick (show G X _ _ _ _ _ _ from K) [] rfl
  · refine g_aload_n hX dX4_isAsIn_10 (lg_at 0 rfl) ?_
    refine g_getR hX hf fs_SlimeNetModel_220_5 rfl dX4_isAsIn_11 (fun v11 hf => ?_)
    refine g_bipush hX dX4_isAsIn_14 (10 : Int32) (by decide) ?_
    refine g_iload_n hX dX4_isAsIn_16 (lg_at 1 rfl) ?_
    refine g_imul hX dX4_isAsIn_17 ?_
    refine g_iload_n hX dX4_isAsIn_18 (lg_at 2 rfl) ?_
    refine g_iadd hX dX4_isAsIn_19 ?_
    refine g_iald hX hf dX4_isAsIn_20 (fun v20 hf => ?_)
    refine g_aload_n hX dX4_isAsIn_21 (lg_at 0 rfl) ?_
    refine g_getR hX hf fs_SlimeNetModel_215_5 rfl dX4_isAsIn_22 (fun v22 hf => ?_)
    refine g_iload_n hX dX4_isAsIn_25 (lg_at 2 rfl) ?_
    refine g_iald hX hf dX4_isAsIn_26 (fun v26 hf => ?_)
    refine g_icmp_ne hX dX4_isAsIn_27 50 hf (by decide) (fun c27 hf => ?_) (fun c27 hf => ?_)
    · cases hf
      exact g_pick (show G X _ _ _ _ _ _ from K) [] rfl
    · refine g_aload_n hX dX4_isAsIn_30 (lg_at 0 rfl) ?_
      refine g_getR hX hf fs_SlimeNetModel_223_5 rfl dX4_isAsIn_31 (fun v31 hf => ?_)
      refine g_bipush hX dX4_isAsIn_34 (10 : Int32) (by decide) ?_
      refine g_iload_n hX dX4_isAsIn_36 (lg_at 1 rfl) ?_
      refine g_imul hX dX4_isAsIn_37 ?_
      refine g_iload_n hX dX4_isAsIn_38 (lg_at 2 rfl) ?_
      refine g_iadd hX dX4_isAsIn_39 ?_
      refine g_iald hX hf dX4_isAsIn_40 (fun v40 hf => ?_)
      refine g_aload_n hX dX4_isAsIn_41 (lg_at 0 rfl) ?_
      refine g_getR hX hf fs_SlimeNetModel_217_5 rfl dX4_isAsIn_42 (fun v42 hf => ?_)
      refine g_iload_n hX dX4_isAsIn_45 (lg_at 2 rfl) ?_
      refine g_iald hX hf dX4_isAsIn_46 (fun v46 hf => ?_)
      refine g_icmp_eq hX dX4_isAsIn_47 52 hf (by decide) (fun c47 hf => ?_) (fun c47 hf => ?_)
      · refine g_iinc hX dX4_isAsIn_52 (1 : Int32) (x2 + (1 : Int32)) [(2, vi (x2 + (1 : Int32))), (0, vr (some this)), (1, vi x1)] (by decide) rfl (lg_at 2 rfl) (by decide) rfl ?_
        refine g_goto hX dX4_isAsIn_55 2 (by decide) ?_
        cases hf
        exact g_pick (show G X _ _ _ _ _ _ from K) [1, 2, 0] rfl
      · cases hf
        exact g_pick (show G X _ _ _ _ _ _ from K) [] rfl

set_option maxRecDepth 100000 in
theorem w_l_X4_isAsIn_2 {X : Ctx} (hM : MX X yX4_isAsIn cX4_isAsIn 3 "SlimeNetModel" (some Jvm.ClassFile.FieldType.boolean) rm_X4_isAsIn []) {this : Nat} {x1 : Int32} {x2 : Int32} {A : AH} {out : Int32} (hf : l_X4_isAsIn_2 this x1 x2 A = some out) (hr : c_res X = r_X4_isAsIn A out) : G X 0 0 2 [(0, vr (some this)), (1, vi x1), (2, vi x2)] [] A := by
  have hX := hM.1
  unfold l_X4_isAsIn_2 at hf
  obtain ⟨e, hw, hf⟩ := ob_some hf
  refine (whl_ind (k_X4_isAsIn_2 X this x1 A) (fun st o hs K => w_s_X4_isAsIn_2 hM hs K) hw ?_ : k_X4_isAsIn_2 X this x1 A (.inl x2))
  rcases e with ⟨⟩ | ⟨⟩
  · dsimp only at hf
    show G X 0 0 50 [] [] A
    exact g_pick (w_f_X4_isAsIn_50 hM hf hr) [] rfl
  · dsimp only at hf
    show G X 0 0 58 [] [] A
    refine g_iconst hX dX4_isAsIn_58 (1 : Int32) (by decide) ?_
    cases hf
    exact h_zret hM dX4_isAsIn_59 hr rfl (by decide) rfl

set_option maxRecDepth 100000 in
theorem w_f_X4_isAsIn {X : Ctx} (hM : MX X yX4_isAsIn cX4_isAsIn 3 "SlimeNetModel" (some Jvm.ClassFile.FieldType.boolean) rm_X4_isAsIn []) {this : Nat} {x1 : Int32} {A : AH} {out : Int32} (hf : f_X4_isAsIn this x1 A = some out) (hr : c_res X = r_X4_isAsIn A out) : G X 0 0 0 [(0, vr (some this)), (1, vi x1)] [] A := by
  have hX := hM.1
  unfold f_X4_isAsIn at hf
  refine g_iconst hX dX4_isAsIn_0 (0 : Int32) (by decide) ?_
  refine g_istore_n hX dX4_isAsIn_1 [(2, vi (0 : Int32)), (0, vr (some this)), (1, vi x1)] (by decide) rfl ?_
  exact g_pick (w_l_X4_isAsIn_2 hM hf hr) [1, 2, 0] rfl

theorem m_X4_isAsIn {l : Launch} {this : Nat} {x1 : Int32} {A : AH} {out : Int32} (h : f_X4_isAsIn this x1 A = some out) : MetF l yX4_isAsIn (Cond.code yX4_isAsIn cX4_isAsIn 3 (some Jvm.ClassFile.FieldType.boolean)) rm_X4_isAsIn [vr (some this), vi x1] A (r_X4_isAsIn A out) :=
  metF_of rfl rfl (Nat.le_of_ble_eq_true rfl) fun X hX hl hR hnm hr h1 h2 hno => w_f_X4_isAsIn (X := X) ⟨hX, hR, h1, h2, fun _ => ⟨hnm, hno⟩⟩ h hr

/-! SlimeNetModel.rest()I -/
def rm_X4_rest : Room := { frames := 5, cells := 0, slots := 0, locals := 136 }
def r_X4_rest (_A : AH) (o : Int32 × AH) : (Option AV × AH) ⊕ (Nat × AH) := .inl (some (vi o.1), o.2)
def k_X4_rest_7 (X : Ctx) (this : Nat) : ((Int32 × AH) ⊕ ((Int32 × Int32 × AH) ⊕ (AH))) → Prop
  | .inl (x1, A) => G X 0 0 7 [(0, vr (some this)), (1, vi x1)] [] A
  | .inr (.inl (x1, x2, A)) => G X 0 0 45 [(0, vr (some this)), (1, vi x1), (2, vi x2)] [] A
  | .inr (.inr A) => G X 0 0 71 [] [] A

def k_X4_rest_30 (X : Ctx) (this : Nat) (x1 : Int32) (A : AH) : ((Int32) ⊕ ((Int32) ⊕ (Unit))) → Prop
  | .inl x2 => G X 0 0 30 [(0, vr (some this)), (1, vi x1), (2, vi x2)] [] A
  | .inr (.inl x2) => G X 0 0 45 [(0, vr (some this)), (1, vi x1), (2, vi x2)] [] A
  | .inr (.inr ()) => G X 0 0 60 [(0, vr (some this)), (1, vi x1)] [] A

set_option maxRecDepth 100000 in
theorem w_s_X4_rest_30 {X : Ctx} (hM : MX X yX4_rest cX4_rest 3 "SlimeNetModel" (some Jvm.ClassFile.FieldType.int) rm_X4_rest []) {this : Nat} {x1 : Int32} {A : AH} {st : Int32} {out : (Int32) ⊕ ((Int32) ⊕ (Unit))} (hf : s_X4_rest_30 this x1 A st = some out) (K : k_X4_rest_30 X this x1 A out) : k_X4_rest_30 X this x1 A (.inl st) := by
  have hX := hM.1
  revert hf; generalize st = x2; intro hf
  unfold s_X4_rest_30 at hf
  dsimp only at hf
  show G X 0 0 30 [(0, vr (some this)), (1, vi x1), (2, vi x2)] [] A
  refine g_iload_n hX dX4_rest_30 (lg_at 2 rfl) ?_
  refine g_if_lt hX dX4_rest_31 60 hf (by decide) (fun c31 hf => ?_) (fun c31 hf => ?_)
  · cases hf
    exact g_pick (show G X _ _ _ _ _ _ from K) [0, 1] rfl
  · refine g_aload_n hX dX4_rest_34 (lg_at 0 rfl) ?_
    refine g_iload_n hX dX4_rest_35 (lg_at 2 rfl) ?_
    obtain ⟨k36, hk36, hf⟩ := ob_some hf
    obtain ⟨v36, hc36, hf⟩ := ob_some hf
    refine h_callV hM [vi x2] dX4_rest_36 cs_SlimeNetModel_395_5 hk36 (m_X4_isAsIn hc36) rfl rfl rfl rfl ?_
    refine g_if_ne hX dX4_rest_39 45 hf (by decide) (fun c39 hf => ?_) (fun c39 hf => ?_)
    · cases hf
      exact g_pick (show G X _ _ _ _ _ _ from K) [0, 1, 2] rfl
    · refine g_goto hX dX4_rest_42 54 (by decide) ?_
      refine g_iinc hX dX4_rest_54 (-1 : Int32) (x2 + (-1 : Int32)) [(2, vi (x2 + (-1 : Int32))), (0, vr (some this)), (1, vi x1)] (by decide) rfl (lg_at 2 rfl) (by decide) rfl ?_
      refine g_goto hX dX4_rest_57 30 (by decide) ?_
      cases hf
      exact g_pick (show G X _ _ _ _ _ _ from K) [1, 2, 0] rfl

set_option maxRecDepth 100000 in
theorem w_l_X4_rest_30 {X : Ctx} (hM : MX X yX4_rest cX4_rest 3 "SlimeNetModel" (some Jvm.ClassFile.FieldType.int) rm_X4_rest []) {this : Nat} {x1 : Int32} {x2 : Int32} {A : AH} {out : (Int32 × AH) ⊕ ((Int32 × Int32 × AH) ⊕ (AH))} (hf : l_X4_rest_30 this x1 x2 A = some out) (K : k_X4_rest_7 X this out) : G X 0 0 30 [(0, vr (some this)), (1, vi x1), (2, vi x2)] [] A := by
  have hX := hM.1
  unfold l_X4_rest_30 at hf
  obtain ⟨e, hw, hf⟩ := ob_some hf
  refine (whl_ind (k_X4_rest_30 X this x1 A) (fun st o hs K => w_s_X4_rest_30 hM hs K) hw ?_ : k_X4_rest_30 X this x1 A (.inl x2))
  rcases e with x2 | ⟨⟩
  · dsimp only at hf
    show G X 0 0 45 [(0, vr (some this)), (1, vi x1), (2, vi x2)] [] A
    cases hf
    exact g_pick (show G X _ _ _ _ _ _ from K) [0, 1, 2] rfl
  · dsimp only at hf
    show G X 0 0 60 [(0, vr (some this)), (1, vi x1)] [] A
    refine g_aload_n hX dX4_rest_60 (lg_at 0 rfl) ?_
    refine g_iload_n hX dX4_rest_61 (lg_at 1 rfl) ?_
    obtain ⟨k62, hk62, hf⟩ := ob_some hf
    obtain ⟨A62, hc62, hf⟩ := ob_some hf
    refine h_callV hM [vi x1] dX4_rest_62 cs_SlimeNetModel_392_5 hk62 (m_X4_note hc62) rfl rfl rfl rfl ?_
    refine g_iinc hX dX4_rest_65 (1 : Int32) (x1 + (1 : Int32)) [(1, vi (x1 + (1 : Int32))), (0, vr (some this))] (by decide) rfl (lg_at 1 rfl) (by decide) rfl ?_
    refine g_goto hX dX4_rest_68 7 (by decide) ?_
    cases hf
    exact g_pick (show G X _ _ _ _ _ _ from K) [1, 0] rfl

set_option maxRecDepth 100000 in
theorem w_s_X4_rest_7 {X : Ctx} (hM : MX X yX4_rest cX4_rest 3 "SlimeNetModel" (some Jvm.ClassFile.FieldType.int) rm_X4_rest []) {this : Nat} {st : Int32 × AH} {out : (Int32 × AH) ⊕ ((Int32 × Int32 × AH) ⊕ (AH))} (hf : s_X4_rest_7 this st = some out) (K : k_X4_rest_7 X this out) : k_X4_rest_7 X this (.inl st) := by
  have hX := hM.1
  obtain ⟨x1, A⟩ := st
  unfold s_X4_rest_7 at hf
  dsimp only at hf
  show G X 0 0 7 [(0, vr (some this)), (1, vi x1)] [] A
  refine g_iload_n hX dX4_rest_7 (lg_at 1 rfl) ?_
  refine g_sipush hX dX4_rest_8 (200 : Int32) (by decide) ?_
  refine g_icmp_gt hX dX4_rest_11 71 hf (by decide) (fun c11 hf => ?_) (fun c11 hf => ?_)
  · cases hf
    exact g_pick (show G X _ _ _ _ _ _ from K) [] rfl
  · refine g_aload_n hX dX4_rest_14 (lg_at 0 rfl) ?_
    refine g_iconst hX dX4_rest_15 (1 : Int32) (by decide) ?_
    refine g_aload_n hX dX4_rest_16 (lg_at 0 rfl) ?_
    obtain ⟨k17, hk17, hf⟩ := ob_some hf
    obtain ⟨v17, hc17, hf⟩ := ob_some hf
    refine h_callV hM [] dX4_rest_17 cs_SlimeNetModel_336_5 hk17 (m_X4_pairs hc17) rfl rfl rfl rfl ?_
    refine g_mmax hM dX4_rest_20 (lw_LW q1439) (lw_LW q689) (lw_LW q80) (lw_LW q690) rfl rfl ?_
    obtain ⟨k23, hk23, hf⟩ := ob_some hf
    obtain ⟨A23, hc23, hf⟩ := ob_some hf
    refine h_callV hM [vi (mxI (1 : Int32) v17)] dX4_rest_23 cs_SlimeNetModel_389_5 hk23 (m_X4_goOn hc23) rfl rfl rfl rfl ?_
    refine g_iload_n hX dX4_rest_26 (lg_at 1 rfl) ?_
    refine g_iconst hX dX4_rest_27 (1 : Int32) (by decide) ?_
    refine g_isub hX dX4_rest_28 ?_
    refine g_istore_n hX dX4_rest_29 [(2, vi (x1 - (1 : Int32))), (0, vr (some this)), (1, vi x1)] (by decide) rfl ?_
    exact g_pick (w_l_X4_rest_30 hM hf K) [1, 2, 0] rfl

set_option maxRecDepth 100000 in
theorem w_l_X4_rest_7 {X : Ctx} (hM : MX X yX4_rest cX4_rest 3 "SlimeNetModel" (some Jvm.ClassFile.FieldType.int) rm_X4_rest []) {this : Nat} {x1 : Int32} {A : AH} {out : Int32 × AH} (hf : l_X4_rest_7 this x1 A = some out) (hr : c_res X = r_X4_rest A out) : G X 0 0 7 [(0, vr (some this)), (1, vi x1)] [] A := by
  have hX := hM.1
  unfold l_X4_rest_7 at hf
  obtain ⟨e, hw, hf⟩ := ob_some hf
  refine (whl_ind (k_X4_rest_7 X this) (fun st o hs K => w_s_X4_rest_7 hM hs K) hw ?_ : k_X4_rest_7 X this (.inl (x1, A)))
  rcases e with ⟨x1, x2, A⟩ | A
  · dsimp only at hf
    show G X 0 0 45 [(0, vr (some this)), (1, vi x1), (2, vi x2)] [] A
    refine g_aload_n hX dX4_rest_45 (lg_at 0 rfl) ?_
    refine g_iload_n hX dX4_rest_46 (lg_at 1 rfl) ?_
    refine g_iload_n hX dX4_rest_47 (lg_at 2 rfl) ?_
    refine g_isub hX dX4_rest_48 ?_
    refine g_putI hX hf fs_SlimeNetModel_226_5 ⟨_, rfl, Or.inl rfl⟩ rfl dX4_rest_49 (fun A49 hf => ?_)
    refine g_iload_n hX dX4_rest_52 (lg_at 1 rfl) ?_
    cases hf
    exact h_iret hM dX4_rest_53 hr rfl rfl
  · dsimp only at hf
    show G X 0 0 71 [] [] A
    refine g_iconst hX dX4_rest_71 (-1 : Int32) (by decide) ?_
    cases hf
    exact h_iret hM dX4_rest_72 hr rfl rfl

set_option maxRecDepth 100000 in
theorem w_f_X4_rest {X : Ctx} (hM : MX X yX4_rest cX4_rest 3 "SlimeNetModel" (some Jvm.ClassFile.FieldType.int) rm_X4_rest []) {this : Nat} {A : AH} {out : Int32 × AH} (hf : f_X4_rest this A = some out) (hr : c_res X = r_X4_rest A out) : G X 0 0 0 [(0, vr (some this))] [] A := by
  have hX := hM.1
  unfold f_X4_rest at hf
  refine g_aload_n hX dX4_rest_0 (lg_at 0 rfl) ?_
  refine g_iconst hX dX4_rest_1 (0 : Int32) (by decide) ?_
  obtain ⟨k2, hk2, hf⟩ := ob_some hf
  obtain ⟨A2, hc2, hf⟩ := ob_some hf
  refine h_callV hM [vi (0 : Int32)] dX4_rest_2 cs_SlimeNetModel_392_5 hk2 (m_X4_note hc2) rfl rfl rfl rfl ?_
  refine g_iconst hX dX4_rest_5 (1 : Int32) (by decide) ?_
  refine g_istore_n hX dX4_rest_6 [(1, vi (1 : Int32)), (0, vr (some this))] (by decide) rfl ?_
  exact g_pick (w_l_X4_rest_7 hM hf hr) [1, 0] rfl

theorem m_X4_rest {l : Launch} {this : Nat} {A : AH} {out : Int32 × AH} (h : f_X4_rest this A = some out) : MetF l yX4_rest (Cond.code yX4_rest cX4_rest 3 (some Jvm.ClassFile.FieldType.int)) rm_X4_rest [vr (some this)] A (r_X4_rest A out) :=
  metF_of rfl rfl (Nat.le_of_ble_eq_true rfl) fun X hX hl hR hnm hr h1 h2 hno => w_f_X4_rest (X := X) ⟨hX, hR, h1, h2, fun _ => ⟨hnm, hno⟩⟩ h hr

/-! SlimeNet.ring()I -/
def rm_X0_ring : Room := { frames := 1, cells := 0, slots := 0, locals := 24 }
def r_X0_ring (A : AH) (o : Int32) : (Option AV × AH) ⊕ (Nat × AH) := .inl (some (vi o), A)
set_option maxRecDepth 100000 in
theorem w_f_X0_ring {X : Ctx} (hM : MX X yX0_ring cX0_ring 1 "SlimeNet" (some Jvm.ClassFile.FieldType.int) rm_X0_ring []) {this : Nat} {A : AH} {out : Int32} (hf : f_X0_ring this A = some out) (hr : c_res X = r_X0_ring A out) : G X 0 0 0 [(0, vr (some this))] [] A := by
  have hX := hM.1
  unfold f_X0_ring at hf
  refine g_aload_n hX dX0_ring_0 (lg_at 0 rfl) ?_
  refine g_getI hX hf fs_SlimeNet_49_1 rfl dX0_ring_1 (fun v1 hf => ?_)
  cases hf
  exact h_iret hM dX0_ring_4 hr rfl rfl

theorem m_X0_ring {l : Launch} {this : Nat} {A : AH} {out : Int32} (h : f_X0_ring this A = some out) : MetF l yX0_ring (Cond.code yX0_ring cX0_ring 1 (some Jvm.ClassFile.FieldType.int)) rm_X0_ring [vr (some this)] A (r_X0_ring A out) :=
  metF_of rfl rfl (Nat.le_of_ble_eq_true rfl) fun X hX hl hR hnm hr h1 h2 hno => w_f_X0_ring (X := X) ⟨hX, hR, h1, h2, fun _ => ⟨hnm, hno⟩⟩ h hr

/-! SlimeNetModel.ring()I -/
def rm_X4_ring : Room := { frames := 1, cells := 0, slots := 0, locals := 24 }
def r_X4_ring (A : AH) (o : Int32) : (Option AV × AH) ⊕ (Nat × AH) := .inl (some (vi o), A)
set_option maxRecDepth 100000 in
theorem w_f_X4_ring {X : Ctx} (hM : MX X yX4_ring cX4_ring 1 "SlimeNetModel" (some Jvm.ClassFile.FieldType.int) rm_X4_ring []) {this : Nat} {A : AH} {out : Int32} (hf : f_X4_ring this A = some out) (hr : c_res X = r_X4_ring A out) : G X 0 0 0 [(0, vr (some this))] [] A := by
  have hX := hM.1
  unfold f_X4_ring at hf
  refine g_aload_n hX dX4_ring_0 (lg_at 0 rfl) ?_
  refine g_getI hX hf fs_SlimeNetModel_226_5 rfl dX4_ring_1 (fun v1 hf => ?_)
  cases hf
  exact h_iret hM dX4_ring_4 hr rfl rfl

theorem m_X4_ring {l : Launch} {this : Nat} {A : AH} {out : Int32} (h : f_X4_ring this A = some out) : MetF l yX4_ring (Cond.code yX4_ring cX4_ring 1 (some Jvm.ClassFile.FieldType.int)) rm_X4_ring [vr (some this)] A (r_X4_ring A out) :=
  metF_of rfl rfl (Nat.le_of_ble_eq_true rfl) fun X hX hl hR hnm hr h1 h2 hno => w_f_X4_ring (X := X) ⟨hX, hR, h1, h2, fun _ => ⟨hnm, hno⟩⟩ h hr

/-! java/util/Arrays.fill([II)V -/
def rm_J12_fill_3 : Room := { frames := 1, cells := 0, slots := 0, locals := 24 }
def r_J12_fill_3 (_A : AH) (o : AH) : (Option AV × AH) ⊕ (Nat × AH) := .inl (none, o)
def k_J12_fill_3_5 (X : Ctx) (x0 : Option Nat) (x1 : Int32) (x3 : Int32) : ((Int32 × AH) ⊕ (AH)) → Prop
  | .inl (x2, A) => G X 0 0 5 [(0, vr x0), (1, vi x1), (2, vi x2), (3, vi x3)] [] A
  | .inr A => G X 0 0 20 [] [] A

set_option maxRecDepth 100000 in
theorem w_s_J12_fill_3_5 {X : Ctx} (hM : MX X yJ12_fill_3 cJ12_fill_3 4 "java/util/Arrays" none rm_J12_fill_3 []) {x0 : Option Nat} {x1 : Int32} {x3 : Int32} {st : Int32 × AH} {out : (Int32 × AH) ⊕ (AH)} (hf : s_J12_fill_3_5 x0 x1 x3 st = some out) (K : k_J12_fill_3_5 X x0 x1 x3 out) : k_J12_fill_3_5 X x0 x1 x3 (.inl st) := by
  have hX := hM.1
  obtain ⟨x2, A⟩ := st
  unfold s_J12_fill_3_5 at hf
  dsimp only at hf
  show G X 0 0 5 [(0, vr x0), (1, vi x1), (2, vi x2), (3, vi x3)] [] A
  refine g_iload_n hX dJ12_fill_3_5 (lg_at 2 rfl) ?_
  refine g_iload_n hX dJ12_fill_3_6 (lg_at 3 rfl) ?_
  refine g_icmp_ge hX dJ12_fill_3_7 20 hf (by decide) (fun c7 hf => ?_) (fun c7 hf => ?_)
  · cases hf
    exact g_pick (show G X _ _ _ _ _ _ from K) [] rfl
  · refine g_aload_n hX dJ12_fill_3_10 (lg_at 0 rfl) ?_
    refine g_iload_n hX dJ12_fill_3_11 (lg_at 2 rfl) ?_
    refine g_iload_n hX dJ12_fill_3_12 (lg_at 1 rfl) ?_
    refine g_iast hX hf dJ12_fill_3_13 (fun A13 hf => ?_)
    refine g_iinc hX dJ12_fill_3_14 (1 : Int32) (x2 + (1 : Int32)) [(2, vi (x2 + (1 : Int32))), (0, vr x0), (1, vi x1), (3, vi x3)] (by decide) rfl (lg_at 2 rfl) (by decide) rfl ?_
    refine g_goto hX dJ12_fill_3_17 5 (by decide) ?_
    cases hf
    exact g_pick (show G X _ _ _ _ _ _ from K) [1, 2, 0, 3] rfl

set_option maxRecDepth 100000 in
theorem w_l_J12_fill_3_5 {X : Ctx} (hM : MX X yJ12_fill_3 cJ12_fill_3 4 "java/util/Arrays" none rm_J12_fill_3 []) {x0 : Option Nat} {x1 : Int32} {x3 : Int32} {x2 : Int32} {A : AH} {out : AH} (hf : l_J12_fill_3_5 x0 x1 x3 x2 A = some out) (hr : c_res X = r_J12_fill_3 A out) : G X 0 0 5 [(0, vr x0), (1, vi x1), (2, vi x2), (3, vi x3)] [] A := by
  have hX := hM.1
  unfold l_J12_fill_3_5 at hf
  obtain ⟨e, hw, hf⟩ := ob_some hf
  refine (whl_ind (k_J12_fill_3_5 X x0 x1 x3) (fun st o hs K => w_s_J12_fill_3_5 hM hs K) hw ?_ : k_J12_fill_3_5 X x0 x1 x3 (.inl (x2, A)))
  revert hf hw; generalize e = A; intro hw hf
  dsimp only at hf
  show G X 0 0 20 [] [] A
  cases hf
  exact h_vret hM dJ12_fill_3_20 hr rfl rfl

set_option maxRecDepth 100000 in
theorem w_f_J12_fill_3 {X : Ctx} (hM : MX X yJ12_fill_3 cJ12_fill_3 4 "java/util/Arrays" none rm_J12_fill_3 []) {x0 : Option Nat} {x1 : Int32} {A : AH} {out : AH} (hf : f_J12_fill_3 x0 x1 A = some out) (hr : c_res X = r_J12_fill_3 A out) : G X 0 0 0 [(0, vr x0), (1, vi x1)] [] A := by
  have hX := hM.1
  unfold f_J12_fill_3 at hf
  refine g_iconst hX dJ12_fill_3_0 (0 : Int32) (by decide) ?_
  refine g_istore_n hX dJ12_fill_3_1 [(2, vi (0 : Int32)), (0, vr x0), (1, vi x1)] (by decide) rfl ?_
  refine g_aload_n hX dJ12_fill_3_2 (lg_at 1 rfl) ?_
  refine g_alen hX 10 rfl hf dJ12_fill_3_3 (fun v3 hf => ?_)
  refine g_istore_n hX dJ12_fill_3_4 [(3, vi v3), (2, vi (0 : Int32)), (0, vr x0), (1, vi x1)] (by decide) rfl ?_
  exact g_pick (w_l_J12_fill_3_5 hM hf hr) [2, 3, 1, 0] rfl

theorem m_J12_fill_3 {l : Launch} {x0 : Option Nat} {x1 : Int32} {A : AH} {out : AH} (h : f_J12_fill_3 x0 x1 A = some out) : MetF l yJ12_fill_3 (Cond.code yJ12_fill_3 cJ12_fill_3 4 none) rm_J12_fill_3 [vr x0, vi x1] A (r_J12_fill_3 A out) :=
  metF_of rfl rfl (Nat.le_of_ble_eq_true rfl) fun X hX hl hR hnm hr h1 h2 hno => w_f_J12_fill_3 (X := X) ⟨hX, hR, h1, h2, fun _ => ⟨hnm, hno⟩⟩ h hr

/-! SlimeNet.chance(I)I -/
def rm_X0_chance : Room := { frames := 2, cells := 0, slots := 0, locals := 47 }
def r_X0_chance (_A : AH) (o : Int32 × AH) : (Option AV × AH) ⊕ (Nat × AH) := .inl (some (vi o.1), o.2)
def k_X0_chance_13 (X : Ctx) (this : Nat) : ((Int64 × Int32 × AH) ⊕ (AH)) → Prop
  | .inl (x2, x4, A) => G X 0 0 13 [(0, vr (some this)), (2, vl x2), (4, vi x4)] [] A
  | .inr A => G X 0 0 70 [(0, vr (some this))] [] A

set_option maxRecDepth 100000 in
theorem w_s_X0_chance_13 {X : Ctx} (hM : MX X yX0_chance cX0_chance 5 "SlimeNet" (some Jvm.ClassFile.FieldType.int) rm_X0_chance []) {this : Nat} {st : Int64 × Int32 × AH} {out : (Int64 × Int32 × AH) ⊕ (AH)} (hf : s_X0_chance_13 this st = some out) (K : k_X0_chance_13 X this out) : k_X0_chance_13 X this (.inl st) := by
  have hX := hM.1
  obtain ⟨x2, x4, A⟩ := st
  unfold s_X0_chance_13 at hf
  dsimp only at hf
  show G X 0 0 13 [(0, vr (some this)), (2, vl x2), (4, vi x4)] [] A
  refine g_iload hX dX0_chance_13 (lg_at 2 rfl) ?_
  refine g_aload_n hX dX0_chance_15 (lg_at 0 rfl) ?_
  refine g_getR hX hf fs_SlimeNet_27_1 rfl dX0_chance_16 (fun v16 hf => ?_)
  refine g_getR hX hf fs_SlimeNet_143_3 rfl dX0_chance_19 (fun v19 hf => ?_)
  obtain ⟨k22, hk22, hf⟩ := ob_some hf
  obtain ⟨v22, hc22, hf⟩ := ob_some hf
  refine h_callV hM [] dX0_chance_22 cs_SlimeNet_147_8 hk22 (m_J4_size hc22) rfl rfl rfl rfl ?_
  refine g_icmp_ge hX dX0_chance_25 70 hf (by decide) (fun c25 hf => ?_) (fun c25 hf => ?_)
  · cases hf
    exact g_pick (show G X _ _ _ _ _ _ from K) [0] rfl
  · refine g_ldc2 hX dX0_chance_28 (v := (1103515245 : Int64)) (lw_LW q888) ?_
    refine g_lload_n hX dX0_chance_31 (lg_at 1 rfl) ?_
    refine g_lmul hX dX0_chance_32 ?_
    refine g_ldc2 hX dX0_chance_33 (v := (12345 : Int64)) (lw_LW q889) ?_
    refine g_ladd hX dX0_chance_36 ?_
    refine g_ldc2 hX dX0_chance_37 (v := (2147483648 : Int64)) (lw_LW q890) ?_
    refine g_lrem hX dX0_chance_40 hf (fun v40 _ hf => ?_)
    refine g_lstore_n hX dX0_chance_41 [(2, vl v40), (0, vr (some this)), (4, vi x4)] (by decide) rfl ?_
    refine g_aload_n hX dX0_chance_42 (lg_at 1 rfl) ?_
    refine g_getR hX hf fs_SlimeNet_34_1 rfl dX0_chance_43 (fun v43 hf => ?_)
    refine g_getR hX hf fs_SlimeNet_203_4 rfl dX0_chance_46 (fun v46 hf => ?_)
    refine g_iload hX dX0_chance_49 (lg_at 2 rfl) ?_
    refine g_lconst hX dX0_chance_51 (1 : Int64) (by decide) ?_
    refine g_lload_n hX dX0_chance_52 (lg_at 0 rfl) ?_
    refine g_ldc2 hX dX0_chance_53 (v := (65536 : Int64)) (lw_LW q891) ?_
    refine g_ldiv hX dX0_chance_56 hf (fun v56 _ hf => ?_)
    refine g_ldc2 hX dX0_chance_57 (v := (9 : Int64)) (lw_LW q892) ?_
    refine g_lrem hX dX0_chance_60 hf (fun v60 _ hf => ?_)
    refine g_ladd hX dX0_chance_61 ?_
    refine g_l2i hX dX0_chance_62 ?_
    refine g_iast hX hf dX0_chance_63 (fun A63 hf => ?_)
    refine g_iinc hX dX0_chance_64 (1 : Int32) (x4 + (1 : Int32)) [(4, vi (x4 + (1 : Int32))), (2, vl v40), (0, vr (some this))] (by decide) rfl (lg_at 2 rfl) (by decide) rfl ?_
    refine g_goto hX dX0_chance_67 13 (by decide) ?_
    cases hf
    exact g_pick (show G X _ _ _ _ _ _ from K) [2, 1, 0] rfl

set_option maxRecDepth 100000 in
theorem w_l_X0_chance_13 {X : Ctx} (hM : MX X yX0_chance cX0_chance 5 "SlimeNet" (some Jvm.ClassFile.FieldType.int) rm_X0_chance []) {this : Nat} {x2 : Int64} {x4 : Int32} {A : AH} {out : Int32 × AH} (hf : l_X0_chance_13 this x2 x4 A = some out) (hr : c_res X = r_X0_chance A out) : G X 0 0 13 [(0, vr (some this)), (2, vl x2), (4, vi x4)] [] A := by
  have hX := hM.1
  unfold l_X0_chance_13 at hf
  obtain ⟨e, hw, hf⟩ := ob_some hf
  refine (whl_ind (k_X0_chance_13 X this) (fun st o hs K => w_s_X0_chance_13 hM hs K) hw ?_ : k_X0_chance_13 X this (.inl (x2, x4, A)))
  revert hf hw; generalize e = A; intro hw hf
  dsimp only at hf
  show G X 0 0 70 [(0, vr (some this))] [] A
  refine g_aload_n hX dX0_chance_70 (lg_at 0 rfl) ?_
  refine g_getR hX hf fs_SlimeNet_34_1 rfl dX0_chance_71 (fun v71 hf => ?_)
  refine g_getR hX hf fs_SlimeNet_206_4 rfl dX0_chance_74 (fun v74 hf => ?_)
  refine g_iconst hX dX0_chance_77 (0 : Int32) (by decide) ?_
  obtain ⟨A78, hc78, hf⟩ := ob_some hf
  refine h_callS hM [vr v74, vi (0 : Int32)] dX0_chance_78 cs_SlimeNet_257_s (m_J12_fill_3 hc78) rfl rfl rfl rfl ?_
  refine g_aload_n hX dX0_chance_81 (lg_at 0 rfl) ?_
  refine g_getR hX hf fs_SlimeNet_34_1 rfl dX0_chance_82 (fun v82 hf => ?_)
  refine g_iconst hX dX0_chance_85 (0 : Int32) (by decide) ?_
  refine g_putI hX hf fs_SlimeNet_234_4 ⟨_, rfl, Or.inl rfl⟩ rfl dX0_chance_86 (fun A86 hf => ?_)
  refine g_iconst hX dX0_chance_89 (1 : Int32) (by decide) ?_
  cases hf
  exact h_iret hM dX0_chance_90 hr rfl rfl

set_option maxRecDepth 100000 in
theorem w_f_X0_chance {X : Ctx} (hM : MX X yX0_chance cX0_chance 5 "SlimeNet" (some Jvm.ClassFile.FieldType.int) rm_X0_chance []) {this : Nat} {x1 : Int32} {A : AH} {out : Int32 × AH} (hf : f_X0_chance this x1 A = some out) (hr : c_res X = r_X0_chance A out) : G X 0 0 0 [(0, vr (some this)), (1, vi x1)] [] A := by
  have hX := hM.1
  unfold f_X0_chance at hf
  refine g_iload_n hX dX0_chance_0 (lg_at 1 rfl) ?_
  refine g_if_ge hX dX0_chance_1 7 hf (by decide) (fun c1 hf => ?_) (fun c1 hf => ?_)
  · refine g_iload_n hX dX0_chance_7 (lg_at 1 rfl) ?_
    refine g_i2l hX dX0_chance_8 ?_
    refine g_lstore_n hX dX0_chance_9 [(2, vl (Int32.toInt64 x1)), (0, vr (some this)), (1, vi x1)] (by decide) rfl ?_
    refine g_iconst hX dX0_chance_10 (0 : Int32) (by decide) ?_
    refine g_istore hX dX0_chance_11 [(4, vi (0 : Int32)), (2, vl (Int32.toInt64 x1)), (0, vr (some this)), (1, vi x1)] (by decide) rfl ?_
    exact g_pick (w_l_X0_chance_13 hM hf hr) [2, 1, 0] rfl
  · refine g_bipush hX dX0_chance_4 (-2 : Int32) (by decide) ?_
    cases hf
    exact h_iret hM dX0_chance_6 hr rfl rfl

theorem m_X0_chance {l : Launch} {this : Nat} {x1 : Int32} {A : AH} {out : Int32 × AH} (h : f_X0_chance this x1 A = some out) : MetF l yX0_chance (Cond.code yX0_chance cX0_chance 5 (some Jvm.ClassFile.FieldType.int)) rm_X0_chance [vr (some this), vi x1] A (r_X0_chance A out) :=
  metF_of rfl rfl (Nat.le_of_ble_eq_true rfl) fun X hX hl hR hnm hr h1 h2 hno => w_f_X0_chance (X := X) ⟨hX, hR, h1, h2, fun _ => ⟨hnm, hno⟩⟩ h hr

/-! SlimeNetModel.chance(I)I -/
def rm_X4_chance : Room := { frames := 1, cells := 0, slots := 0, locals := 24 }
def r_X4_chance (_A : AH) (o : Int32 × AH) : (Option AV × AH) ⊕ (Nat × AH) := .inl (some (vi o.1), o.2)
def k_X4_chance_13 (X : Ctx) (this : Nat) : ((Int64 × Int32 × AH) ⊕ (AH)) → Prop
  | .inl (x2, x4, A) => G X 0 0 13 [(0, vr (some this)), (2, vl x2), (4, vi x4)] [] A
  | .inr A => G X 0 0 69 [(0, vr (some this))] [] A

set_option maxRecDepth 100000 in
theorem w_s_X4_chance_13 {X : Ctx} (hM : MX X yX4_chance cX4_chance 5 "SlimeNetModel" (some Jvm.ClassFile.FieldType.int) rm_X4_chance []) {this : Nat} {st : Int64 × Int32 × AH} {out : (Int64 × Int32 × AH) ⊕ (AH)} (hf : s_X4_chance_13 this st = some out) (K : k_X4_chance_13 X this out) : k_X4_chance_13 X this (.inl st) := by
  have hX := hM.1
  obtain ⟨x2, x4, A⟩ := st
  unfold s_X4_chance_13 at hf
  dsimp only at hf
  show G X 0 0 13 [(0, vr (some this)), (2, vl x2), (4, vi x4)] [] A
  refine g_iload hX dX4_chance_13 (lg_at 2 rfl) ?_
  refine g_aload_n hX dX4_chance_15 (lg_at 0 rfl) ?_
  refine g_getI hX hf fs_SlimeNetModel_297_5 rfl dX4_chance_16 (fun v16 hf => ?_)
  refine g_icmp_ge hX dX4_chance_19 69 hf (by decide) (fun c19 hf => ?_) (fun c19 hf => ?_)
  · cases hf
    exact g_pick (show G X _ _ _ _ _ _ from K) [0] rfl
  · refine g_ldc2 hX dX4_chance_22 (v := (1103515245 : Int64)) (lw_LW q1460) ?_
    refine g_lload_n hX dX4_chance_25 (lg_at 1 rfl) ?_
    refine g_lmul hX dX4_chance_26 ?_
    refine g_ldc2 hX dX4_chance_27 (v := (12345 : Int64)) (lw_LW q1461) ?_
    refine g_ladd hX dX4_chance_30 ?_
    refine g_ldc2 hX dX4_chance_31 (v := (2147483648 : Int64)) (lw_LW q1462) ?_
    refine g_lrem hX dX4_chance_34 hf (fun v34 _ hf => ?_)
    refine g_lstore_n hX dX4_chance_35 [(2, vl v34), (0, vr (some this)), (4, vi x4)] (by decide) rfl ?_
    refine g_aload_n hX dX4_chance_36 (lg_at 1 rfl) ?_
    refine g_getR hX hf fs_SlimeNetModel_215_5 rfl dX4_chance_37 (fun v37 hf => ?_)
    refine g_iload hX dX4_chance_40 (lg_at 2 rfl) ?_
    refine g_iconst hX dX4_chance_42 (1 : Int32) (by decide) ?_
    refine g_lload_n hX dX4_chance_43 (lg_at 0 rfl) ?_
    refine g_ldc2 hX dX4_chance_44 (v := (65536 : Int64)) (lw_LW q1463) ?_
    refine g_ldiv hX dX4_chance_47 hf (fun v47 _ hf => ?_)
    refine g_ldc2 hX dX4_chance_48 (v := (9 : Int64)) (lw_LW q1369) ?_
    refine g_lrem hX dX4_chance_51 hf (fun v51 _ hf => ?_)
    refine g_l2i hX dX4_chance_52 ?_
    refine g_iadd hX dX4_chance_53 ?_
    refine g_iast hX hf dX4_chance_54 (fun A54 hf => ?_)
    refine g_aload_n hX dX4_chance_55 (lg_at 1 rfl) ?_
    refine g_getR hX hf fs_SlimeNetModel_217_5 rfl dX4_chance_56 (fun v56 hf => ?_)
    refine g_iload hX dX4_chance_59 (lg_at 2 rfl) ?_
    refine g_iconst hX dX4_chance_61 (0 : Int32) (by decide) ?_
    refine g_iast hX hf dX4_chance_62 (fun A62 hf => ?_)
    refine g_iinc hX dX4_chance_63 (1 : Int32) (x4 + (1 : Int32)) [(4, vi (x4 + (1 : Int32))), (2, vl v34), (0, vr (some this))] (by decide) rfl (lg_at 2 rfl) (by decide) rfl ?_
    refine g_goto hX dX4_chance_66 13 (by decide) ?_
    cases hf
    exact g_pick (show G X _ _ _ _ _ _ from K) [2, 1, 0] rfl

set_option maxRecDepth 100000 in
theorem w_l_X4_chance_13 {X : Ctx} (hM : MX X yX4_chance cX4_chance 5 "SlimeNetModel" (some Jvm.ClassFile.FieldType.int) rm_X4_chance []) {this : Nat} {x2 : Int64} {x4 : Int32} {A : AH} {out : Int32 × AH} (hf : l_X4_chance_13 this x2 x4 A = some out) (hr : c_res X = r_X4_chance A out) : G X 0 0 13 [(0, vr (some this)), (2, vl x2), (4, vi x4)] [] A := by
  have hX := hM.1
  unfold l_X4_chance_13 at hf
  obtain ⟨e, hw, hf⟩ := ob_some hf
  refine (whl_ind (k_X4_chance_13 X this) (fun st o hs K => w_s_X4_chance_13 hM hs K) hw ?_ : k_X4_chance_13 X this (.inl (x2, x4, A)))
  revert hf hw; generalize e = A; intro hw hf
  dsimp only at hf
  show G X 0 0 69 [(0, vr (some this))] [] A
  refine g_aload_n hX dX4_chance_69 (lg_at 0 rfl) ?_
  refine g_iconst hX dX4_chance_70 (0 : Int32) (by decide) ?_
  refine g_putI hX hf fs_SlimeNetModel_362_5 ⟨_, rfl, Or.inl rfl⟩ rfl dX4_chance_71 (fun A71 hf => ?_)
  refine g_iconst hX dX4_chance_74 (1 : Int32) (by decide) ?_
  cases hf
  exact h_iret hM dX4_chance_75 hr rfl rfl

set_option maxRecDepth 100000 in
theorem w_f_X4_chance {X : Ctx} (hM : MX X yX4_chance cX4_chance 5 "SlimeNetModel" (some Jvm.ClassFile.FieldType.int) rm_X4_chance []) {this : Nat} {x1 : Int32} {A : AH} {out : Int32 × AH} (hf : f_X4_chance this x1 A = some out) (hr : c_res X = r_X4_chance A out) : G X 0 0 0 [(0, vr (some this)), (1, vi x1)] [] A := by
  have hX := hM.1
  unfold f_X4_chance at hf
  refine g_iload_n hX dX4_chance_0 (lg_at 1 rfl) ?_
  refine g_if_ge hX dX4_chance_1 7 hf (by decide) (fun c1 hf => ?_) (fun c1 hf => ?_)
  · refine g_iload_n hX dX4_chance_7 (lg_at 1 rfl) ?_
    refine g_i2l hX dX4_chance_8 ?_
    refine g_lstore_n hX dX4_chance_9 [(2, vl (Int32.toInt64 x1)), (0, vr (some this)), (1, vi x1)] (by decide) rfl ?_
    refine g_iconst hX dX4_chance_10 (0 : Int32) (by decide) ?_
    refine g_istore hX dX4_chance_11 [(4, vi (0 : Int32)), (2, vl (Int32.toInt64 x1)), (0, vr (some this)), (1, vi x1)] (by decide) rfl ?_
    exact g_pick (w_l_X4_chance_13 hM hf hr) [2, 1, 0] rfl
  · refine g_bipush hX dX4_chance_4 (-2 : Int32) (by decide) ?_
    cases hf
    exact h_iret hM dX4_chance_6 hr rfl rfl

theorem m_X4_chance {l : Launch} {this : Nat} {x1 : Int32} {A : AH} {out : Int32 × AH} (h : f_X4_chance this x1 A = some out) : MetF l yX4_chance (Cond.code yX4_chance cX4_chance 5 (some Jvm.ClassFile.FieldType.int)) rm_X4_chance [vr (some this), vi x1] A (r_X4_chance A out) :=
  metF_of rfl rfl (Nat.le_of_ble_eq_true rfl) fun X hX hl hR hnm hr h1 h2 hno => w_f_X4_chance (X := X) ⟨hX, hR, h1, h2, fun _ => ⟨hnm, hno⟩⟩ h hr

/-! SlimeNet.isSlot(I)Z -/
def rm_X0_isSlot : Room := { frames := 2, cells := 0, slots := 0, locals := 46 }
def r_X0_isSlot (A : AH) (o : Int32) : (Option AV × AH) ⊕ (Nat × AH) := .inl (some (vi o), A)
set_option maxRecDepth 100000 in
theorem w_f_X0_isSlot {X : Ctx} (hM : MX X yX0_isSlot cX0_isSlot 1 "SlimeNet" (some Jvm.ClassFile.FieldType.boolean) rm_X0_isSlot []) {x0 : Int32} {A : AH} {out : Int32} (hf : f_X0_isSlot x0 = some out) (hr : c_res X = r_X0_isSlot A out) : G X 0 0 0 [(0, vi x0)] [] A := by
  have hX := hM.1
  unfold f_X0_isSlot at hf
  refine g_iload_n hX dX0_isSlot_0 (lg_at 0 rfl) ?_
  refine g_iconst hX dX0_isSlot_1 (0 : Int32) (by decide) ?_
  refine g_iconst hX dX0_isSlot_2 (3 : Int32) (by decide) ?_
  obtain ⟨v3, hc3, hf⟩ := ob_some hf
  refine h_callS hM [vi x0, vi (0 : Int32), vi (3 : Int32)] dX0_isSlot_3 cs_SlimeNet_153_s (m_X0_in hc3) rfl rfl rfl rfl ?_
  obtain ⟨w6, hz6, hf⟩ := ob_some hf
  cases hf
  exact h_zret hM dX0_isSlot_6 hr rfl (ckZ_nar hz6).2 rfl

theorem m_X0_isSlot {l : Launch} {x0 : Int32} {A : AH} {out : Int32} (h : f_X0_isSlot x0 = some out) : MetF l yX0_isSlot (Cond.code yX0_isSlot cX0_isSlot 1 (some Jvm.ClassFile.FieldType.boolean)) rm_X0_isSlot [vi x0] A (r_X0_isSlot A out) :=
  metF_of rfl rfl (Nat.le_of_ble_eq_true rfl) fun X hX hl hR hnm hr h1 h2 hno => w_f_X0_isSlot (X := X) ⟨hX, hR, h1, h2, fun _ => ⟨hnm, hno⟩⟩ h hr

/-! SlimeNet$Slime.become(LSlimeNet$Slime;)V -/
def rm_X3_become : Room := { frames := 1, cells := 0, slots := 0, locals := 24 }
def r_X3_become (_A : AH) (o : AH) : (Option AV × AH) ⊕ (Nat × AH) := .inl (none, o)
def k_X3_become_10 (X : Ctx) (this : Nat) (x1 : Option Nat) : ((Int32 × AH) ⊕ (AH)) → Prop
  | .inl (x2, A) => G X 0 0 10 [(0, vr (some this)), (1, vr x1), (2, vi x2)] [] A
  | .inr A => G X 0 0 46 [] [] A

set_option maxRecDepth 100000 in
theorem w_s_X3_become_10 {X : Ctx} (hM : MX X yX3_become cX3_become 3 "SlimeNet$Slime" none rm_X3_become []) {this : Nat} {x1 : Option Nat} {st : Int32 × AH} {out : (Int32 × AH) ⊕ (AH)} (hf : s_X3_become_10 this x1 st = some out) (K : k_X3_become_10 X this x1 out) : k_X3_become_10 X this x1 (.inl st) := by
  have hX := hM.1
  obtain ⟨x2, A⟩ := st
  unfold s_X3_become_10 at hf
  dsimp only at hf
  show G X 0 0 10 [(0, vr (some this)), (1, vr x1), (2, vi x2)] [] A
  refine g_iload_n hX dX3_become_10 (lg_at 2 rfl) ?_
  refine g_bipush hX dX3_become_11 (10 : Int32) (by decide) ?_
  refine g_icmp_ge hX dX3_become_13 46 hf (by decide) (fun c13 hf => ?_) (fun c13 hf => ?_)
  · cases hf
    exact g_pick (show G X _ _ _ _ _ _ from K) [] rfl
  · refine g_aload_n hX dX3_become_16 (lg_at 0 rfl) ?_
    refine g_getR hX hf fs_SlimeNet_Slime_9_4 rfl dX3_become_17 (fun v17 hf => ?_)
    refine g_iload_n hX dX3_become_20 (lg_at 2 rfl) ?_
    refine g_aload_n hX dX3_become_21 (lg_at 1 rfl) ?_
    refine g_getR hX hf fs_SlimeNet_Slime_9_4 rfl dX3_become_22 (fun v22 hf => ?_)
    refine g_iload_n hX dX3_become_25 (lg_at 2 rfl) ?_
    refine g_iald hX hf dX3_become_26 (fun v26 hf => ?_)
    refine g_iast hX hf dX3_become_27 (fun A27 hf => ?_)
    refine g_aload_n hX dX3_become_28 (lg_at 0 rfl) ?_
    refine g_getR hX hf fs_SlimeNet_Slime_15_4 rfl dX3_become_29 (fun v29 hf => ?_)
    refine g_iload_n hX dX3_become_32 (lg_at 2 rfl) ?_
    refine g_aload_n hX dX3_become_33 (lg_at 1 rfl) ?_
    refine g_getR hX hf fs_SlimeNet_Slime_15_4 rfl dX3_become_34 (fun v34 hf => ?_)
    refine g_iload_n hX dX3_become_37 (lg_at 2 rfl) ?_
    refine g_iald hX hf dX3_become_38 (fun v38 hf => ?_)
    refine g_iast hX hf dX3_become_39 (fun A39 hf => ?_)
    refine g_iinc hX dX3_become_40 (1 : Int32) (x2 + (1 : Int32)) [(2, vi (x2 + (1 : Int32))), (0, vr (some this)), (1, vr x1)] (by decide) rfl (lg_at 2 rfl) (by decide) rfl ?_
    refine g_goto hX dX3_become_43 10 (by decide) ?_
    cases hf
    exact g_pick (show G X _ _ _ _ _ _ from K) [1, 2, 0] rfl

set_option maxRecDepth 100000 in
theorem w_l_X3_become_10 {X : Ctx} (hM : MX X yX3_become cX3_become 3 "SlimeNet$Slime" none rm_X3_become []) {this : Nat} {x1 : Option Nat} {x2 : Int32} {A : AH} {out : AH} (hf : l_X3_become_10 this x1 x2 A = some out) (hr : c_res X = r_X3_become A out) : G X 0 0 10 [(0, vr (some this)), (1, vr x1), (2, vi x2)] [] A := by
  have hX := hM.1
  unfold l_X3_become_10 at hf
  obtain ⟨e, hw, hf⟩ := ob_some hf
  refine (whl_ind (k_X3_become_10 X this x1) (fun st o hs K => w_s_X3_become_10 hM hs K) hw ?_ : k_X3_become_10 X this x1 (.inl (x2, A)))
  revert hf hw; generalize e = A; intro hw hf
  dsimp only at hf
  show G X 0 0 46 [] [] A
  cases hf
  exact h_vret hM dX3_become_46 hr rfl rfl

set_option maxRecDepth 100000 in
theorem w_f_X3_become {X : Ctx} (hM : MX X yX3_become cX3_become 3 "SlimeNet$Slime" none rm_X3_become []) {this : Nat} {x1 : Option Nat} {A : AH} {out : AH} (hf : f_X3_become this x1 A = some out) (hr : c_res X = r_X3_become A out) : G X 0 0 0 [(0, vr (some this)), (1, vr x1)] [] A := by
  have hX := hM.1
  unfold f_X3_become at hf
  refine g_aload_n hX dX3_become_0 (lg_at 0 rfl) ?_
  refine g_aload_n hX dX3_become_1 (lg_at 1 rfl) ?_
  refine g_getI hX hf fs_SlimeNet_Slime_49_4 rfl dX3_become_2 (fun v2 hf => ?_)
  refine g_putI hX hf fs_SlimeNet_Slime_49_4 ⟨_, rfl, Or.inl rfl⟩ rfl dX3_become_5 (fun A5 hf => ?_)
  refine g_iconst hX dX3_become_8 (0 : Int32) (by decide) ?_
  refine g_istore_n hX dX3_become_9 [(2, vi (0 : Int32)), (0, vr (some this)), (1, vr x1)] (by decide) rfl ?_
  exact g_pick (w_l_X3_become_10 hM hf hr) [1, 2, 0] rfl

theorem m_X3_become {l : Launch} {this : Nat} {x1 : Option Nat} {A : AH} {out : AH} (h : f_X3_become this x1 A = some out) : MetF l yX3_become (Cond.code yX3_become cX3_become 3 none) rm_X3_become [vr (some this), vr x1] A (r_X3_become A out) :=
  metF_of rfl rfl (Nat.le_of_ble_eq_true rfl) fun X hX hl hR hnm hr h1 h2 hno => w_f_X3_become (X := X) ⟨hX, hR, h1, h2, fun _ => ⟨hnm, hno⟩⟩ h hr

/-! SlimeNet.keep(I)I -/
def rm_X0_keep : Room := { frames := 3, cells := 0, slots := 0, locals := 66 }
def r_X0_keep (_A : AH) (o : Int32 × AH) : (Option AV × AH) ⊕ (Nat × AH) := .inl (some (vi o.1), o.2)
set_option maxRecDepth 100000 in
theorem w_f_X0_keep {X : Ctx} (hM : MX X yX0_keep cX0_keep 2 "SlimeNet" (some Jvm.ClassFile.FieldType.int) rm_X0_keep []) {this : Nat} {x1 : Int32} {A : AH} {out : Int32 × AH} (hf : f_X0_keep this x1 A = some out) (hr : c_res X = r_X0_keep A out) : G X 0 0 0 [(0, vr (some this)), (1, vi x1)] [] A := by
  have hX := hM.1
  unfold f_X0_keep at hf
  refine g_iload_n hX dX0_keep_0 (lg_at 1 rfl) ?_
  obtain ⟨v1, hc1, hf⟩ := ob_some hf
  refine h_callS hM [vi x1] dX0_keep_1 cs_SlimeNet_260_s (m_X0_isSlot hc1) rfl rfl rfl rfl ?_
  refine g_if_ne hX dX0_keep_4 10 hf (by decide) (fun c4 hf => ?_) (fun c4 hf => ?_)
  · refine g_aload_n hX dX0_keep_10 (lg_at 0 rfl) ?_
    refine g_getR hX hf fs_SlimeNet_41_1 rfl dX0_keep_11 (fun v11 hf => ?_)
    refine g_iload_n hX dX0_keep_14 (lg_at 1 rfl) ?_
    refine g_aald hX rfl hf dX0_keep_15 (fun v15 hf => ?_)
    refine g_aload_n hX dX0_keep_16 (lg_at 0 rfl) ?_
    refine g_getR hX hf fs_SlimeNet_34_1 rfl dX0_keep_17 (fun v17 hf => ?_)
    obtain ⟨k20, hk20, hf⟩ := ob_some hf
    obtain ⟨A20, hc20, hf⟩ := ob_some hf
    refine h_callV hM [vr v17] dX0_keep_20 cs_SlimeNet_263_4 hk20 (m_X3_become hc20) rfl rfl rfl rfl ?_
    refine g_aload_n hX dX0_keep_23 (lg_at 0 rfl) ?_
    refine g_getR hX hf fs_SlimeNet_45_1 rfl dX0_keep_24 (fun v24 hf => ?_)
    refine g_iload_n hX dX0_keep_27 (lg_at 1 rfl) ?_
    refine g_iconst hX dX0_keep_28 (1 : Int32) (by decide) ?_
    refine g_zast hX hf dX0_keep_29 (fun A29 hf => ?_)
    refine g_aload_n hX dX0_keep_30 (lg_at 0 rfl) ?_
    refine g_getR hX hf fs_SlimeNet_34_1 rfl dX0_keep_31 (fun v31 hf => ?_)
    refine g_getI hX hf fs_SlimeNet_234_4 rfl dX0_keep_34 (fun v34 hf => ?_)
    cases hf
    exact h_iret hM dX0_keep_37 hr rfl rfl
  · refine g_bipush hX dX0_keep_7 (-2 : Int32) (by decide) ?_
    cases hf
    exact h_iret hM dX0_keep_9 hr rfl rfl

theorem m_X0_keep {l : Launch} {this : Nat} {x1 : Int32} {A : AH} {out : Int32 × AH} (h : f_X0_keep this x1 A = some out) : MetF l yX0_keep (Cond.code yX0_keep cX0_keep 2 (some Jvm.ClassFile.FieldType.int)) rm_X0_keep [vr (some this), vi x1] A (r_X0_keep A out) :=
  metF_of rfl rfl (Nat.le_of_ble_eq_true rfl) fun X hX hl hR hnm hr h1 h2 hno => w_f_X0_keep (X := X) ⟨hX, hR, h1, h2, fun _ => ⟨hnm, hno⟩⟩ h hr

/-! SlimeNetModel.isSlot(I)Z -/
def rm_X4_isSlot : Room := { frames := 2, cells := 0, slots := 0, locals := 49 }
def r_X4_isSlot (A : AH) (o : Int32) : (Option AV × AH) ⊕ (Nat × AH) := .inl (some (vi o), A)
set_option maxRecDepth 100000 in
theorem w_f_X4_isSlot {X : Ctx} (hM : MX X yX4_isSlot cX4_isSlot 1 "SlimeNetModel" (some Jvm.ClassFile.FieldType.boolean) rm_X4_isSlot []) {x0 : Int32} {A : AH} {out : Int32} (hf : f_X4_isSlot x0 = some out) (hr : c_res X = r_X4_isSlot A out) : G X 0 0 0 [(0, vi x0)] [] A := by
  have hX := hM.1
  unfold f_X4_isSlot at hf
  refine g_iload_n hX dX4_isSlot_0 (lg_at 0 rfl) ?_
  refine g_i2l hX dX4_isSlot_1 ?_
  refine g_lconst hX dX4_isSlot_2 (0 : Int64) (by decide) ?_
  refine g_ldc2 hX dX4_isSlot_3 (v := (3 : Int64)) (lw_LW q1471) ?_
  obtain ⟨v6, hc6, hf⟩ := ob_some hf
  refine h_callS hM [vl (Int32.toInt64 x0), vl (0 : Int64), vl (3 : Int64)] dX4_isSlot_6 cs_SlimeNetModel_52_s (m_X4_in hc6) rfl rfl rfl rfl ?_
  obtain ⟨w9, hz9, hf⟩ := ob_some hf
  cases hf
  exact h_zret hM dX4_isSlot_9 hr rfl (ckZ_nar hz9).2 rfl

theorem m_X4_isSlot {l : Launch} {x0 : Int32} {A : AH} {out : Int32} (h : f_X4_isSlot x0 = some out) : MetF l yX4_isSlot (Cond.code yX4_isSlot cX4_isSlot 1 (some Jvm.ClassFile.FieldType.boolean)) rm_X4_isSlot [vi x0] A (r_X4_isSlot A out) :=
  metF_of rfl rfl (Nat.le_of_ble_eq_true rfl) fun X hX hl hR hnm hr h1 h2 hno => w_f_X4_isSlot (X := X) ⟨hX, hR, h1, h2, fun _ => ⟨hnm, hno⟩⟩ h hr

/-! SlimeNetModel.keep(I)I -/
def rm_X4_keep : Room := { frames := 3, cells := 0, slots := 0, locals := 69 }
def r_X4_keep (_A : AH) (o : Int32 × AH) : (Option AV × AH) ⊕ (Nat × AH) := .inl (some (vi o.1), o.2)
def k_X4_keep_12 (X : Ctx) (this : Nat) (x1 : Int32) : ((Int32 × AH) ⊕ (AH)) → Prop
  | .inl (x2, A) => G X 0 0 12 [(0, vr (some this)), (1, vi x1), (2, vi x2)] [] A
  | .inr A => G X 0 0 60 [(0, vr (some this)), (1, vi x1)] [] A

set_option maxRecDepth 100000 in
theorem w_s_X4_keep_12 {X : Ctx} (hM : MX X yX4_keep cX4_keep 3 "SlimeNetModel" (some Jvm.ClassFile.FieldType.int) rm_X4_keep []) {this : Nat} {x1 : Int32} {st : Int32 × AH} {out : (Int32 × AH) ⊕ (AH)} (hf : s_X4_keep_12 this x1 st = some out) (K : k_X4_keep_12 X this x1 out) : k_X4_keep_12 X this x1 (.inl st) := by
  have hX := hM.1
  obtain ⟨x2, A⟩ := st
  unfold s_X4_keep_12 at hf
  dsimp only at hf
  show G X 0 0 12 [(0, vr (some this)), (1, vi x1), (2, vi x2)] [] A
  refine g_iload_n hX dX4_keep_12 (lg_at 2 rfl) ?_
  refine g_aload_n hX dX4_keep_13 (lg_at 0 rfl) ?_
  refine g_getI hX hf fs_SlimeNetModel_297_5 rfl dX4_keep_14 (fun v14 hf => ?_)
  refine g_icmp_ge hX dX4_keep_17 60 hf (by decide) (fun c17 hf => ?_) (fun c17 hf => ?_)
  · cases hf
    exact g_pick (show G X _ _ _ _ _ _ from K) [0, 1] rfl
  · refine g_aload_n hX dX4_keep_20 (lg_at 0 rfl) ?_
    refine g_getR hX hf fs_SlimeNetModel_229_5 rfl dX4_keep_21 (fun v21 hf => ?_)
    refine g_bipush hX dX4_keep_24 (10 : Int32) (by decide) ?_
    refine g_iload_n hX dX4_keep_26 (lg_at 1 rfl) ?_
    refine g_imul hX dX4_keep_27 ?_
    refine g_iload_n hX dX4_keep_28 (lg_at 2 rfl) ?_
    refine g_iadd hX dX4_keep_29 ?_
    refine g_aload_n hX dX4_keep_30 (lg_at 0 rfl) ?_
    refine g_getR hX hf fs_SlimeNetModel_215_5 rfl dX4_keep_31 (fun v31 hf => ?_)
    refine g_iload_n hX dX4_keep_34 (lg_at 2 rfl) ?_
    refine g_iald hX hf dX4_keep_35 (fun v35 hf => ?_)
    refine g_iast hX hf dX4_keep_36 (fun A36 hf => ?_)
    refine g_aload_n hX dX4_keep_37 (lg_at 0 rfl) ?_
    refine g_getR hX hf fs_SlimeNetModel_232_5 rfl dX4_keep_38 (fun v38 hf => ?_)
    refine g_bipush hX dX4_keep_41 (10 : Int32) (by decide) ?_
    refine g_iload_n hX dX4_keep_43 (lg_at 1 rfl) ?_
    refine g_imul hX dX4_keep_44 ?_
    refine g_iload_n hX dX4_keep_45 (lg_at 2 rfl) ?_
    refine g_iadd hX dX4_keep_46 ?_
    refine g_aload_n hX dX4_keep_47 (lg_at 0 rfl) ?_
    refine g_getR hX hf fs_SlimeNetModel_217_5 rfl dX4_keep_48 (fun v48 hf => ?_)
    refine g_iload_n hX dX4_keep_51 (lg_at 2 rfl) ?_
    refine g_iald hX hf dX4_keep_52 (fun v52 hf => ?_)
    refine g_iast hX hf dX4_keep_53 (fun A53 hf => ?_)
    refine g_iinc hX dX4_keep_54 (1 : Int32) (x2 + (1 : Int32)) [(2, vi (x2 + (1 : Int32))), (0, vr (some this)), (1, vi x1)] (by decide) rfl (lg_at 2 rfl) (by decide) rfl ?_
    refine g_goto hX dX4_keep_57 12 (by decide) ?_
    cases hf
    exact g_pick (show G X _ _ _ _ _ _ from K) [1, 2, 0] rfl

set_option maxRecDepth 100000 in
theorem w_l_X4_keep_12 {X : Ctx} (hM : MX X yX4_keep cX4_keep 3 "SlimeNetModel" (some Jvm.ClassFile.FieldType.int) rm_X4_keep []) {this : Nat} {x1 : Int32} {x2 : Int32} {A : AH} {out : Int32 × AH} (hf : l_X4_keep_12 this x1 x2 A = some out) (hr : c_res X = r_X4_keep A out) : G X 0 0 12 [(0, vr (some this)), (1, vi x1), (2, vi x2)] [] A := by
  have hX := hM.1
  unfold l_X4_keep_12 at hf
  obtain ⟨e, hw, hf⟩ := ob_some hf
  refine (whl_ind (k_X4_keep_12 X this x1) (fun st o hs K => w_s_X4_keep_12 hM hs K) hw ?_ : k_X4_keep_12 X this x1 (.inl (x2, A)))
  revert hf hw; generalize e = A; intro hw hf
  dsimp only at hf
  show G X 0 0 60 [(0, vr (some this)), (1, vi x1)] [] A
  refine g_aload_n hX dX4_keep_60 (lg_at 0 rfl) ?_
  refine g_getR hX hf fs_SlimeNetModel_235_5 rfl dX4_keep_61 (fun v61 hf => ?_)
  refine g_iload_n hX dX4_keep_64 (lg_at 1 rfl) ?_
  refine g_aload_n hX dX4_keep_65 (lg_at 0 rfl) ?_
  refine g_getI hX hf fs_SlimeNetModel_362_5 rfl dX4_keep_66 (fun v66 hf => ?_)
  refine g_iast hX hf dX4_keep_69 (fun A69 hf => ?_)
  refine g_aload_n hX dX4_keep_70 (lg_at 0 rfl) ?_
  refine g_getR hX hf fs_SlimeNetModel_238_5 rfl dX4_keep_71 (fun v71 hf => ?_)
  refine g_iload_n hX dX4_keep_74 (lg_at 1 rfl) ?_
  refine g_iconst hX dX4_keep_75 (1 : Int32) (by decide) ?_
  refine g_zast hX hf dX4_keep_76 (fun A76 hf => ?_)
  refine g_aload_n hX dX4_keep_77 (lg_at 0 rfl) ?_
  refine g_getI hX hf fs_SlimeNetModel_362_5 rfl dX4_keep_78 (fun v78 hf => ?_)
  cases hf
  exact h_iret hM dX4_keep_81 hr rfl rfl

set_option maxRecDepth 100000 in
theorem w_f_X4_keep {X : Ctx} (hM : MX X yX4_keep cX4_keep 3 "SlimeNetModel" (some Jvm.ClassFile.FieldType.int) rm_X4_keep []) {this : Nat} {x1 : Int32} {A : AH} {out : Int32 × AH} (hf : f_X4_keep this x1 A = some out) (hr : c_res X = r_X4_keep A out) : G X 0 0 0 [(0, vr (some this)), (1, vi x1)] [] A := by
  have hX := hM.1
  unfold f_X4_keep at hf
  refine g_iload_n hX dX4_keep_0 (lg_at 1 rfl) ?_
  obtain ⟨v1, hc1, hf⟩ := ob_some hf
  refine h_callS hM [vi x1] dX4_keep_1 cs_SlimeNetModel_408_s (m_X4_isSlot hc1) rfl rfl rfl rfl ?_
  refine g_if_ne hX dX4_keep_4 10 hf (by decide) (fun c4 hf => ?_) (fun c4 hf => ?_)
  · refine g_iconst hX dX4_keep_10 (0 : Int32) (by decide) ?_
    refine g_istore_n hX dX4_keep_11 [(2, vi (0 : Int32)), (0, vr (some this)), (1, vi x1)] (by decide) rfl ?_
    exact g_pick (w_l_X4_keep_12 hM hf hr) [1, 2, 0] rfl
  · refine g_bipush hX dX4_keep_7 (-2 : Int32) (by decide) ?_
    cases hf
    exact h_iret hM dX4_keep_9 hr rfl rfl

theorem m_X4_keep {l : Launch} {this : Nat} {x1 : Int32} {A : AH} {out : Int32 × AH} (h : f_X4_keep this x1 A = some out) : MetF l yX4_keep (Cond.code yX4_keep cX4_keep 3 (some Jvm.ClassFile.FieldType.int)) rm_X4_keep [vr (some this), vi x1] A (r_X4_keep A out) :=
  metF_of rfl rfl (Nat.le_of_ble_eq_true rfl) fun X hX hl hR hnm hr h1 h2 hno => w_f_X4_keep (X := X) ⟨hX, hR, h1, h2, fun _ => ⟨hnm, hno⟩⟩ h hr

/-! SlimeNet.take(I)I -/
def rm_X0_take : Room := { frames := 3, cells := 0, slots := 0, locals := 66 }
def r_X0_take (_A : AH) (o : Int32 × AH) : (Option AV × AH) ⊕ (Nat × AH) := .inl (some (vi o.1), o.2)
set_option maxRecDepth 100000 in
theorem w_f_X0_take {X : Ctx} (hM : MX X yX0_take cX0_take 2 "SlimeNet" (some Jvm.ClassFile.FieldType.int) rm_X0_take []) {this : Nat} {x1 : Int32} {A : AH} {out : Int32 × AH} (hf : f_X0_take this x1 A = some out) (hr : c_res X = r_X0_take A out) : G X 0 0 0 [(0, vr (some this)), (1, vi x1)] [] A := by
  have hX := hM.1
  unfold f_X0_take at hf
  refine g_iload_n hX dX0_take_0 (lg_at 1 rfl) ?_
  obtain ⟨v1, hc1, hf⟩ := ob_some hf
  refine h_callS hM [vi x1] dX0_take_1 cs_SlimeNet_260_s (m_X0_isSlot hc1) rfl rfl rfl rfl ?_
  refine g_if_ne hX dX0_take_4 10 hf (by decide) (fun c4 hf => ?_) (fun c4 hf => ?_)
  · refine g_aload_n hX dX0_take_10 (lg_at 0 rfl) ?_
    refine g_getR hX hf fs_SlimeNet_45_1 rfl dX0_take_11 (fun v11 hf => ?_)
    refine g_iload_n hX dX0_take_14 (lg_at 1 rfl) ?_
    refine g_zald hX hf dX0_take_15 (fun v15 hf => ?_)
    refine g_if_ne hX dX0_take_16 22 hf (by decide) (fun c16 hf => ?_) (fun c16 hf => ?_)
    · refine g_aload_n hX dX0_take_22 (lg_at 0 rfl) ?_
      refine g_getR hX hf fs_SlimeNet_34_1 rfl dX0_take_23 (fun v23 hf => ?_)
      refine g_aload_n hX dX0_take_26 (lg_at 0 rfl) ?_
      refine g_getR hX hf fs_SlimeNet_41_1 rfl dX0_take_27 (fun v27 hf => ?_)
      refine g_iload_n hX dX0_take_30 (lg_at 1 rfl) ?_
      refine g_aald hX rfl hf dX0_take_31 (fun v31 hf => ?_)
      obtain ⟨k32, hk32, hf⟩ := ob_some hf
      obtain ⟨A32, hc32, hf⟩ := ob_some hf
      refine h_callV hM [vr v31] dX0_take_32 cs_SlimeNet_263_4 hk32 (m_X3_become hc32) rfl rfl rfl rfl ?_
      refine g_aload_n hX dX0_take_35 (lg_at 0 rfl) ?_
      refine g_getR hX hf fs_SlimeNet_34_1 rfl dX0_take_36 (fun v36 hf => ?_)
      refine g_getI hX hf fs_SlimeNet_234_4 rfl dX0_take_39 (fun v39 hf => ?_)
      cases hf
      exact h_iret hM dX0_take_42 hr rfl rfl
    · refine g_bipush hX dX0_take_19 (-4 : Int32) (by decide) ?_
      cases hf
      exact h_iret hM dX0_take_21 hr rfl rfl
  · refine g_bipush hX dX0_take_7 (-2 : Int32) (by decide) ?_
    cases hf
    exact h_iret hM dX0_take_9 hr rfl rfl

theorem m_X0_take {l : Launch} {this : Nat} {x1 : Int32} {A : AH} {out : Int32 × AH} (h : f_X0_take this x1 A = some out) : MetF l yX0_take (Cond.code yX0_take cX0_take 2 (some Jvm.ClassFile.FieldType.int)) rm_X0_take [vr (some this), vi x1] A (r_X0_take A out) :=
  metF_of rfl rfl (Nat.le_of_ble_eq_true rfl) fun X hX hl hR hnm hr h1 h2 hno => w_f_X0_take (X := X) ⟨hX, hR, h1, h2, fun _ => ⟨hnm, hno⟩⟩ h hr

/-! SlimeNetModel.take(I)I -/
def rm_X4_take : Room := { frames := 3, cells := 0, slots := 0, locals := 69 }
def r_X4_take (_A : AH) (o : Int32 × AH) : (Option AV × AH) ⊕ (Nat × AH) := .inl (some (vi o.1), o.2)
def k_X4_take_24 (X : Ctx) (this : Nat) (x1 : Int32) : ((Int32 × AH) ⊕ (AH)) → Prop
  | .inl (x2, A) => G X 0 0 24 [(0, vr (some this)), (1, vi x1), (2, vi x2)] [] A
  | .inr A => G X 0 0 72 [(0, vr (some this)), (1, vi x1)] [] A

set_option maxRecDepth 100000 in
theorem w_s_X4_take_24 {X : Ctx} (hM : MX X yX4_take cX4_take 3 "SlimeNetModel" (some Jvm.ClassFile.FieldType.int) rm_X4_take []) {this : Nat} {x1 : Int32} {st : Int32 × AH} {out : (Int32 × AH) ⊕ (AH)} (hf : s_X4_take_24 this x1 st = some out) (K : k_X4_take_24 X this x1 out) : k_X4_take_24 X this x1 (.inl st) := by
  have hX := hM.1
  obtain ⟨x2, A⟩ := st
  unfold s_X4_take_24 at hf
  dsimp only at hf
  show G X 0 0 24 [(0, vr (some this)), (1, vi x1), (2, vi x2)] [] A
  refine g_iload_n hX dX4_take_24 (lg_at 2 rfl) ?_
  refine g_aload_n hX dX4_take_25 (lg_at 0 rfl) ?_
  refine g_getI hX hf fs_SlimeNetModel_297_5 rfl dX4_take_26 (fun v26 hf => ?_)
  refine g_icmp_ge hX dX4_take_29 72 hf (by decide) (fun c29 hf => ?_) (fun c29 hf => ?_)
  · cases hf
    exact g_pick (show G X _ _ _ _ _ _ from K) [0, 1] rfl
  · refine g_aload_n hX dX4_take_32 (lg_at 0 rfl) ?_
    refine g_getR hX hf fs_SlimeNetModel_215_5 rfl dX4_take_33 (fun v33 hf => ?_)
    refine g_iload_n hX dX4_take_36 (lg_at 2 rfl) ?_
    refine g_aload_n hX dX4_take_37 (lg_at 0 rfl) ?_
    refine g_getR hX hf fs_SlimeNetModel_229_5 rfl dX4_take_38 (fun v38 hf => ?_)
    refine g_bipush hX dX4_take_41 (10 : Int32) (by decide) ?_
    refine g_iload_n hX dX4_take_43 (lg_at 1 rfl) ?_
    refine g_imul hX dX4_take_44 ?_
    refine g_iload_n hX dX4_take_45 (lg_at 2 rfl) ?_
    refine g_iadd hX dX4_take_46 ?_
    refine g_iald hX hf dX4_take_47 (fun v47 hf => ?_)
    refine g_iast hX hf dX4_take_48 (fun A48 hf => ?_)
    refine g_aload_n hX dX4_take_49 (lg_at 0 rfl) ?_
    refine g_getR hX hf fs_SlimeNetModel_217_5 rfl dX4_take_50 (fun v50 hf => ?_)
    refine g_iload_n hX dX4_take_53 (lg_at 2 rfl) ?_
    refine g_aload_n hX dX4_take_54 (lg_at 0 rfl) ?_
    refine g_getR hX hf fs_SlimeNetModel_232_5 rfl dX4_take_55 (fun v55 hf => ?_)
    refine g_bipush hX dX4_take_58 (10 : Int32) (by decide) ?_
    refine g_iload_n hX dX4_take_60 (lg_at 1 rfl) ?_
    refine g_imul hX dX4_take_61 ?_
    refine g_iload_n hX dX4_take_62 (lg_at 2 rfl) ?_
    refine g_iadd hX dX4_take_63 ?_
    refine g_iald hX hf dX4_take_64 (fun v64 hf => ?_)
    refine g_iast hX hf dX4_take_65 (fun A65 hf => ?_)
    refine g_iinc hX dX4_take_66 (1 : Int32) (x2 + (1 : Int32)) [(2, vi (x2 + (1 : Int32))), (0, vr (some this)), (1, vi x1)] (by decide) rfl (lg_at 2 rfl) (by decide) rfl ?_
    refine g_goto hX dX4_take_69 24 (by decide) ?_
    cases hf
    exact g_pick (show G X _ _ _ _ _ _ from K) [1, 2, 0] rfl

set_option maxRecDepth 100000 in
theorem w_l_X4_take_24 {X : Ctx} (hM : MX X yX4_take cX4_take 3 "SlimeNetModel" (some Jvm.ClassFile.FieldType.int) rm_X4_take []) {this : Nat} {x1 : Int32} {x2 : Int32} {A : AH} {out : Int32 × AH} (hf : l_X4_take_24 this x1 x2 A = some out) (hr : c_res X = r_X4_take A out) : G X 0 0 24 [(0, vr (some this)), (1, vi x1), (2, vi x2)] [] A := by
  have hX := hM.1
  unfold l_X4_take_24 at hf
  obtain ⟨e, hw, hf⟩ := ob_some hf
  refine (whl_ind (k_X4_take_24 X this x1) (fun st o hs K => w_s_X4_take_24 hM hs K) hw ?_ : k_X4_take_24 X this x1 (.inl (x2, A)))
  revert hf hw; generalize e = A; intro hw hf
  dsimp only at hf
  show G X 0 0 72 [(0, vr (some this)), (1, vi x1)] [] A
  refine g_aload_n hX dX4_take_72 (lg_at 0 rfl) ?_
  refine g_aload_n hX dX4_take_73 (lg_at 0 rfl) ?_
  refine g_getR hX hf fs_SlimeNetModel_235_5 rfl dX4_take_74 (fun v74 hf => ?_)
  refine g_iload_n hX dX4_take_77 (lg_at 1 rfl) ?_
  refine g_iald hX hf dX4_take_78 (fun v78 hf => ?_)
  refine g_putI hX hf fs_SlimeNetModel_362_5 ⟨_, rfl, Or.inl rfl⟩ rfl dX4_take_79 (fun A79 hf => ?_)
  refine g_aload_n hX dX4_take_82 (lg_at 0 rfl) ?_
  refine g_getI hX hf fs_SlimeNetModel_362_5 rfl dX4_take_83 (fun v83 hf => ?_)
  cases hf
  exact h_iret hM dX4_take_86 hr rfl rfl

set_option maxRecDepth 100000 in
theorem w_f_X4_take {X : Ctx} (hM : MX X yX4_take cX4_take 3 "SlimeNetModel" (some Jvm.ClassFile.FieldType.int) rm_X4_take []) {this : Nat} {x1 : Int32} {A : AH} {out : Int32 × AH} (hf : f_X4_take this x1 A = some out) (hr : c_res X = r_X4_take A out) : G X 0 0 0 [(0, vr (some this)), (1, vi x1)] [] A := by
  have hX := hM.1
  unfold f_X4_take at hf
  refine g_iload_n hX dX4_take_0 (lg_at 1 rfl) ?_
  obtain ⟨v1, hc1, hf⟩ := ob_some hf
  refine h_callS hM [vi x1] dX4_take_1 cs_SlimeNetModel_408_s (m_X4_isSlot hc1) rfl rfl rfl rfl ?_
  refine g_if_ne hX dX4_take_4 10 hf (by decide) (fun c4 hf => ?_) (fun c4 hf => ?_)
  · refine g_aload_n hX dX4_take_10 (lg_at 0 rfl) ?_
    refine g_getR hX hf fs_SlimeNetModel_238_5 rfl dX4_take_11 (fun v11 hf => ?_)
    refine g_iload_n hX dX4_take_14 (lg_at 1 rfl) ?_
    refine g_zald hX hf dX4_take_15 (fun v15 hf => ?_)
    refine g_if_ne hX dX4_take_16 22 hf (by decide) (fun c16 hf => ?_) (fun c16 hf => ?_)
    · refine g_iconst hX dX4_take_22 (0 : Int32) (by decide) ?_
      refine g_istore_n hX dX4_take_23 [(2, vi (0 : Int32)), (0, vr (some this)), (1, vi x1)] (by decide) rfl ?_
      exact g_pick (w_l_X4_take_24 hM hf hr) [1, 2, 0] rfl
    · refine g_bipush hX dX4_take_19 (-4 : Int32) (by decide) ?_
      cases hf
      exact h_iret hM dX4_take_21 hr rfl rfl
  · refine g_bipush hX dX4_take_7 (-2 : Int32) (by decide) ?_
    cases hf
    exact h_iret hM dX4_take_9 hr rfl rfl

theorem m_X4_take {l : Launch} {this : Nat} {x1 : Int32} {A : AH} {out : Int32 × AH} (h : f_X4_take this x1 A = some out) : MetF l yX4_take (Cond.code yX4_take cX4_take 3 (some Jvm.ClassFile.FieldType.int)) rm_X4_take [vr (some this), vi x1] A (r_X4_take A out) :=
  metF_of rfl rfl (Nat.le_of_ble_eq_true rfl) fun X hX hl hR hnm hr h1 h2 hno => w_f_X4_take (X := X) ⟨hX, hR, h1, h2, fun _ => ⟨hnm, hno⟩⟩ h hr

/-! java/lang/Integer.bitCount(I)I -/
def rm_J13_bitCount : Room := { frames := 1, cells := 0, slots := 0, locals := 24 }
def r_J13_bitCount (A : AH) (o : Int32) : (Option AV × AH) ⊕ (Nat × AH) := .inl (some (vi o), A)
set_option maxRecDepth 100000 in
theorem w_f_J13_bitCount {X : Ctx} (hM : MX X yJ13_bitCount cJ13_bitCount 1 "java/lang/Integer" (some Jvm.ClassFile.FieldType.int) rm_J13_bitCount []) {x0 : Int32} {A : AH} {out : Int32} (hf : f_J13_bitCount x0 = some out) (hr : c_res X = r_J13_bitCount A out) : G X 0 0 0 [(0, vi x0)] [] A := by
  have hX := hM.1
  unfold f_J13_bitCount at hf
  refine g_iload_n hX dJ13_bitCount_0 (lg_at 0 rfl) ?_
  refine g_iload_n hX dJ13_bitCount_1 (lg_at 0 rfl) ?_
  refine g_iconst hX dJ13_bitCount_2 (1 : Int32) (by decide) ?_
  refine g_iushr hX dJ13_bitCount_3 ?_
  refine g_ldcw hX dJ13_bitCount_4 (v := (1431655765 : Int32)) (lw_LW q919) ?_
  refine g_iand hX dJ13_bitCount_7 ?_
  refine g_isub hX dJ13_bitCount_8 ?_
  refine g_istore_n hX dJ13_bitCount_9 [(0, vi (x0 - ((ushI x0 (1 : Int32)) &&& (1431655765 : Int32))))] (by decide) rfl ?_
  refine g_iload_n hX dJ13_bitCount_10 (lg_at 0 rfl) ?_
  refine g_ldcw hX dJ13_bitCount_11 (v := (858993459 : Int32)) (lw_LW q920) ?_
  refine g_iand hX dJ13_bitCount_14 ?_
  refine g_iload_n hX dJ13_bitCount_15 (lg_at 0 rfl) ?_
  refine g_iconst hX dJ13_bitCount_16 (2 : Int32) (by decide) ?_
  refine g_iushr hX dJ13_bitCount_17 ?_
  refine g_ldcw hX dJ13_bitCount_18 (v := (858993459 : Int32)) (lw_LW q920) ?_
  refine g_iand hX dJ13_bitCount_21 ?_
  refine g_iadd hX dJ13_bitCount_22 ?_
  refine g_istore_n hX dJ13_bitCount_23 [(0, vi (((x0 - ((ushI x0 (1 : Int32)) &&& (1431655765 : Int32))) &&& (858993459 : Int32)) + ((ushI (x0 - ((ushI x0 (1 : Int32)) &&& (1431655765 : Int32))) (2 : Int32)) &&& (858993459 : Int32))))] (by decide) rfl ?_
  refine g_iload_n hX dJ13_bitCount_24 (lg_at 0 rfl) ?_
  refine g_iload_n hX dJ13_bitCount_25 (lg_at 0 rfl) ?_
  refine g_iconst hX dJ13_bitCount_26 (4 : Int32) (by decide) ?_
  refine g_iushr hX dJ13_bitCount_27 ?_
  refine g_iadd hX dJ13_bitCount_28 ?_
  refine g_ldcw hX dJ13_bitCount_29 (v := (252645135 : Int32)) (lw_LW q921) ?_
  refine g_iand hX dJ13_bitCount_32 ?_
  refine g_istore_n hX dJ13_bitCount_33 [(0, vi (((((x0 - ((ushI x0 (1 : Int32)) &&& (1431655765 : Int32))) &&& (858993459 : Int32)) + ((ushI (x0 - ((ushI x0 (1 : Int32)) &&& (1431655765 : Int32))) (2 : Int32)) &&& (858993459 : Int32))) + (ushI (((x0 - ((ushI x0 (1 : Int32)) &&& (1431655765 : Int32))) &&& (858993459 : Int32)) + ((ushI (x0 - ((ushI x0 (1 : Int32)) &&& (1431655765 : Int32))) (2 : Int32)) &&& (858993459 : Int32))) (4 : Int32))) &&& (252645135 : Int32)))] (by decide) rfl ?_
  refine g_iload_n hX dJ13_bitCount_34 (lg_at 0 rfl) ?_
  refine g_iload_n hX dJ13_bitCount_35 (lg_at 0 rfl) ?_
  refine g_bipush hX dJ13_bitCount_36 (8 : Int32) (by decide) ?_
  refine g_iushr hX dJ13_bitCount_38 ?_
  refine g_iadd hX dJ13_bitCount_39 ?_
  refine g_istore_n hX dJ13_bitCount_40 [(0, vi ((((((x0 - ((ushI x0 (1 : Int32)) &&& (1431655765 : Int32))) &&& (858993459 : Int32)) + ((ushI (x0 - ((ushI x0 (1 : Int32)) &&& (1431655765 : Int32))) (2 : Int32)) &&& (858993459 : Int32))) + (ushI (((x0 - ((ushI x0 (1 : Int32)) &&& (1431655765 : Int32))) &&& (858993459 : Int32)) + ((ushI (x0 - ((ushI x0 (1 : Int32)) &&& (1431655765 : Int32))) (2 : Int32)) &&& (858993459 : Int32))) (4 : Int32))) &&& (252645135 : Int32)) + (ushI (((((x0 - ((ushI x0 (1 : Int32)) &&& (1431655765 : Int32))) &&& (858993459 : Int32)) + ((ushI (x0 - ((ushI x0 (1 : Int32)) &&& (1431655765 : Int32))) (2 : Int32)) &&& (858993459 : Int32))) + (ushI (((x0 - ((ushI x0 (1 : Int32)) &&& (1431655765 : Int32))) &&& (858993459 : Int32)) + ((ushI (x0 - ((ushI x0 (1 : Int32)) &&& (1431655765 : Int32))) (2 : Int32)) &&& (858993459 : Int32))) (4 : Int32))) &&& (252645135 : Int32)) (8 : Int32))))] (by decide) rfl ?_
  refine g_iload_n hX dJ13_bitCount_41 (lg_at 0 rfl) ?_
  refine g_iload_n hX dJ13_bitCount_42 (lg_at 0 rfl) ?_
  refine g_bipush hX dJ13_bitCount_43 (16 : Int32) (by decide) ?_
  refine g_iushr hX dJ13_bitCount_45 ?_
  refine g_iadd hX dJ13_bitCount_46 ?_
  refine g_istore_n hX dJ13_bitCount_47 [(0, vi (((((((x0 - ((ushI x0 (1 : Int32)) &&& (1431655765 : Int32))) &&& (858993459 : Int32)) + ((ushI (x0 - ((ushI x0 (1 : Int32)) &&& (1431655765 : Int32))) (2 : Int32)) &&& (858993459 : Int32))) + (ushI (((x0 - ((ushI x0 (1 : Int32)) &&& (1431655765 : Int32))) &&& (858993459 : Int32)) + ((ushI (x0 - ((ushI x0 (1 : Int32)) &&& (1431655765 : Int32))) (2 : Int32)) &&& (858993459 : Int32))) (4 : Int32))) &&& (252645135 : Int32)) + (ushI (((((x0 - ((ushI x0 (1 : Int32)) &&& (1431655765 : Int32))) &&& (858993459 : Int32)) + ((ushI (x0 - ((ushI x0 (1 : Int32)) &&& (1431655765 : Int32))) (2 : Int32)) &&& (858993459 : Int32))) + (ushI (((x0 - ((ushI x0 (1 : Int32)) &&& (1431655765 : Int32))) &&& (858993459 : Int32)) + ((ushI (x0 - ((ushI x0 (1 : Int32)) &&& (1431655765 : Int32))) (2 : Int32)) &&& (858993459 : Int32))) (4 : Int32))) &&& (252645135 : Int32)) (8 : Int32))) + (ushI ((((((x0 - ((ushI x0 (1 : Int32)) &&& (1431655765 : Int32))) &&& (858993459 : Int32)) + ((ushI (x0 - ((ushI x0 (1 : Int32)) &&& (1431655765 : Int32))) (2 : Int32)) &&& (858993459 : Int32))) + (ushI (((x0 - ((ushI x0 (1 : Int32)) &&& (1431655765 : Int32))) &&& (858993459 : Int32)) + ((ushI (x0 - ((ushI x0 (1 : Int32)) &&& (1431655765 : Int32))) (2 : Int32)) &&& (858993459 : Int32))) (4 : Int32))) &&& (252645135 : Int32)) + (ushI (((((x0 - ((ushI x0 (1 : Int32)) &&& (1431655765 : Int32))) &&& (858993459 : Int32)) + ((ushI (x0 - ((ushI x0 (1 : Int32)) &&& (1431655765 : Int32))) (2 : Int32)) &&& (858993459 : Int32))) + (ushI (((x0 - ((ushI x0 (1 : Int32)) &&& (1431655765 : Int32))) &&& (858993459 : Int32)) + ((ushI (x0 - ((ushI x0 (1 : Int32)) &&& (1431655765 : Int32))) (2 : Int32)) &&& (858993459 : Int32))) (4 : Int32))) &&& (252645135 : Int32)) (8 : Int32))) (16 : Int32))))] (by decide) rfl ?_
  refine g_iload_n hX dJ13_bitCount_48 (lg_at 0 rfl) ?_
  refine g_bipush hX dJ13_bitCount_49 (63 : Int32) (by decide) ?_
  refine g_iand hX dJ13_bitCount_51 ?_
  cases hf
  exact h_iret hM dJ13_bitCount_52 hr rfl rfl

theorem m_J13_bitCount {l : Launch} {x0 : Int32} {A : AH} {out : Int32} (h : f_J13_bitCount x0 = some out) : MetF l yJ13_bitCount (Cond.code yJ13_bitCount cJ13_bitCount 1 (some Jvm.ClassFile.FieldType.int)) rm_J13_bitCount [vi x0] A (r_J13_bitCount A out) :=
  metF_of rfl rfl (Nat.le_of_ble_eq_true rfl) fun X hX hl hR hnm hr h1 h2 hno => w_f_J13_bitCount (X := X) ⟨hX, hR, h1, h2, fun _ => ⟨hnm, hno⟩⟩ h hr

/-! SlimeNet.alike(II)I -/
def rm_X0_alike : Room := { frames := 3, cells := 0, slots := 0, locals := 66 }
def r_X0_alike (A : AH) (o : Int32) : (Option AV × AH) ⊕ (Nat × AH) := .inl (some (vi o), A)
set_option maxRecDepth 100000 in
theorem w_f_X0_alike_14 {X : Ctx} (hM : MX X yX0_alike cX0_alike 3 "SlimeNet" (some Jvm.ClassFile.FieldType.int) rm_X0_alike []) {A : AH} {out : Int32} (hf : f_X0_alike_14 A = some out) (hr : c_res X = r_X0_alike A out) : G X 0 0 14 [] [] A := by
  have hX := hM.1
  unfold f_X0_alike_14 at hf
  refine g_bipush hX dX0_alike_14 (-2 : Int32) (by decide) ?_
  cases hf
  exact h_iret hM dX0_alike_16 hr rfl rfl

set_option maxRecDepth 100000 in
theorem w_f_X0_alike_35 {X : Ctx} (hM : MX X yX0_alike cX0_alike 3 "SlimeNet" (some Jvm.ClassFile.FieldType.int) rm_X0_alike []) {A : AH} {out : Int32} (hf : f_X0_alike_35 A = some out) (hr : c_res X = r_X0_alike A out) : G X 0 0 35 [] [] A := by
  have hX := hM.1
  unfold f_X0_alike_35 at hf
  refine g_bipush hX dX0_alike_35 (-4 : Int32) (by decide) ?_
  cases hf
  exact h_iret hM dX0_alike_37 hr rfl rfl

set_option maxRecDepth 100000 in
theorem w_f_X0_alike {X : Ctx} (hM : MX X yX0_alike cX0_alike 3 "SlimeNet" (some Jvm.ClassFile.FieldType.int) rm_X0_alike []) {this : Nat} {x1 : Int32} {x2 : Int32} {A : AH} {out : Int32} (hf : f_X0_alike this x1 x2 A = some out) (hr : c_res X = r_X0_alike A out) : G X 0 0 0 [(0, vr (some this)), (1, vi x1), (2, vi x2)] [] A := by
  have hX := hM.1
  unfold f_X0_alike at hf
  refine g_iload_n hX dX0_alike_0 (lg_at 1 rfl) ?_
  obtain ⟨v1, hc1, hf⟩ := ob_some hf
  refine h_callS hM [vi x1] dX0_alike_1 cs_SlimeNet_260_s (m_X0_isSlot hc1) rfl rfl rfl rfl ?_
  refine g_if_eq hX dX0_alike_4 14 hf (by decide) (fun c4 hf => ?_) (fun c4 hf => ?_)
  · exact g_pick (w_f_X0_alike_14 hM hf hr) [] rfl
  · refine g_iload_n hX dX0_alike_7 (lg_at 2 rfl) ?_
    obtain ⟨v8, hc8, hf⟩ := ob_some hf
    refine h_callS hM [vi x2] dX0_alike_8 cs_SlimeNet_260_s (m_X0_isSlot hc8) rfl rfl rfl rfl ?_
    refine g_if_ne hX dX0_alike_11 17 hf (by decide) (fun c11 hf => ?_) (fun c11 hf => ?_)
    · refine g_aload_n hX dX0_alike_17 (lg_at 0 rfl) ?_
      refine g_getR hX hf fs_SlimeNet_45_1 rfl dX0_alike_18 (fun v18 hf => ?_)
      refine g_iload_n hX dX0_alike_21 (lg_at 1 rfl) ?_
      refine g_zald hX hf dX0_alike_22 (fun v22 hf => ?_)
      refine g_if_eq hX dX0_alike_23 35 hf (by decide) (fun c23 hf => ?_) (fun c23 hf => ?_)
      · exact g_pick (w_f_X0_alike_35 hM hf hr) [] rfl
      · refine g_aload_n hX dX0_alike_26 (lg_at 0 rfl) ?_
        refine g_getR hX hf fs_SlimeNet_45_1 rfl dX0_alike_27 (fun v27 hf => ?_)
        refine g_iload_n hX dX0_alike_30 (lg_at 2 rfl) ?_
        refine g_zald hX hf dX0_alike_31 (fun v31 hf => ?_)
        refine g_if_ne hX dX0_alike_32 38 hf (by decide) (fun c32 hf => ?_) (fun c32 hf => ?_)
        · refine g_aload_n hX dX0_alike_38 (lg_at 0 rfl) ?_
          refine g_getR hX hf fs_SlimeNet_27_1 rfl dX0_alike_39 (fun v39 hf => ?_)
          refine g_getR hX hf fs_SlimeNet_143_3 rfl dX0_alike_42 (fun v42 hf => ?_)
          obtain ⟨k45, hk45, hf⟩ := ob_some hf
          obtain ⟨v45, hc45, hf⟩ := ob_some hf
          refine h_callV hM [] dX0_alike_45 cs_SlimeNet_147_8 hk45 (m_J4_size hc45) rfl rfl rfl rfl ?_
          refine g_aload_n hX dX0_alike_48 (lg_at 0 rfl) ?_
          refine g_getR hX hf fs_SlimeNet_41_1 rfl dX0_alike_49 (fun v49 hf => ?_)
          refine g_iload_n hX dX0_alike_52 (lg_at 1 rfl) ?_
          refine g_aald hX rfl hf dX0_alike_53 (fun v53 hf => ?_)
          obtain ⟨k54, hk54, hf⟩ := ob_some hf
          obtain ⟨v54, hc54, hf⟩ := ob_some hf
          refine h_callV hM [] dX0_alike_54 cs_SlimeNet_267_4 hk54 (m_X3_own hc54) rfl rfl rfl rfl ?_
          refine g_aload_n hX dX0_alike_57 (lg_at 0 rfl) ?_
          refine g_getR hX hf fs_SlimeNet_41_1 rfl dX0_alike_58 (fun v58 hf => ?_)
          refine g_iload_n hX dX0_alike_61 (lg_at 2 rfl) ?_
          refine g_aald hX rfl hf dX0_alike_62 (fun v62 hf => ?_)
          obtain ⟨k63, hk63, hf⟩ := ob_some hf
          obtain ⟨v63, hc63, hf⟩ := ob_some hf
          refine h_callV hM [] dX0_alike_63 cs_SlimeNet_267_4 hk63 (m_X3_own hc63) rfl rfl rfl rfl ?_
          refine g_ixor hX dX0_alike_66 ?_
          obtain ⟨v67, hc67, hf⟩ := ob_some hf
          refine h_callS hM [vi (v54 ^^^ v63)] dX0_alike_67 cs_SlimeNet_270_s (m_J13_bitCount hc67) rfl rfl rfl rfl ?_
          refine g_isub hX dX0_alike_70 ?_
          cases hf
          exact h_iret hM dX0_alike_71 hr rfl rfl
        · exact g_pick (w_f_X0_alike_35 hM hf hr) [] rfl
    · exact g_pick (w_f_X0_alike_14 hM hf hr) [] rfl

theorem m_X0_alike {l : Launch} {this : Nat} {x1 : Int32} {x2 : Int32} {A : AH} {out : Int32} (h : f_X0_alike this x1 x2 A = some out) : MetF l yX0_alike (Cond.code yX0_alike cX0_alike 3 (some Jvm.ClassFile.FieldType.int)) rm_X0_alike [vr (some this), vi x1, vi x2] A (r_X0_alike A out) :=
  metF_of rfl rfl (Nat.le_of_ble_eq_true rfl) fun X hX hl hR hnm hr h1 h2 hno => w_f_X0_alike (X := X) ⟨hX, hR, h1, h2, fun _ => ⟨hnm, hno⟩⟩ h hr

/-! SlimeNetModel.alike(II)I -/
def rm_X4_alike : Room := { frames := 3, cells := 0, slots := 0, locals := 69 }
def r_X4_alike (A : AH) (o : Int32) : (Option AV × AH) ⊕ (Nat × AH) := .inl (some (vi o), A)
def k_X4_alike_43 (X : Ctx) (this : Nat) (x1 : Int32) (x2 : Int32) (A : AH) : ((Int32 × Int32) ⊕ (Int32)) → Prop
  | .inl (x3, x4) => G X 0 0 43 [(0, vr (some this)), (1, vi x1), (2, vi x2), (3, vi x3), (4, vi x4)] [] A
  | .inr x3 => G X 0 0 109 [(3, vi x3)] [] A

set_option maxRecDepth 100000 in
theorem w_f_X4_alike_14 {X : Ctx} (hM : MX X yX4_alike cX4_alike 5 "SlimeNetModel" (some Jvm.ClassFile.FieldType.int) rm_X4_alike []) {A : AH} {out : Int32} (hf : f_X4_alike_14 A = some out) (hr : c_res X = r_X4_alike A out) : G X 0 0 14 [] [] A := by
  have hX := hM.1
  unfold f_X4_alike_14 at hf
  refine g_bipush hX dX4_alike_14 (-2 : Int32) (by decide) ?_
  cases hf
  exact h_iret hM dX4_alike_16 hr rfl rfl

set_option maxRecDepth 100000 in
theorem w_f_X4_alike_35 {X : Ctx} (hM : MX X yX4_alike cX4_alike 5 "SlimeNetModel" (some Jvm.ClassFile.FieldType.int) rm_X4_alike []) {A : AH} {out : Int32} (hf : f_X4_alike_35 A = some out) (hr : c_res X = r_X4_alike A out) : G X 0 0 35 [] [] A := by
  have hX := hM.1
  unfold f_X4_alike_35 at hf
  refine g_bipush hX dX4_alike_35 (-4 : Int32) (by decide) ?_
  cases hf
  exact h_iret hM dX4_alike_37 hr rfl rfl

set_option maxRecDepth 100000 in
theorem w_f_X4_alike_101 {X : Ctx} (hM : MX X yX4_alike cX4_alike 5 "SlimeNetModel" (some Jvm.ClassFile.FieldType.int) rm_X4_alike []) {this : Nat} {x1 : Int32} {x2 : Int32} {x4 : Int32} {t0 : Int32} {t1 : Int32} {A : AH} {out : (Int32 × Int32) ⊕ (Int32)} (hf : f_X4_alike_101 this x1 x2 x4 t0 t1 A = some out) (K : k_X4_alike_43 X this x1 x2 A out) : G X 0 0 101 [(0, vr (some this)), (1, vi x1), (2, vi x2), (4, vi x4)] [vi t0, vi t1] A := by
  have hX := hM.1
  unfold f_X4_alike_101 at hf
  refine g_iadd hX dX4_alike_101 ?_
  refine g_istore_n hX dX4_alike_102 [(3, vi (t1 + t0)), (0, vr (some this)), (1, vi x1), (2, vi x2), (4, vi x4)] (by decide) rfl ?_
  refine g_iinc hX dX4_alike_103 (1 : Int32) (x4 + (1 : Int32)) [(4, vi (x4 + (1 : Int32))), (3, vi (t1 + t0)), (0, vr (some this)), (1, vi x1), (2, vi x2)] (by decide) rfl (lg_at 4 rfl) (by decide) rfl ?_
  refine g_goto hX dX4_alike_106 43 (by decide) ?_
  cases hf
  exact g_pick (show G X _ _ _ _ _ _ from K) [2, 3, 4, 1, 0] rfl

set_option maxRecDepth 100000 in
theorem w_f_X4_alike_93 {X : Ctx} (hM : MX X yX4_alike cX4_alike 5 "SlimeNetModel" (some Jvm.ClassFile.FieldType.int) rm_X4_alike []) {this : Nat} {x1 : Int32} {x2 : Int32} {x4 : Int32} {t0 : Int32} {t1 : Int32} {t2 : Int32} {A : AH} {out : (Int32 × Int32) ⊕ (Int32)} (hf : f_X4_alike_93 this x1 x2 x4 t0 t1 t2 A = some out) (K : k_X4_alike_43 X this x1 x2 A out) : G X 0 0 93 [(0, vr (some this)), (1, vi x1), (2, vi x2), (4, vi x4)] [vi t0, vi t1, vi t2] A := by
  have hX := hM.1
  unfold f_X4_alike_93 at hf
  refine g_icmp_ne hX dX4_alike_93 100 hf (by decide) (fun c93 hf => ?_) (fun c93 hf => ?_)
  · refine g_iconst hX dX4_alike_100 (0 : Int32) (by decide) ?_
    exact g_pick (w_f_X4_alike_101 hM hf K) [0, 1, 2, 3] rfl
  · refine g_iconst hX dX4_alike_96 (1 : Int32) (by decide) ?_
    refine g_goto hX dX4_alike_97 101 (by decide) ?_
    exact g_pick (w_f_X4_alike_101 hM hf K) [0, 1, 2, 3] rfl

set_option maxRecDepth 100000 in
theorem w_f_X4_alike_73 {X : Ctx} (hM : MX X yX4_alike cX4_alike 5 "SlimeNetModel" (some Jvm.ClassFile.FieldType.int) rm_X4_alike []) {this : Nat} {x1 : Int32} {x2 : Int32} {x4 : Int32} {t0 : Int32} {t1 : Int32} {A : AH} {out : (Int32 × Int32) ⊕ (Int32)} (hf : f_X4_alike_73 this x1 x2 x4 t0 t1 A = some out) (K : k_X4_alike_43 X this x1 x2 A out) : G X 0 0 73 [(0, vr (some this)), (1, vi x1), (2, vi x2), (4, vi x4)] [vi t0, vi t1] A := by
  have hX := hM.1
  unfold f_X4_alike_73 at hf
  refine g_aload_n hX dX4_alike_73 (lg_at 0 rfl) ?_
  refine g_getR hX hf fs_SlimeNetModel_229_5 rfl dX4_alike_74 (fun v74 hf => ?_)
  refine g_bipush hX dX4_alike_77 (10 : Int32) (by decide) ?_
  refine g_iload_n hX dX4_alike_79 (lg_at 2 rfl) ?_
  refine g_imul hX dX4_alike_80 ?_
  refine g_iload hX dX4_alike_81 (lg_at 3 rfl) ?_
  refine g_iadd hX dX4_alike_83 ?_
  refine g_iald hX hf dX4_alike_84 (fun v84 hf => ?_)
  refine g_if_le hX dX4_alike_85 92 hf (by decide) (fun c85 hf => ?_) (fun c85 hf => ?_)
  · refine g_iconst hX dX4_alike_92 (0 : Int32) (by decide) ?_
    exact g_pick (w_f_X4_alike_93 hM hf K) [0, 1, 2, 3] rfl
  · refine g_iconst hX dX4_alike_88 (1 : Int32) (by decide) ?_
    refine g_goto hX dX4_alike_89 93 (by decide) ?_
    exact g_pick (w_f_X4_alike_93 hM hf K) [0, 1, 2, 3] rfl

set_option maxRecDepth 100000 in
theorem w_s_X4_alike_43 {X : Ctx} (hM : MX X yX4_alike cX4_alike 5 "SlimeNetModel" (some Jvm.ClassFile.FieldType.int) rm_X4_alike []) {this : Nat} {x1 : Int32} {x2 : Int32} {A : AH} {st : Int32 × Int32} {out : (Int32 × Int32) ⊕ (Int32)} (hf : s_X4_alike_43 this x1 x2 A st = some out) (K : k_X4_alike_43 X this x1 x2 A out) : k_X4_alike_43 X this x1 x2 A (.inl st) := by
  have hX := hM.1
  obtain ⟨x3, x4⟩ := st
  unfold s_X4_alike_43 at hf
  dsimp only at hf
  show G X 0 0 43 [(0, vr (some this)), (1, vi x1), (2, vi x2), (3, vi x3), (4, vi x4)] [] A
  refine g_iload hX dX4_alike_43 (lg_at 4 rfl) ?_
  refine g_aload_n hX dX4_alike_45 (lg_at 0 rfl) ?_
  refine g_getI hX hf fs_SlimeNetModel_297_5 rfl dX4_alike_46 (fun v46 hf => ?_)
  refine g_icmp_ge hX dX4_alike_49 109 hf (by decide) (fun c49 hf => ?_) (fun c49 hf => ?_)
  · cases hf
    exact g_pick (show G X _ _ _ _ _ _ from K) [3] rfl
  · refine g_iload_n hX dX4_alike_52 (lg_at 3 rfl) ?_
    refine g_aload_n hX dX4_alike_53 (lg_at 0 rfl) ?_
    refine g_getR hX hf fs_SlimeNetModel_229_5 rfl dX4_alike_54 (fun v54 hf => ?_)
    refine g_bipush hX dX4_alike_57 (10 : Int32) (by decide) ?_
    refine g_iload_n hX dX4_alike_59 (lg_at 1 rfl) ?_
    refine g_imul hX dX4_alike_60 ?_
    refine g_iload hX dX4_alike_61 (lg_at 4 rfl) ?_
    refine g_iadd hX dX4_alike_63 ?_
    refine g_iald hX hf dX4_alike_64 (fun v64 hf => ?_)
    refine g_if_le hX dX4_alike_65 72 hf (by decide) (fun c65 hf => ?_) (fun c65 hf => ?_)
    · refine g_iconst hX dX4_alike_72 (0 : Int32) (by decide) ?_
      exact g_pick (w_f_X4_alike_73 hM hf K) [0, 1, 2, 4] rfl
    · refine g_iconst hX dX4_alike_68 (1 : Int32) (by decide) ?_
      refine g_goto hX dX4_alike_69 73 (by decide) ?_
      exact g_pick (w_f_X4_alike_73 hM hf K) [0, 1, 2, 4] rfl

set_option maxRecDepth 100000 in
theorem w_l_X4_alike_43 {X : Ctx} (hM : MX X yX4_alike cX4_alike 5 "SlimeNetModel" (some Jvm.ClassFile.FieldType.int) rm_X4_alike []) {this : Nat} {x1 : Int32} {x2 : Int32} {x3 : Int32} {x4 : Int32} {A : AH} {out : Int32} (hf : l_X4_alike_43 this x1 x2 x3 x4 A = some out) (hr : c_res X = r_X4_alike A out) : G X 0 0 43 [(0, vr (some this)), (1, vi x1), (2, vi x2), (3, vi x3), (4, vi x4)] [] A := by
  have hX := hM.1
  unfold l_X4_alike_43 at hf
  obtain ⟨e, hw, hf⟩ := ob_some hf
  refine (whl_ind (k_X4_alike_43 X this x1 x2 A) (fun st o hs K => w_s_X4_alike_43 hM hs K) hw ?_ : k_X4_alike_43 X this x1 x2 A (.inl (x3, x4)))
  revert hf hw; generalize e = x3; intro hw hf
  dsimp only at hf
  show G X 0 0 109 [(3, vi x3)] [] A
  refine g_iload_n hX dX4_alike_109 (lg_at 0 rfl) ?_
  cases hf
  exact h_iret hM dX4_alike_110 hr rfl rfl

set_option maxRecDepth 100000 in
theorem w_f_X4_alike {X : Ctx} (hM : MX X yX4_alike cX4_alike 5 "SlimeNetModel" (some Jvm.ClassFile.FieldType.int) rm_X4_alike []) {this : Nat} {x1 : Int32} {x2 : Int32} {A : AH} {out : Int32} (hf : f_X4_alike this x1 x2 A = some out) (hr : c_res X = r_X4_alike A out) : G X 0 0 0 [(0, vr (some this)), (1, vi x1), (2, vi x2)] [] A := by
  have hX := hM.1
  unfold f_X4_alike at hf
  refine g_iload_n hX dX4_alike_0 (lg_at 1 rfl) ?_
  obtain ⟨v1, hc1, hf⟩ := ob_some hf
  refine h_callS hM [vi x1] dX4_alike_1 cs_SlimeNetModel_408_s (m_X4_isSlot hc1) rfl rfl rfl rfl ?_
  refine g_if_eq hX dX4_alike_4 14 hf (by decide) (fun c4 hf => ?_) (fun c4 hf => ?_)
  · exact g_pick (w_f_X4_alike_14 hM hf hr) [] rfl
  · refine g_iload_n hX dX4_alike_7 (lg_at 2 rfl) ?_
    obtain ⟨v8, hc8, hf⟩ := ob_some hf
    refine h_callS hM [vi x2] dX4_alike_8 cs_SlimeNetModel_408_s (m_X4_isSlot hc8) rfl rfl rfl rfl ?_
    refine g_if_ne hX dX4_alike_11 17 hf (by decide) (fun c11 hf => ?_) (fun c11 hf => ?_)
    · refine g_aload_n hX dX4_alike_17 (lg_at 0 rfl) ?_
      refine g_getR hX hf fs_SlimeNetModel_238_5 rfl dX4_alike_18 (fun v18 hf => ?_)
      refine g_iload_n hX dX4_alike_21 (lg_at 1 rfl) ?_
      refine g_zald hX hf dX4_alike_22 (fun v22 hf => ?_)
      refine g_if_eq hX dX4_alike_23 35 hf (by decide) (fun c23 hf => ?_) (fun c23 hf => ?_)
      · exact g_pick (w_f_X4_alike_35 hM hf hr) [] rfl
      · refine g_aload_n hX dX4_alike_26 (lg_at 0 rfl) ?_
        refine g_getR hX hf fs_SlimeNetModel_238_5 rfl dX4_alike_27 (fun v27 hf => ?_)
        refine g_iload_n hX dX4_alike_30 (lg_at 2 rfl) ?_
        refine g_zald hX hf dX4_alike_31 (fun v31 hf => ?_)
        refine g_if_ne hX dX4_alike_32 38 hf (by decide) (fun c32 hf => ?_) (fun c32 hf => ?_)
        · refine g_iconst hX dX4_alike_38 (0 : Int32) (by decide) ?_
          refine g_istore_n hX dX4_alike_39 [(3, vi (0 : Int32)), (0, vr (some this)), (1, vi x1), (2, vi x2)] (by decide) rfl ?_
          refine g_iconst hX dX4_alike_40 (0 : Int32) (by decide) ?_
          refine g_istore hX dX4_alike_41 [(4, vi (0 : Int32)), (3, vi (0 : Int32)), (0, vr (some this)), (1, vi x1), (2, vi x2)] (by decide) rfl ?_
          exact g_pick (w_l_X4_alike_43 hM hf hr) [2, 3, 4, 1, 0] rfl
        · exact g_pick (w_f_X4_alike_35 hM hf hr) [] rfl
    · exact g_pick (w_f_X4_alike_14 hM hf hr) [] rfl

theorem m_X4_alike {l : Launch} {this : Nat} {x1 : Int32} {x2 : Int32} {A : AH} {out : Int32} (h : f_X4_alike this x1 x2 A = some out) : MetF l yX4_alike (Cond.code yX4_alike cX4_alike 5 (some Jvm.ClassFile.FieldType.int)) rm_X4_alike [vr (some this), vi x1, vi x2] A (r_X4_alike A out) :=
  metF_of rfl rfl (Nat.le_of_ble_eq_true rfl) fun X hX hl hR hnm hr h1 h2 hno => w_f_X4_alike (X := X) ⟨hX, hR, h1, h2, fun _ => ⟨hnm, hno⟩⟩ h hr

/-! SlimeNet.tell(I)I -/
def rm_X0_tell : Room := { frames := 3, cells := 0, slots := 0, locals := 66 }
def r_X0_tell (_A : AH) (o : Int32 × AH) : (Option AV × AH) ⊕ (Nat × AH) := .inl (some (vi o.1), o.2)
def k_X0_tell_26 (X : Ctx) (this : Nat) (x1 : Int32) : ((Int32 × Int32 × AH) ⊕ (Int32 × AH)) → Prop
  | .inl (x2, x3, A) => G X 0 0 26 [(0, vr (some this)), (1, vi x1), (2, vi x2), (3, vi x3)] [] A
  | .inr (x2, A) => G X 0 0 87 [(2, vi x2)] [] A

set_option maxRecDepth 100000 in
theorem w_f_X0_tell_81 {X : Ctx} (hM : MX X yX0_tell cX0_tell 4 "SlimeNet" (some Jvm.ClassFile.FieldType.int) rm_X0_tell []) {this : Nat} {x1 : Int32} {x2 : Int32} {x3 : Int32} {A : AH} {out : (Int32 × Int32 × AH) ⊕ (Int32 × AH)} (hf : f_X0_tell_81 this x1 x2 x3 A = some out) (K : k_X0_tell_26 X this x1 out) : G X 0 0 81 [(0, vr (some this)), (1, vi x1), (2, vi x2), (3, vi x3)] [] A := by
  have hX := hM.1
  unfold f_X0_tell_81 at hf
  refine g_iinc hX dX0_tell_81 (1 : Int32) (x3 + (1 : Int32)) [(3, vi (x3 + (1 : Int32))), (0, vr (some this)), (1, vi x1), (2, vi x2)] (by decide) rfl (lg_at 3 rfl) (by decide) rfl ?_
  refine g_goto hX dX0_tell_84 26 (by decide) ?_
  cases hf
  exact g_pick (show G X _ _ _ _ _ _ from K) [1, 2, 3, 0] rfl

set_option maxRecDepth 100000 in
theorem w_s_X0_tell_26 {X : Ctx} (hM : MX X yX0_tell cX0_tell 4 "SlimeNet" (some Jvm.ClassFile.FieldType.int) rm_X0_tell []) {this : Nat} {x1 : Int32} {st : Int32 × Int32 × AH} {out : (Int32 × Int32 × AH) ⊕ (Int32 × AH)} (hf : s_X0_tell_26 this x1 st = some out) (K : k_X0_tell_26 X this x1 out) : k_X0_tell_26 X this x1 (.inl st) := by
  have hX := hM.1
  obtain ⟨x2, x3, A⟩ := st
  unfold s_X0_tell_26 at hf
  dsimp only at hf
  show G X 0 0 26 [(0, vr (some this)), (1, vi x1), (2, vi x2), (3, vi x3)] [] A
  refine g_iload_n hX dX0_tell_26 (lg_at 3 rfl) ?_
  refine g_bipush hX dX0_tell_27 (10 : Int32) (by decide) ?_
  refine g_icmp_ge hX dX0_tell_29 87 hf (by decide) (fun c29 hf => ?_) (fun c29 hf => ?_)
  · cases hf
    exact g_pick (show G X _ _ _ _ _ _ from K) [2] rfl
  · refine g_aload_n hX dX0_tell_32 (lg_at 0 rfl) ?_
    refine g_getR hX hf fs_SlimeNet_41_1 rfl dX0_tell_33 (fun v33 hf => ?_)
    refine g_iload_n hX dX0_tell_36 (lg_at 1 rfl) ?_
    refine g_aald hX rfl hf dX0_tell_37 (fun v37 hf => ?_)
    refine g_getR hX hf fs_SlimeNet_206_4 rfl dX0_tell_38 (fun v38 hf => ?_)
    refine g_iload_n hX dX0_tell_41 (lg_at 3 rfl) ?_
    refine g_iald hX hf dX0_tell_42 (fun v42 hf => ?_)
    refine g_aload_n hX dX0_tell_43 (lg_at 0 rfl) ?_
    refine g_getR hX hf fs_SlimeNet_34_1 rfl dX0_tell_44 (fun v44 hf => ?_)
    refine g_getR hX hf fs_SlimeNet_206_4 rfl dX0_tell_47 (fun v47 hf => ?_)
    refine g_iload_n hX dX0_tell_50 (lg_at 3 rfl) ?_
    refine g_iald hX hf dX0_tell_51 (fun v51 hf => ?_)
    refine g_icmp_gt hX dX0_tell_52 58 hf (by decide) (fun c52 hf => ?_) (fun c52 hf => ?_)
    · refine g_aload_n hX dX0_tell_58 (lg_at 0 rfl) ?_
      refine g_getR hX hf fs_SlimeNet_34_1 rfl dX0_tell_59 (fun v59 hf => ?_)
      refine g_getR hX hf fs_SlimeNet_206_4 rfl dX0_tell_62 (fun v62 hf => ?_)
      refine g_iload_n hX dX0_tell_65 (lg_at 3 rfl) ?_
      refine g_aload_n hX dX0_tell_66 (lg_at 0 rfl) ?_
      refine g_getR hX hf fs_SlimeNet_41_1 rfl dX0_tell_67 (fun v67 hf => ?_)
      refine g_iload_n hX dX0_tell_70 (lg_at 1 rfl) ?_
      refine g_aald hX rfl hf dX0_tell_71 (fun v71 hf => ?_)
      refine g_getR hX hf fs_SlimeNet_206_4 rfl dX0_tell_72 (fun v72 hf => ?_)
      refine g_iload_n hX dX0_tell_75 (lg_at 3 rfl) ?_
      refine g_iald hX hf dX0_tell_76 (fun v76 hf => ?_)
      refine g_iast hX hf dX0_tell_77 (fun A77 hf => ?_)
      refine g_iinc hX dX0_tell_78 (1 : Int32) (x2 + (1 : Int32)) [(2, vi (x2 + (1 : Int32))), (0, vr (some this)), (1, vi x1), (3, vi x3)] (by decide) rfl (lg_at 2 rfl) (by decide) rfl ?_
      exact g_pick (w_f_X0_tell_81 hM hf K) [1, 2, 0, 3] rfl
    · refine g_goto hX dX0_tell_55 81 (by decide) ?_
      exact g_pick (w_f_X0_tell_81 hM hf K) [0, 1, 2, 3] rfl

set_option maxRecDepth 100000 in
theorem w_l_X0_tell_26 {X : Ctx} (hM : MX X yX0_tell cX0_tell 4 "SlimeNet" (some Jvm.ClassFile.FieldType.int) rm_X0_tell []) {this : Nat} {x1 : Int32} {x2 : Int32} {x3 : Int32} {A : AH} {out : Int32 × AH} (hf : l_X0_tell_26 this x1 x2 x3 A = some out) (hr : c_res X = r_X0_tell A out) : G X 0 0 26 [(0, vr (some this)), (1, vi x1), (2, vi x2), (3, vi x3)] [] A := by
  have hX := hM.1
  unfold l_X0_tell_26 at hf
  obtain ⟨e, hw, hf⟩ := ob_some hf
  refine (whl_ind (k_X0_tell_26 X this x1) (fun st o hs K => w_s_X0_tell_26 hM hs K) hw ?_ : k_X0_tell_26 X this x1 (.inl (x2, x3, A)))
  obtain ⟨x2, A⟩ := e
  dsimp only at hf
  show G X 0 0 87 [(2, vi x2)] [] A
  refine g_iload_n hX dX0_tell_87 (lg_at 0 rfl) ?_
  cases hf
  exact h_iret hM dX0_tell_88 hr rfl rfl

set_option maxRecDepth 100000 in
theorem w_f_X0_tell {X : Ctx} (hM : MX X yX0_tell cX0_tell 4 "SlimeNet" (some Jvm.ClassFile.FieldType.int) rm_X0_tell []) {this : Nat} {x1 : Int32} {A : AH} {out : Int32 × AH} (hf : f_X0_tell this x1 A = some out) (hr : c_res X = r_X0_tell A out) : G X 0 0 0 [(0, vr (some this)), (1, vi x1)] [] A := by
  have hX := hM.1
  unfold f_X0_tell at hf
  refine g_iload_n hX dX0_tell_0 (lg_at 1 rfl) ?_
  obtain ⟨v1, hc1, hf⟩ := ob_some hf
  refine h_callS hM [vi x1] dX0_tell_1 cs_SlimeNet_260_s (m_X0_isSlot hc1) rfl rfl rfl rfl ?_
  refine g_if_ne hX dX0_tell_4 10 hf (by decide) (fun c4 hf => ?_) (fun c4 hf => ?_)
  · refine g_aload_n hX dX0_tell_10 (lg_at 0 rfl) ?_
    refine g_getR hX hf fs_SlimeNet_45_1 rfl dX0_tell_11 (fun v11 hf => ?_)
    refine g_iload_n hX dX0_tell_14 (lg_at 1 rfl) ?_
    refine g_zald hX hf dX0_tell_15 (fun v15 hf => ?_)
    refine g_if_ne hX dX0_tell_16 22 hf (by decide) (fun c16 hf => ?_) (fun c16 hf => ?_)
    · refine g_iconst hX dX0_tell_22 (0 : Int32) (by decide) ?_
      refine g_istore_n hX dX0_tell_23 [(2, vi (0 : Int32)), (0, vr (some this)), (1, vi x1)] (by decide) rfl ?_
      refine g_iconst hX dX0_tell_24 (0 : Int32) (by decide) ?_
      refine g_istore_n hX dX0_tell_25 [(3, vi (0 : Int32)), (2, vi (0 : Int32)), (0, vr (some this)), (1, vi x1)] (by decide) rfl ?_
      exact g_pick (w_l_X0_tell_26 hM hf hr) [2, 3, 1, 0] rfl
    · refine g_bipush hX dX0_tell_19 (-4 : Int32) (by decide) ?_
      cases hf
      exact h_iret hM dX0_tell_21 hr rfl rfl
  · refine g_bipush hX dX0_tell_7 (-2 : Int32) (by decide) ?_
    cases hf
    exact h_iret hM dX0_tell_9 hr rfl rfl

theorem m_X0_tell {l : Launch} {this : Nat} {x1 : Int32} {A : AH} {out : Int32 × AH} (h : f_X0_tell this x1 A = some out) : MetF l yX0_tell (Cond.code yX0_tell cX0_tell 4 (some Jvm.ClassFile.FieldType.int)) rm_X0_tell [vr (some this), vi x1] A (r_X0_tell A out) :=
  metF_of rfl rfl (Nat.le_of_ble_eq_true rfl) fun X hX hl hR hnm hr h1 h2 hno => w_f_X0_tell (X := X) ⟨hX, hR, h1, h2, fun _ => ⟨hnm, hno⟩⟩ h hr

