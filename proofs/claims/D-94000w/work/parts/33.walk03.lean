/-! SlimeNetModel.plate()I -/
def rm_X4_plate : Room := { frames := 8, cells := 0, slots := 0, locals := 175 }
def r_X4_plate (_A : AH) (o : Int32 × AH) : (Option AV × AH) ⊕ (Nat × AH) := .inl (some (vi o.1), o.2)
def k_X4_plate_115 (X : Ctx) (this : Nat) : ((Int32 × AH) ⊕ (AH)) → Prop
  | .inl (x1, A) => G X 0 0 115 [(0, vr (some this)), (1, vi x1)] [] A
  | .inr A => G X 0 0 165 [(0, vr (some this))] [] A

def k_X4_plate_167 (X : Ctx) (this : Nat) : ((Int32 × AH) ⊕ (AH)) → Prop
  | .inl (x1, A) => G X 0 0 167 [(0, vr (some this)), (1, vi x1)] [] A
  | .inr A => G X 0 0 193 [(0, vr (some this))] [] A

def k_X4_plate_213 (X : Ctx) (this : Nat) : ((Int32 × AH) ⊕ (AH)) → Prop
  | .inl (x1, A) => G X 0 0 213 [(0, vr (some this)), (1, vi x1)] [] A
  | .inr A => G X 0 0 231 [(0, vr (some this))] [] A

set_option maxRecDepth 100000 in
theorem w_s_X4_plate_213 {X : Ctx} (hM : MX X yX4_plate cX4_plate 2 "SlimeNetModel" (some Jvm.ClassFile.FieldType.int) rm_X4_plate []) {this : Nat} {st : Int32 × AH} {out : (Int32 × AH) ⊕ (AH)} (hf : s_X4_plate_213 this st = some out) (K : k_X4_plate_213 X this out) : k_X4_plate_213 X this (.inl st) := by
  have hX := hM.1
  obtain ⟨x1, A⟩ := st
  unfold s_X4_plate_213 at hf
  dsimp only at hf
  show G X 0 0 213 [(0, vr (some this)), (1, vi x1)] [] A
  refine g_iload_n hX dX4_plate_213 (lg_at 1 rfl) ?_
  refine g_iconst hX dX4_plate_214 (4 : Int32) (by decide) ?_
  refine g_icmp_ge hX dX4_plate_215 231 hf (by decide) (fun c215 hf => ?_) (fun c215 hf => ?_)
  · cases hf
    exact g_pick (show G X _ _ _ _ _ _ from K) [0] rfl
  · refine g_aload_n hX dX4_plate_218 (lg_at 0 rfl) ?_
    refine g_getR hX hf fs_SlimeNetModel_238_5 rfl dX4_plate_219 (fun v219 hf => ?_)
    refine g_iload_n hX dX4_plate_222 (lg_at 1 rfl) ?_
    refine g_iconst hX dX4_plate_223 (0 : Int32) (by decide) ?_
    refine g_zast hX hf dX4_plate_224 (fun A224 hf => ?_)
    refine g_iinc hX dX4_plate_225 (1 : Int32) (x1 + (1 : Int32)) [(1, vi (x1 + (1 : Int32))), (0, vr (some this))] (by decide) rfl (lg_at 1 rfl) (by decide) rfl ?_
    refine g_goto hX dX4_plate_228 213 (by decide) ?_
    cases hf
    exact g_pick (show G X _ _ _ _ _ _ from K) [1, 0] rfl

set_option maxRecDepth 100000 in
theorem w_l_X4_plate_213 {X : Ctx} (hM : MX X yX4_plate cX4_plate 2 "SlimeNetModel" (some Jvm.ClassFile.FieldType.int) rm_X4_plate []) {this : Nat} {x1 : Int32} {A : AH} {out : Int32 × AH} (hf : l_X4_plate_213 this x1 A = some out) (hr : c_res X = r_X4_plate A out) : G X 0 0 213 [(0, vr (some this)), (1, vi x1)] [] A := by
  have hX := hM.1
  unfold l_X4_plate_213 at hf
  obtain ⟨e, hw, hf⟩ := ob_some hf
  refine (whl_ind (k_X4_plate_213 X this) (fun st o hs K => w_s_X4_plate_213 hM hs K) hw ?_ : k_X4_plate_213 X this (.inl (x1, A)))
  revert hf hw; generalize e = A; intro hw hf
  dsimp only at hf
  show G X 0 0 231 [(0, vr (some this))] [] A
  refine g_aload_n hX dX4_plate_231 (lg_at 0 rfl) ?_
  refine g_iconst hX dX4_plate_232 (0 : Int32) (by decide) ?_
  refine g_putI hX hf fs_SlimeNetModel_315_5 ⟨_, rfl, Or.inl rfl⟩ rfl dX4_plate_233 (fun A233 hf => ?_)
  refine g_aload_n hX dX4_plate_236 (lg_at 0 rfl) ?_
  refine g_iconst hX dX4_plate_237 (0 : Int32) (by decide) ?_
  refine g_putI hX hf fs_SlimeNetModel_318_5 ⟨_, rfl, Or.inl rfl⟩ rfl dX4_plate_238 (fun A238 hf => ?_)
  refine g_aload_n hX dX4_plate_241 (lg_at 0 rfl) ?_
  refine g_iconst hX dX4_plate_242 (0 : Int32) (by decide) ?_
  refine g_putI hX hf fs_SlimeNetModel_321_5 ⟨_, rfl, Or.inl rfl⟩ rfl dX4_plate_243 (fun A243 hf => ?_)
  refine g_aload_n hX dX4_plate_246 (lg_at 0 rfl) ?_
  refine g_getI hX hf fs_SlimeNetModel_306_5 rfl dX4_plate_247 (fun v247 hf => ?_)
  cases hf
  exact h_iret hM dX4_plate_250 hr rfl rfl

set_option maxRecDepth 100000 in
theorem w_s_X4_plate_167 {X : Ctx} (hM : MX X yX4_plate cX4_plate 2 "SlimeNetModel" (some Jvm.ClassFile.FieldType.int) rm_X4_plate []) {this : Nat} {st : Int32 × AH} {out : (Int32 × AH) ⊕ (AH)} (hf : s_X4_plate_167 this st = some out) (K : k_X4_plate_167 X this out) : k_X4_plate_167 X this (.inl st) := by
  have hX := hM.1
  obtain ⟨x1, A⟩ := st
  unfold s_X4_plate_167 at hf
  dsimp only at hf
  show G X 0 0 167 [(0, vr (some this)), (1, vi x1)] [] A
  refine g_iload_n hX dX4_plate_167 (lg_at 1 rfl) ?_
  refine g_aload_n hX dX4_plate_168 (lg_at 0 rfl) ?_
  refine g_getI hX hf fs_SlimeNetModel_300_5 rfl dX4_plate_169 (fun v169 hf => ?_)
  refine g_icmp_ge hX dX4_plate_172 193 hf (by decide) (fun c172 hf => ?_) (fun c172 hf => ?_)
  · cases hf
    exact g_pick (show G X _ _ _ _ _ _ from K) [0] rfl
  · refine g_aload_n hX dX4_plate_175 (lg_at 0 rfl) ?_
    refine g_getR hX hf fs_SlimeNetModel_197_5 rfl dX4_plate_176 (fun v176 hf => ?_)
    refine g_iload_n hX dX4_plate_179 (lg_at 1 rfl) ?_
    refine g_aload_n hX dX4_plate_180 (lg_at 0 rfl) ?_
    refine g_getR hX hf fs_SlimeNetModel_104_5 rfl dX4_plate_181 (fun v181 hf => ?_)
    refine g_iload_n hX dX4_plate_184 (lg_at 1 rfl) ?_
    refine g_iald hX hf dX4_plate_185 (fun v185 hf => ?_)
    refine g_iast hX hf dX4_plate_186 (fun A186 hf => ?_)
    refine g_iinc hX dX4_plate_187 (1 : Int32) (x1 + (1 : Int32)) [(1, vi (x1 + (1 : Int32))), (0, vr (some this))] (by decide) rfl (lg_at 1 rfl) (by decide) rfl ?_
    refine g_goto hX dX4_plate_190 167 (by decide) ?_
    cases hf
    exact g_pick (show G X _ _ _ _ _ _ from K) [1, 0] rfl

set_option maxRecDepth 100000 in
theorem w_l_X4_plate_167 {X : Ctx} (hM : MX X yX4_plate cX4_plate 2 "SlimeNetModel" (some Jvm.ClassFile.FieldType.int) rm_X4_plate []) {this : Nat} {x1 : Int32} {A : AH} {out : Int32 × AH} (hf : l_X4_plate_167 this x1 A = some out) (hr : c_res X = r_X4_plate A out) : G X 0 0 167 [(0, vr (some this)), (1, vi x1)] [] A := by
  have hX := hM.1
  unfold l_X4_plate_167 at hf
  obtain ⟨e, hw, hf⟩ := ob_some hf
  refine (whl_ind (k_X4_plate_167 X this) (fun st o hs K => w_s_X4_plate_167 hM hs K) hw ?_ : k_X4_plate_167 X this (.inl (x1, A)))
  revert hf hw; generalize e = A; intro hw hf
  dsimp only at hf
  show G X 0 0 193 [(0, vr (some this))] [] A
  refine g_aload_n hX dX4_plate_193 (lg_at 0 rfl) ?_
  obtain ⟨k194, hk194, hf⟩ := ob_some hf
  obtain ⟨A194, hc194, hf⟩ := ob_some hf
  refine h_callV hM [] dX4_plate_194 cs_SlimeNetModel_281_5 hk194 (m_X4_findTrees hc194) rfl rfl rfl rfl ?_
  refine g_aload_n hX dX4_plate_197 (lg_at 0 rfl) ?_
  obtain ⟨k198, hk198, hf⟩ := ob_some hf
  obtain ⟨A198, hc198, hf⟩ := ob_some hf
  refine h_callV hM [] dX4_plate_198 cs_SlimeNetModel_309_5 hk198 (m_X4_begin hc198) rfl rfl rfl rfl ?_
  refine g_aload_n hX dX4_plate_201 (lg_at 0 rfl) ?_
  refine g_iconst hX dX4_plate_202 (-1 : Int32) (by decide) ?_
  refine g_putI hX hf fs_SlimeNetModel_226_5 ⟨_, rfl, Or.inl rfl⟩ rfl dX4_plate_203 (fun A203 hf => ?_)
  refine g_aload_n hX dX4_plate_206 (lg_at 0 rfl) ?_
  refine g_iconst hX dX4_plate_207 (0 : Int32) (by decide) ?_
  refine g_putZ hX hf fs_SlimeNetModel_312_5 ⟨_, rfl, Or.inl rfl⟩ rfl dX4_plate_208 (fun A208 hf => ?_)
  refine g_iconst hX dX4_plate_211 (0 : Int32) (by decide) ?_
  refine g_istore_n hX dX4_plate_212 [(1, vi (0 : Int32)), (0, vr (some this))] (by decide) rfl ?_
  exact g_pick (w_l_X4_plate_213 hM hf hr) [1, 0] rfl

set_option maxRecDepth 100000 in
theorem w_s_X4_plate_115 {X : Ctx} (hM : MX X yX4_plate cX4_plate 2 "SlimeNetModel" (some Jvm.ClassFile.FieldType.int) rm_X4_plate []) {this : Nat} {st : Int32 × AH} {out : (Int32 × AH) ⊕ (AH)} (hf : s_X4_plate_115 this st = some out) (K : k_X4_plate_115 X this out) : k_X4_plate_115 X this (.inl st) := by
  have hX := hM.1
  obtain ⟨x1, A⟩ := st
  unfold s_X4_plate_115 at hf
  dsimp only at hf
  show G X 0 0 115 [(0, vr (some this)), (1, vi x1)] [] A
  refine g_iload_n hX dX4_plate_115 (lg_at 1 rfl) ?_
  refine g_aload_n hX dX4_plate_116 (lg_at 0 rfl) ?_
  refine g_getI hX hf fs_SlimeNetModel_297_5 rfl dX4_plate_117 (fun v117 hf => ?_)
  refine g_icmp_ge hX dX4_plate_120 165 hf (by decide) (fun c120 hf => ?_) (fun c120 hf => ?_)
  · cases hf
    exact g_pick (show G X _ _ _ _ _ _ from K) [0] rfl
  · refine g_aload_n hX dX4_plate_123 (lg_at 0 rfl) ?_
    refine g_getR hX hf fs_SlimeNetModel_188_5 rfl dX4_plate_124 (fun v124 hf => ?_)
    refine g_iload_n hX dX4_plate_127 (lg_at 1 rfl) ?_
    refine g_aload_n hX dX4_plate_128 (lg_at 0 rfl) ?_
    refine g_getR hX hf fs_SlimeNetModel_80_5 rfl dX4_plate_129 (fun v129 hf => ?_)
    refine g_iload_n hX dX4_plate_132 (lg_at 1 rfl) ?_
    refine g_iald hX hf dX4_plate_133 (fun v133 hf => ?_)
    refine g_iast hX hf dX4_plate_134 (fun A134 hf => ?_)
    refine g_aload_n hX dX4_plate_135 (lg_at 0 rfl) ?_
    refine g_getR hX hf fs_SlimeNetModel_191_5 rfl dX4_plate_136 (fun v136 hf => ?_)
    refine g_iload_n hX dX4_plate_139 (lg_at 1 rfl) ?_
    refine g_aload_n hX dX4_plate_140 (lg_at 0 rfl) ?_
    refine g_getR hX hf fs_SlimeNetModel_84_5 rfl dX4_plate_141 (fun v141 hf => ?_)
    refine g_iload_n hX dX4_plate_144 (lg_at 1 rfl) ?_
    refine g_iald hX hf dX4_plate_145 (fun v145 hf => ?_)
    refine g_iast hX hf dX4_plate_146 (fun A146 hf => ?_)
    refine g_aload_n hX dX4_plate_147 (lg_at 0 rfl) ?_
    refine g_getR hX hf fs_SlimeNetModel_194_5 rfl dX4_plate_148 (fun v148 hf => ?_)
    refine g_iload_n hX dX4_plate_151 (lg_at 1 rfl) ?_
    refine g_aload_n hX dX4_plate_152 (lg_at 0 rfl) ?_
    refine g_getR hX hf fs_SlimeNetModel_98_5 rfl dX4_plate_153 (fun v153 hf => ?_)
    refine g_iload_n hX dX4_plate_156 (lg_at 1 rfl) ?_
    refine g_iald hX hf dX4_plate_157 (fun v157 hf => ?_)
    refine g_iast hX hf dX4_plate_158 (fun A158 hf => ?_)
    refine g_iinc hX dX4_plate_159 (1 : Int32) (x1 + (1 : Int32)) [(1, vi (x1 + (1 : Int32))), (0, vr (some this))] (by decide) rfl (lg_at 1 rfl) (by decide) rfl ?_
    refine g_goto hX dX4_plate_162 115 (by decide) ?_
    cases hf
    exact g_pick (show G X _ _ _ _ _ _ from K) [1, 0] rfl

set_option maxRecDepth 100000 in
theorem w_l_X4_plate_115 {X : Ctx} (hM : MX X yX4_plate cX4_plate 2 "SlimeNetModel" (some Jvm.ClassFile.FieldType.int) rm_X4_plate []) {this : Nat} {x1 : Int32} {A : AH} {out : Int32 × AH} (hf : l_X4_plate_115 this x1 A = some out) (hr : c_res X = r_X4_plate A out) : G X 0 0 115 [(0, vr (some this)), (1, vi x1)] [] A := by
  have hX := hM.1
  unfold l_X4_plate_115 at hf
  obtain ⟨e, hw, hf⟩ := ob_some hf
  refine (whl_ind (k_X4_plate_115 X this) (fun st o hs K => w_s_X4_plate_115 hM hs K) hw ?_ : k_X4_plate_115 X this (.inl (x1, A)))
  revert hf hw; generalize e = A; intro hw hf
  dsimp only at hf
  show G X 0 0 165 [(0, vr (some this))] [] A
  refine g_iconst hX dX4_plate_165 (0 : Int32) (by decide) ?_
  refine g_istore_n hX dX4_plate_166 [(1, vi (0 : Int32)), (0, vr (some this))] (by decide) rfl ?_
  exact g_pick (w_l_X4_plate_167 hM hf hr) [1, 0] rfl

set_option maxRecDepth 100000 in
theorem w_f_X4_plate {X : Ctx} (hM : MX X yX4_plate cX4_plate 2 "SlimeNetModel" (some Jvm.ClassFile.FieldType.int) rm_X4_plate []) {this : Nat} {A : AH} {out : Int32 × AH} (hf : f_X4_plate this A = some out) (hr : c_res X = r_X4_plate A out) : G X 0 0 0 [(0, vr (some this))] [] A := by
  have hX := hM.1
  unfold f_X4_plate at hf
  refine g_aload_n hX dX4_plate_0 (lg_at 0 rfl) ?_
  refine g_aload_n hX dX4_plate_1 (lg_at 0 rfl) ?_
  refine g_getI hX hf fs_SlimeNetModel_284_5 rfl dX4_plate_2 (fun v2 hf => ?_)
  refine g_putI hX hf fs_SlimeNetModel_13_5 ⟨_, rfl, Or.inl rfl⟩ rfl dX4_plate_5 (fun A5 hf => ?_)
  refine g_aload_n hX dX4_plate_8 (lg_at 0 rfl) ?_
  refine g_iconst hX dX4_plate_9 (0 : Int32) (by decide) ?_
  refine g_putI hX hf fs_SlimeNetModel_284_5 ⟨_, rfl, Or.inl rfl⟩ rfl dX4_plate_10 (fun A10 hf => ?_)
  refine g_aload_n hX dX4_plate_13 (lg_at 0 rfl) ?_
  refine g_iconst hX dX4_plate_14 (0 : Int32) (by decide) ?_
  refine g_putI hX hf fs_SlimeNetModel_20_5 ⟨_, rfl, Or.inl rfl⟩ rfl dX4_plate_15 (fun A15 hf => ?_)
  refine g_aload_n hX dX4_plate_18 (lg_at 0 rfl) ?_
  refine g_iconst hX dX4_plate_19 (0 : Int32) (by decide) ?_
  refine g_putI hX hf fs_SlimeNetModel_3_5 ⟨_, rfl, Or.inl rfl⟩ rfl dX4_plate_20 (fun A20 hf => ?_)
  refine g_aload_n hX dX4_plate_23 (lg_at 0 rfl) ?_
  refine g_iconst hX dX4_plate_24 (-1 : Int32) (by decide) ?_
  refine g_putI hX hf fs_SlimeNetModel_10_5 ⟨_, rfl, Or.inl rfl⟩ rfl dX4_plate_25 (fun A25 hf => ?_)
  refine g_aload_n hX dX4_plate_28 (lg_at 0 rfl) ?_
  obtain ⟨k29, hk29, hf⟩ := ob_some hf
  obtain ⟨A29, hc29, hf⟩ := ob_some hf
  refine h_callV hM [] dX4_plate_29 cs_SlimeNetModel_59_5 hk29 (m_X4_scan hc29) rfl rfl rfl rfl ?_
  refine g_aload_n hX dX4_plate_32 (lg_at 0 rfl) ?_
  obtain ⟨k33, hk33, hf⟩ := ob_some hf
  obtain ⟨⟨v33, A33⟩, hc33, hf⟩ := ob_some hf
  refine h_callV hM [] dX4_plate_33 cs_SlimeNetModel_291_5 hk33 (m_X4_readPlate hc33) rfl rfl rfl rfl ?_
  dsimp only at hf
  refine g_if_ne hX dX4_plate_36 41 hf (by decide) (fun c36 hf => ?_) (fun c36 hf => ?_)
  · refine g_aload_n hX dX4_plate_41 (lg_at 0 rfl) ?_
    refine g_aload_n hX dX4_plate_42 (lg_at 0 rfl) ?_
    refine g_getI hX hf fs_SlimeNetModel_63_5 rfl dX4_plate_43 (fun v43 hf => ?_)
    refine g_putI hX hf fs_SlimeNetModel_294_5 ⟨_, rfl, Or.inl rfl⟩ rfl dX4_plate_46 (fun A46 hf => ?_)
    refine g_aload_n hX dX4_plate_49 (lg_at 0 rfl) ?_
    refine g_aload_n hX dX4_plate_50 (lg_at 0 rfl) ?_
    refine g_getI hX hf fs_SlimeNetModel_77_5 rfl dX4_plate_51 (fun v51 hf => ?_)
    refine g_putI hX hf fs_SlimeNetModel_297_5 ⟨_, rfl, Or.inl rfl⟩ rfl dX4_plate_54 (fun A54 hf => ?_)
    refine g_aload_n hX dX4_plate_57 (lg_at 0 rfl) ?_
    refine g_aload_n hX dX4_plate_58 (lg_at 0 rfl) ?_
    refine g_getI hX hf fs_SlimeNetModel_101_5 rfl dX4_plate_59 (fun v59 hf => ?_)
    refine g_putI hX hf fs_SlimeNetModel_300_5 ⟨_, rfl, Or.inl rfl⟩ rfl dX4_plate_62 (fun A62 hf => ?_)
    refine g_aload_n hX dX4_plate_65 (lg_at 0 rfl) ?_
    refine g_aload_n hX dX4_plate_66 (lg_at 0 rfl) ?_
    refine g_getI hX hf fs_SlimeNetModel_107_5 rfl dX4_plate_67 (fun v67 hf => ?_)
    refine g_putI hX hf fs_SlimeNetModel_303_5 ⟨_, rfl, Or.inl rfl⟩ rfl dX4_plate_70 (fun A70 hf => ?_)
    refine g_aload_n hX dX4_plate_73 (lg_at 0 rfl) ?_
    refine g_aload_n hX dX4_plate_74 (lg_at 0 rfl) ?_
    refine g_getI hX hf fs_SlimeNetModel_134_5 rfl dX4_plate_75 (fun v75 hf => ?_)
    refine g_putI hX hf fs_SlimeNetModel_177_5 ⟨_, rfl, Or.inl rfl⟩ rfl dX4_plate_78 (fun A78 hf => ?_)
    refine g_aload_n hX dX4_plate_81 (lg_at 0 rfl) ?_
    refine g_aload_n hX dX4_plate_82 (lg_at 0 rfl) ?_
    refine g_getI hX hf fs_SlimeNetModel_137_5 rfl dX4_plate_83 (fun v83 hf => ?_)
    refine g_putI hX hf fs_SlimeNetModel_180_5 ⟨_, rfl, Or.inl rfl⟩ rfl dX4_plate_86 (fun A86 hf => ?_)
    refine g_aload_n hX dX4_plate_89 (lg_at 0 rfl) ?_
    refine g_aload_n hX dX4_plate_90 (lg_at 0 rfl) ?_
    refine g_getI hX hf fs_SlimeNetModel_140_5 rfl dX4_plate_91 (fun v91 hf => ?_)
    refine g_putI hX hf fs_SlimeNetModel_183_5 ⟨_, rfl, Or.inl rfl⟩ rfl dX4_plate_94 (fun A94 hf => ?_)
    refine g_aload_n hX dX4_plate_97 (lg_at 0 rfl) ?_
    refine g_aload_n hX dX4_plate_98 (lg_at 0 rfl) ?_
    refine g_getI hX hf fs_SlimeNetModel_143_5 rfl dX4_plate_99 (fun v99 hf => ?_)
    refine g_putI hX hf fs_SlimeNetModel_186_5 ⟨_, rfl, Or.inl rfl⟩ rfl dX4_plate_102 (fun A102 hf => ?_)
    refine g_aload_n hX dX4_plate_105 (lg_at 0 rfl) ?_
    refine g_aload_n hX dX4_plate_106 (lg_at 0 rfl) ?_
    refine g_getI hX hf fs_SlimeNetModel_146_5 rfl dX4_plate_107 (fun v107 hf => ?_)
    refine g_putI hX hf fs_SlimeNetModel_306_5 ⟨_, rfl, Or.inl rfl⟩ rfl dX4_plate_110 (fun A110 hf => ?_)
    refine g_iconst hX dX4_plate_113 (0 : Int32) (by decide) ?_
    refine g_istore_n hX dX4_plate_114 [(1, vi (0 : Int32)), (0, vr (some this))] (by decide) rfl ?_
    exact g_pick (w_l_X4_plate_115 hM hf hr) [1, 0] rfl
  · refine g_iconst hX dX4_plate_39 (-1 : Int32) (by decide) ?_
    cases hf
    exact h_iret hM dX4_plate_40 hr rfl rfl

theorem m_X4_plate {l : Launch} {this : Nat} {A : AH} {out : Int32 × AH} (h : f_X4_plate this A = some out) : MetF l yX4_plate (Cond.code yX4_plate cX4_plate 2 (some Jvm.ClassFile.FieldType.int)) rm_X4_plate [vr (some this)] A (r_X4_plate A out) :=
  metF_of rfl rfl (Nat.le_of_ble_eq_true rfl) fun X hX hl hR hnm hr h1 h2 hno => w_f_X4_plate (X := X) ⟨hX, hR, h1, h2, fun _ => ⟨hnm, hno⟩⟩ h hr

/-! SlimeNet.fault(I)I -/
def rm_X0_fault : Room := { frames := 1, cells := 0, slots := 0, locals := 24 }
def r_X0_fault (A : AH) (o : Int32) : (Option AV × AH) ⊕ (Nat × AH) := .inl (some (vi o), A)
set_option maxRecDepth 100000 in
theorem w_f_X0_fault_24 {X : Ctx} (hM : MX X yX0_fault cX0_fault 2 "SlimeNet" (some Jvm.ClassFile.FieldType.int) rm_X0_fault []) {t0 : Int32} {A : AH} {out : Int32} (hf : f_X0_fault_24 t0 A = some out) (hr : c_res X = r_X0_fault A out) : G X 0 0 24 [] [vi t0] A := by
  have hX := hM.1
  unfold f_X0_fault_24 at hf
  cases hf
  exact h_iret hM dX0_fault_24 hr rfl rfl

set_option maxRecDepth 100000 in
theorem w_f_X0_fault {X : Ctx} (hM : MX X yX0_fault cX0_fault 2 "SlimeNet" (some Jvm.ClassFile.FieldType.int) rm_X0_fault []) {this : Nat} {x1 : Int32} {A : AH} {out : Int32} (hf : f_X0_fault this x1 A = some out) (hr : c_res X = r_X0_fault A out) : G X 0 0 0 [(0, vr (some this)), (1, vi x1)] [] A := by
  have hX := hM.1
  unfold f_X0_fault at hf
  refine g_iload_n hX dX0_fault_0 (lg_at 1 rfl) ?_
  refine g_if_ne hX dX0_fault_1 11 hf (by decide) (fun c1 hf => ?_) (fun c1 hf => ?_)
  · refine g_iload_n hX dX0_fault_11 (lg_at 1 rfl) ?_
    refine g_iconst hX dX0_fault_12 (1 : Int32) (by decide) ?_
    refine g_icmp_ne hX dX0_fault_13 23 hf (by decide) (fun c13 hf => ?_) (fun c13 hf => ?_)
    · refine g_iconst hX dX0_fault_23 (-1 : Int32) (by decide) ?_
      exact g_pick (w_f_X0_fault_24 hM hf hr) [] rfl
    · refine g_aload_n hX dX0_fault_16 (lg_at 0 rfl) ?_
      refine g_getI hX hf fs_SlimeNet_20_1 rfl dX0_fault_17 (fun v17 hf => ?_)
      refine g_goto hX dX0_fault_20 24 (by decide) ?_
      exact g_pick (w_f_X0_fault_24 hM hf hr) [] rfl
  · refine g_aload_n hX dX0_fault_4 (lg_at 0 rfl) ?_
    refine g_getI hX hf fs_SlimeNet_103_1 rfl dX0_fault_5 (fun v5 hf => ?_)
    refine g_goto hX dX0_fault_8 24 (by decide) ?_
    exact g_pick (w_f_X0_fault_24 hM hf hr) [] rfl

theorem m_X0_fault {l : Launch} {this : Nat} {x1 : Int32} {A : AH} {out : Int32} (h : f_X0_fault this x1 A = some out) : MetF l yX0_fault (Cond.code yX0_fault cX0_fault 2 (some Jvm.ClassFile.FieldType.int)) rm_X0_fault [vr (some this), vi x1] A (r_X0_fault A out) :=
  metF_of rfl rfl (Nat.le_of_ble_eq_true rfl) fun X hX hl hR hnm hr h1 h2 hno => w_f_X0_fault (X := X) ⟨hX, hR, h1, h2, fun _ => ⟨hnm, hno⟩⟩ h hr

/-! SlimeNetModel.fault(I)I -/
def rm_X4_fault : Room := { frames := 1, cells := 0, slots := 0, locals := 24 }
def r_X4_fault (A : AH) (o : Int32) : (Option AV × AH) ⊕ (Nat × AH) := .inl (some (vi o), A)
set_option maxRecDepth 100000 in
theorem w_f_X4_fault_24 {X : Ctx} (hM : MX X yX4_fault cX4_fault 2 "SlimeNetModel" (some Jvm.ClassFile.FieldType.int) rm_X4_fault []) {t0 : Int32} {A : AH} {out : Int32} (hf : f_X4_fault_24 t0 A = some out) (hr : c_res X = r_X4_fault A out) : G X 0 0 24 [] [vi t0] A := by
  have hX := hM.1
  unfold f_X4_fault_24 at hf
  cases hf
  exact h_iret hM dX4_fault_24 hr rfl rfl

set_option maxRecDepth 100000 in
theorem w_f_X4_fault {X : Ctx} (hM : MX X yX4_fault cX4_fault 2 "SlimeNetModel" (some Jvm.ClassFile.FieldType.int) rm_X4_fault []) {this : Nat} {x1 : Int32} {A : AH} {out : Int32} (hf : f_X4_fault this x1 A = some out) (hr : c_res X = r_X4_fault A out) : G X 0 0 0 [(0, vr (some this)), (1, vi x1)] [] A := by
  have hX := hM.1
  unfold f_X4_fault at hf
  refine g_iload_n hX dX4_fault_0 (lg_at 1 rfl) ?_
  refine g_if_ne hX dX4_fault_1 11 hf (by decide) (fun c1 hf => ?_) (fun c1 hf => ?_)
  · refine g_iload_n hX dX4_fault_11 (lg_at 1 rfl) ?_
    refine g_iconst hX dX4_fault_12 (1 : Int32) (by decide) ?_
    refine g_icmp_ne hX dX4_fault_13 23 hf (by decide) (fun c13 hf => ?_) (fun c13 hf => ?_)
    · refine g_iconst hX dX4_fault_23 (-1 : Int32) (by decide) ?_
      exact g_pick (w_f_X4_fault_24 hM hf hr) [] rfl
    · refine g_aload_n hX dX4_fault_16 (lg_at 0 rfl) ?_
      refine g_getI hX hf fs_SlimeNetModel_10_5 rfl dX4_fault_17 (fun v17 hf => ?_)
      refine g_goto hX dX4_fault_20 24 (by decide) ?_
      exact g_pick (w_f_X4_fault_24 hM hf hr) [] rfl
  · refine g_aload_n hX dX4_fault_4 (lg_at 0 rfl) ?_
    refine g_getI hX hf fs_SlimeNetModel_3_5 rfl dX4_fault_5 (fun v5 hf => ?_)
    refine g_goto hX dX4_fault_8 24 (by decide) ?_
    exact g_pick (w_f_X4_fault_24 hM hf hr) [] rfl

theorem m_X4_fault {l : Launch} {this : Nat} {x1 : Int32} {A : AH} {out : Int32} (h : f_X4_fault this x1 A = some out) : MetF l yX4_fault (Cond.code yX4_fault cX4_fault 2 (some Jvm.ClassFile.FieldType.int)) rm_X4_fault [vr (some this), vi x1] A (r_X4_fault A out) :=
  metF_of rfl rfl (Nat.le_of_ble_eq_true rfl) fun X hX hl hR hnm hr h1 h2 hno => w_f_X4_fault (X := X) ⟨hX, hR, h1, h2, fun _ => ⟨hnm, hno⟩⟩ h hr

/-! SlimeNet$Plate.pairs()I -/
def rm_X2_pairs : Room := { frames := 1, cells := 0, slots := 0, locals := 24 }
def r_X2_pairs (A : AH) (o : Int32) : (Option AV × AH) ⊕ (Nat × AH) := .inl (some (vi o), A)
set_option maxRecDepth 100000 in
theorem w_f_X2_pairs {X : Ctx} (hM : MX X yX2_pairs cX2_pairs 1 "SlimeNet$Plate" (some Jvm.ClassFile.FieldType.int) rm_X2_pairs []) {this : Nat} {A : AH} {out : Int32} (hf : f_X2_pairs this A = some out) (hr : c_res X = r_X2_pairs A out) : G X 0 0 0 [(0, vr (some this))] [] A := by
  have hX := hM.1
  unfold f_X2_pairs at hf
  refine g_aload_n hX dX2_pairs_0 (lg_at 0 rfl) ?_
  refine g_getI hX hf fs_SlimeNet_Plate_45_3 rfl dX2_pairs_1 (fun v1 hf => ?_)
  refine g_aload_n hX dX2_pairs_4 (lg_at 0 rfl) ?_
  refine g_getI hX hf fs_SlimeNet_Plate_45_3 rfl dX2_pairs_5 (fun v5 hf => ?_)
  refine g_iconst hX dX2_pairs_8 (1 : Int32) (by decide) ?_
  refine g_isub hX dX2_pairs_9 ?_
  refine g_imul hX dX2_pairs_10 ?_
  refine g_iconst hX dX2_pairs_11 (2 : Int32) (by decide) ?_
  refine g_idiv hX dX2_pairs_12 hf (fun v12 _ hf => ?_)
  cases hf
  exact h_iret hM dX2_pairs_13 hr rfl rfl

theorem m_X2_pairs {l : Launch} {this : Nat} {A : AH} {out : Int32} (h : f_X2_pairs this A = some out) : MetF l yX2_pairs (Cond.code yX2_pairs cX2_pairs 1 (some Jvm.ClassFile.FieldType.int)) rm_X2_pairs [vr (some this)] A (r_X2_pairs A out) :=
  metF_of rfl rfl (Nat.le_of_ble_eq_true rfl) fun X hX hl hR hnm hr h1 h2 hno => w_f_X2_pairs (X := X) ⟨hX, hR, h1, h2, fun _ => ⟨hnm, hno⟩⟩ h hr

/-! SlimeNet.salted()I -/
def rm_X0_salted : Room := { frames := 4, cells := 0, slots := 0, locals := 88 }
def r_X0_salted (A : AH) (o : Int32) : (Option AV × AH) ⊕ (Nat × AH) := .inl (some (vi o), A)
def k_X0_salted_4 (X : Ctx) (this : Nat) (A : AH) : ((Int32 × Int32) ⊕ (Int32)) → Prop
  | .inl (x1, x2) => G X 0 0 4 [(0, vr (some this)), (1, vi x1), (2, vi x2)] [] A
  | .inr x1 => G X 0 0 54 [(1, vi x1)] [] A

set_option maxRecDepth 100000 in
theorem w_f_X0_salted_46 {X : Ctx} (hM : MX X yX0_salted cX0_salted 3 "SlimeNet" (some Jvm.ClassFile.FieldType.int) rm_X0_salted []) {this : Nat} {x2 : Int32} {t0 : Int32} {t1 : Int32} {A : AH} {out : (Int32 × Int32) ⊕ (Int32)} (hf : f_X0_salted_46 this x2 t0 t1 A = some out) (K : k_X0_salted_4 X this A out) : G X 0 0 46 [(0, vr (some this)), (2, vi x2)] [vi t0, vi t1] A := by
  have hX := hM.1
  unfold f_X0_salted_46 at hf
  refine g_ior hX dX0_salted_46 ?_
  refine g_istore_n hX dX0_salted_47 [(1, vi (t1 ||| t0)), (0, vr (some this)), (2, vi x2)] (by decide) rfl ?_
  refine g_iinc hX dX0_salted_48 (1 : Int32) (x2 + (1 : Int32)) [(2, vi (x2 + (1 : Int32))), (1, vi (t1 ||| t0)), (0, vr (some this))] (by decide) rfl (lg_at 2 rfl) (by decide) rfl ?_
  refine g_goto hX dX0_salted_51 4 (by decide) ?_
  cases hf
  exact g_pick (show G X _ _ _ _ _ _ from K) [2, 1, 0] rfl

set_option maxRecDepth 100000 in
theorem w_s_X0_salted_4 {X : Ctx} (hM : MX X yX0_salted cX0_salted 3 "SlimeNet" (some Jvm.ClassFile.FieldType.int) rm_X0_salted []) {this : Nat} {A : AH} {st : Int32 × Int32} {out : (Int32 × Int32) ⊕ (Int32)} (hf : s_X0_salted_4 this A st = some out) (K : k_X0_salted_4 X this A out) : k_X0_salted_4 X this A (.inl st) := by
  have hX := hM.1
  obtain ⟨x1, x2⟩ := st
  unfold s_X0_salted_4 at hf
  dsimp only at hf
  show G X 0 0 4 [(0, vr (some this)), (1, vi x1), (2, vi x2)] [] A
  refine g_iload_n hX dX0_salted_4 (lg_at 2 rfl) ?_
  refine g_aload_n hX dX0_salted_5 (lg_at 0 rfl) ?_
  refine g_getR hX hf fs_SlimeNet_27_1 rfl dX0_salted_6 (fun v6 hf => ?_)
  refine g_getR hX hf fs_SlimeNet_143_3 rfl dX0_salted_9 (fun v9 hf => ?_)
  obtain ⟨k12, hk12, hf⟩ := ob_some hf
  obtain ⟨v12, hc12, hf⟩ := ob_some hf
  refine h_callV hM [] dX0_salted_12 cs_SlimeNet_147_8 hk12 (m_J4_size hc12) rfl rfl rfl rfl ?_
  refine g_icmp_ge hX dX0_salted_15 54 hf (by decide) (fun c15 hf => ?_) (fun c15 hf => ?_)
  · cases hf
    exact g_pick (show G X _ _ _ _ _ _ from K) [1] rfl
  · refine g_iload_n hX dX0_salted_18 (lg_at 1 rfl) ?_
    refine g_aload_n hX dX0_salted_19 (lg_at 0 rfl) ?_
    refine g_getR hX hf fs_SlimeNet_27_1 rfl dX0_salted_20 (fun v20 hf => ?_)
    refine g_getR hX hf fs_SlimeNet_143_3 rfl dX0_salted_23 (fun v23 hf => ?_)
    refine g_iload_n hX dX0_salted_26 (lg_at 2 rfl) ?_
    obtain ⟨k27, hk27, hf⟩ := ob_some hf
    obtain ⟨v27, hc27, hf⟩ := ob_some hf
    refine h_callV hM [vi x2] dX0_salted_27 cs_SlimeNet_182_8 hk27 (m_J4_get hc27) rfl rfl rfl rfl ?_
    refine g_castC hX (by decide) rfl (lw_LW q775) hf dX0_salted_30 (fun hf => ?_)
    refine g_getI hX hf fs_SlimeNet_200_7 rfl dX0_salted_33 (fun v33 hf => ?_)
    refine g_if_eq hX dX0_salted_36 45 hf (by decide) (fun c36 hf => ?_) (fun c36 hf => ?_)
    · refine g_iconst hX dX0_salted_45 (0 : Int32) (by decide) ?_
      exact g_pick (w_f_X0_salted_46 hM hf K) [0, 2] rfl
    · refine g_iconst hX dX0_salted_39 (1 : Int32) (by decide) ?_
      refine g_iload_n hX dX0_salted_40 (lg_at 2 rfl) ?_
      refine g_ishl hX dX0_salted_41 ?_
      refine g_goto hX dX0_salted_42 46 (by decide) ?_
      exact g_pick (w_f_X0_salted_46 hM hf K) [0, 2] rfl

set_option maxRecDepth 100000 in
theorem w_l_X0_salted_4 {X : Ctx} (hM : MX X yX0_salted cX0_salted 3 "SlimeNet" (some Jvm.ClassFile.FieldType.int) rm_X0_salted []) {this : Nat} {x1 : Int32} {x2 : Int32} {A : AH} {out : Int32} (hf : l_X0_salted_4 this x1 x2 A = some out) (hr : c_res X = r_X0_salted A out) : G X 0 0 4 [(0, vr (some this)), (1, vi x1), (2, vi x2)] [] A := by
  have hX := hM.1
  unfold l_X0_salted_4 at hf
  obtain ⟨e, hw, hf⟩ := ob_some hf
  refine (whl_ind (k_X0_salted_4 X this A) (fun st o hs K => w_s_X0_salted_4 hM hs K) hw ?_ : k_X0_salted_4 X this A (.inl (x1, x2)))
  revert hf hw; generalize e = x1; intro hw hf
  dsimp only at hf
  show G X 0 0 54 [(1, vi x1)] [] A
  refine g_iload_n hX dX0_salted_54 (lg_at 0 rfl) ?_
  cases hf
  exact h_iret hM dX0_salted_55 hr rfl rfl

set_option maxRecDepth 100000 in
theorem w_f_X0_salted {X : Ctx} (hM : MX X yX0_salted cX0_salted 3 "SlimeNet" (some Jvm.ClassFile.FieldType.int) rm_X0_salted []) {this : Nat} {A : AH} {out : Int32} (hf : f_X0_salted this A = some out) (hr : c_res X = r_X0_salted A out) : G X 0 0 0 [(0, vr (some this))] [] A := by
  have hX := hM.1
  unfold f_X0_salted at hf
  refine g_iconst hX dX0_salted_0 (0 : Int32) (by decide) ?_
  refine g_istore_n hX dX0_salted_1 [(1, vi (0 : Int32)), (0, vr (some this))] (by decide) rfl ?_
  refine g_iconst hX dX0_salted_2 (0 : Int32) (by decide) ?_
  refine g_istore_n hX dX0_salted_3 [(2, vi (0 : Int32)), (1, vi (0 : Int32)), (0, vr (some this))] (by decide) rfl ?_
  exact g_pick (w_l_X0_salted_4 hM hf hr) [2, 1, 0] rfl

theorem m_X0_salted {l : Launch} {this : Nat} {A : AH} {out : Int32} (h : f_X0_salted this A = some out) : MetF l yX0_salted (Cond.code yX0_salted cX0_salted 3 (some Jvm.ClassFile.FieldType.int)) rm_X0_salted [vr (some this)] A (r_X0_salted A out) :=
  metF_of rfl rfl (Nat.le_of_ble_eq_true rfl) fun X hX hl hR hnm hr h1 h2 hno => w_f_X0_salted (X := X) ⟨hX, hR, h1, h2, fun _ => ⟨hnm, hno⟩⟩ h hr

/-! SlimeNet.isPipe(I)Z -/
def rm_X0_isPipe : Room := { frames := 2, cells := 0, slots := 0, locals := 46 }
def r_X0_isPipe (A : AH) (o : Int32) : (Option AV × AH) ⊕ (Nat × AH) := .inl (some (vi o), A)
set_option maxRecDepth 100000 in
theorem w_f_X0_isPipe {X : Ctx} (hM : MX X yX0_isPipe cX0_isPipe 2 "SlimeNet" (some Jvm.ClassFile.FieldType.boolean) rm_X0_isPipe []) {this : Nat} {x1 : Int32} {A : AH} {out : Int32} (hf : f_X0_isPipe this x1 A = some out) (hr : c_res X = r_X0_isPipe A out) : G X 0 0 0 [(0, vr (some this)), (1, vi x1)] [] A := by
  have hX := hM.1
  unfold f_X0_isPipe at hf
  refine g_iload_n hX dX0_isPipe_0 (lg_at 1 rfl) ?_
  refine g_iconst hX dX0_isPipe_1 (0 : Int32) (by decide) ?_
  refine g_aload_n hX dX0_isPipe_2 (lg_at 0 rfl) ?_
  refine g_getR hX hf fs_SlimeNet_27_1 rfl dX0_isPipe_3 (fun v3 hf => ?_)
  refine g_getR hX hf fs_SlimeNet_143_3 rfl dX0_isPipe_6 (fun v6 hf => ?_)
  obtain ⟨k9, hk9, hf⟩ := ob_some hf
  obtain ⟨v9, hc9, hf⟩ := ob_some hf
  refine h_callV hM [] dX0_isPipe_9 cs_SlimeNet_147_8 hk9 (m_J4_size hc9) rfl rfl rfl rfl ?_
  refine g_iconst hX dX0_isPipe_12 (1 : Int32) (by decide) ?_
  refine g_isub hX dX0_isPipe_13 ?_
  obtain ⟨v14, hc14, hf⟩ := ob_some hf
  refine h_callS hM [vi x1, vi (0 : Int32), vi (v9 - (1 : Int32))] dX0_isPipe_14 cs_SlimeNet_153_s (m_X0_in hc14) rfl rfl rfl rfl ?_
  obtain ⟨w17, hz17, hf⟩ := ob_some hf
  cases hf
  exact h_zret hM dX0_isPipe_17 hr rfl (ckZ_nar hz17).2 rfl

theorem m_X0_isPipe {l : Launch} {this : Nat} {x1 : Int32} {A : AH} {out : Int32} (h : f_X0_isPipe this x1 A = some out) : MetF l yX0_isPipe (Cond.code yX0_isPipe cX0_isPipe 2 (some Jvm.ClassFile.FieldType.boolean)) rm_X0_isPipe [vr (some this), vi x1] A (r_X0_isPipe A out) :=
  metF_of rfl rfl (Nat.le_of_ble_eq_true rfl) fun X hX hl hR hnm hr h1 h2 hno => w_f_X0_isPipe (X := X) ⟨hX, hR, h1, h2, fun _ => ⟨hnm, hno⟩⟩ h hr

/-! SlimeNet.told(I)I -/
def rm_X0_told : Room := { frames := 5, cells := 0, slots := 0, locals := 110 }
def r_X0_told (A : AH) (o : Int32) : (Option AV × AH) ⊕ (Nat × AH) := .inl (some (vi o), A)
set_option maxRecDepth 100000 in
theorem w_f_X0_told_235 {X : Ctx} (hM : MX X yX0_told cX0_told 2 "SlimeNet" (some Jvm.ClassFile.FieldType.int) rm_X0_told []) {t0 : Int32} {A : AH} {out : Int32} (hf : f_X0_told_235 t0 A = some out) (hr : c_res X = r_X0_told A out) : G X 0 0 235 [] [vi t0] A := by
  have hX := hM.1
  unfold f_X0_told_235 at hf
  cases hf
  exact h_iret hM dX0_told_235 hr rfl rfl

set_option maxRecDepth 100000 in
theorem w_f_X0_told {X : Ctx} (hM : MX X yX0_told cX0_told 2 "SlimeNet" (some Jvm.ClassFile.FieldType.int) rm_X0_told []) {this : Nat} {x1 : Int32} {A : AH} {out : Int32} (hf : f_X0_told this x1 A = some out) (hr : c_res X = r_X0_told A out) : G X 0 0 0 [(0, vr (some this)), (1, vi x1)] [] A := by
  have hX := hM.1
  unfold f_X0_told at hf
  refine g_iload_n hX dX0_told_0 (lg_at 1 rfl) ?_
  by_cases hd : Int32.toInt x1 < 0 ∨ 7 < Int32.toInt x1
  · rw [if_pos hd] at hf
    refine g_tblO hX dX0_told_1 112 hd (by decide) ?_
    refine g_aload_n hX dX0_told_112 (lg_at 0 rfl) ?_
    refine g_iload_n hX dX0_told_113 (lg_at 1 rfl) ?_
    refine g_bipush hX dX0_told_114 (10 : Int32) (by decide) ?_
    refine g_isub hX dX0_told_116 ?_
    obtain ⟨k117, hk117, hf⟩ := ob_some hf
    obtain ⟨v117, hc117, hf⟩ := ob_some hf
    refine h_callV hM [vi (x1 - (10 : Int32))] dX0_told_117 cs_SlimeNet_178_1 hk117 (m_X0_isPipe hc117) rfl rfl rfl rfl ?_
    refine g_if_eq hX dX0_told_120 144 hf (by decide) (fun c120 hf => ?_) (fun c120 hf => ?_)
    · refine g_aload_n hX dX0_told_144 (lg_at 0 rfl) ?_
      refine g_iload_n hX dX0_told_145 (lg_at 1 rfl) ?_
      refine g_bipush hX dX0_told_146 (20 : Int32) (by decide) ?_
      refine g_isub hX dX0_told_148 ?_
      obtain ⟨k149, hk149, hf⟩ := ob_some hf
      obtain ⟨v149, hc149, hf⟩ := ob_some hf
      refine h_callV hM [vi (x1 - (20 : Int32))] dX0_told_149 cs_SlimeNet_178_1 hk149 (m_X0_isPipe hc149) rfl rfl rfl rfl ?_
      refine g_if_eq hX dX0_told_152 200 hf (by decide) (fun c152 hf => ?_) (fun c152 hf => ?_)
      · refine g_iload_n hX dX0_told_200 (lg_at 1 rfl) ?_
        refine g_bipush hX dX0_told_201 (30 : Int32) (by decide) ?_
        refine g_bipush hX dX0_told_203 (29 : Int32) (by decide) ?_
        refine g_aload_n hX dX0_told_205 (lg_at 0 rfl) ?_
        refine g_getR hX hf fs_SlimeNet_27_1 rfl dX0_told_206 (fun v206 hf => ?_)
        refine g_getI hX hf fs_SlimeNet_160_3 rfl dX0_told_209 (fun v209 hf => ?_)
        refine g_iadd hX dX0_told_212 ?_
        obtain ⟨v213, hc213, hf⟩ := ob_some hf
        refine h_callS hM [vi x1, vi (30 : Int32), vi ((29 : Int32) + v209)] dX0_told_213 cs_SlimeNet_153_s (m_X0_in hc213) rfl rfl rfl rfl ?_
        refine g_if_eq hX dX0_told_216 234 hf (by decide) (fun c216 hf => ?_) (fun c216 hf => ?_)
        · refine g_iconst hX dX0_told_234 (-1 : Int32) (by decide) ?_
          exact g_pick (w_f_X0_told_235 hM hf hr) [] rfl
        · refine g_aload_n hX dX0_told_219 (lg_at 0 rfl) ?_
          refine g_getR hX hf fs_SlimeNet_27_1 rfl dX0_told_220 (fun v220 hf => ?_)
          refine g_getR hX hf fs_SlimeNet_197_3 rfl dX0_told_223 (fun v223 hf => ?_)
          refine g_iload_n hX dX0_told_226 (lg_at 1 rfl) ?_
          refine g_bipush hX dX0_told_227 (30 : Int32) (by decide) ?_
          refine g_isub hX dX0_told_229 ?_
          refine g_iald hX hf dX0_told_230 (fun v230 hf => ?_)
          refine g_goto hX dX0_told_231 235 (by decide) ?_
          exact g_pick (w_f_X0_told_235 hM hf hr) [] rfl
      · refine g_bipush hX dX0_told_155 (8 : Int32) (by decide) ?_
        refine g_aload_n hX dX0_told_157 (lg_at 0 rfl) ?_
        refine g_getR hX hf fs_SlimeNet_27_1 rfl dX0_told_158 (fun v158 hf => ?_)
        refine g_getR hX hf fs_SlimeNet_143_3 rfl dX0_told_161 (fun v161 hf => ?_)
        refine g_iload_n hX dX0_told_164 (lg_at 1 rfl) ?_
        refine g_bipush hX dX0_told_165 (20 : Int32) (by decide) ?_
        refine g_isub hX dX0_told_167 ?_
        obtain ⟨k168, hk168, hf⟩ := ob_some hf
        obtain ⟨v168, hc168, hf⟩ := ob_some hf
        refine h_callV hM [vi (x1 - (20 : Int32))] dX0_told_168 cs_SlimeNet_182_8 hk168 (m_J4_get hc168) rfl rfl rfl rfl ?_
        refine g_castC hX (by decide) rfl (lw_LW q775) hf dX0_told_171 (fun hf => ?_)
        refine g_getI hX hf fs_SlimeNet_191_7 rfl dX0_told_174 (fun v174 hf => ?_)
        refine g_imul hX dX0_told_177 ?_
        refine g_aload_n hX dX0_told_178 (lg_at 0 rfl) ?_
        refine g_getR hX hf fs_SlimeNet_27_1 rfl dX0_told_179 (fun v179 hf => ?_)
        refine g_getR hX hf fs_SlimeNet_143_3 rfl dX0_told_182 (fun v182 hf => ?_)
        refine g_iload_n hX dX0_told_185 (lg_at 1 rfl) ?_
        refine g_bipush hX dX0_told_186 (20 : Int32) (by decide) ?_
        refine g_isub hX dX0_told_188 ?_
        obtain ⟨k189, hk189, hf⟩ := ob_some hf
        obtain ⟨v189, hc189, hf⟩ := ob_some hf
        refine h_callV hM [vi (x1 - (20 : Int32))] dX0_told_189 cs_SlimeNet_182_8 hk189 (m_J4_get hc189) rfl rfl rfl rfl ?_
        refine g_castC hX (by decide) rfl (lw_LW q775) hf dX0_told_192 (fun hf => ?_)
        refine g_getI hX hf fs_SlimeNet_194_7 rfl dX0_told_195 (fun v195 hf => ?_)
        refine g_iadd hX dX0_told_198 ?_
        cases hf
        exact h_iret hM dX0_told_199 hr rfl rfl
    · refine g_aload_n hX dX0_told_123 (lg_at 0 rfl) ?_
      refine g_getR hX hf fs_SlimeNet_27_1 rfl dX0_told_124 (fun v124 hf => ?_)
      refine g_getR hX hf fs_SlimeNet_143_3 rfl dX0_told_127 (fun v127 hf => ?_)
      refine g_iload_n hX dX0_told_130 (lg_at 1 rfl) ?_
      refine g_bipush hX dX0_told_131 (10 : Int32) (by decide) ?_
      refine g_isub hX dX0_told_133 ?_
      obtain ⟨k134, hk134, hf⟩ := ob_some hf
      obtain ⟨v134, hc134, hf⟩ := ob_some hf
      refine h_callV hM [vi (x1 - (10 : Int32))] dX0_told_134 cs_SlimeNet_182_8 hk134 (m_J4_get hc134) rfl rfl rfl rfl ?_
      refine g_castC hX (by decide) rfl (lw_LW q775) hf dX0_told_137 (fun hf => ?_)
      refine g_getI hX hf fs_SlimeNet_188_7 rfl dX0_told_140 (fun v140 hf => ?_)
      cases hf
      exact h_iret hM dX0_told_143 hr rfl rfl
  rw [if_neg hd] at hf
  by_cases hc0 : x1 = (0 : Int32)
  · rw [if_pos hc0] at hf
    refine g_tblI hX dX0_told_1 (0 : Int32) 0 (47) 48 (by decide) (by decide) rfl (by decide) hc0 ?_
    refine g_aload_n hX dX0_told_48 (lg_at 0 rfl) ?_
    refine g_getR hX hf fs_SlimeNet_27_1 rfl dX0_told_49 (fun v49 hf => ?_)
    refine g_getI hX hf fs_SlimeNet_157_3 rfl dX0_told_52 (fun v52 hf => ?_)
    cases hf
    exact h_iret hM dX0_told_55 hr rfl rfl
  rw [if_neg hc0] at hf
  by_cases hc1 : x1 = (1 : Int32)
  · rw [if_pos hc1] at hf
    refine g_tblI hX dX0_told_1 (1 : Int32) 1 (55) 56 (by decide) (by decide) rfl (by decide) hc1 ?_
    refine g_aload_n hX dX0_told_56 (lg_at 0 rfl) ?_
    refine g_getR hX hf fs_SlimeNet_27_1 rfl dX0_told_57 (fun v57 hf => ?_)
    refine g_getR hX hf fs_SlimeNet_143_3 rfl dX0_told_60 (fun v60 hf => ?_)
    obtain ⟨k63, hk63, hf⟩ := ob_some hf
    obtain ⟨v63, hc63, hf⟩ := ob_some hf
    refine h_callV hM [] dX0_told_63 cs_SlimeNet_147_8 hk63 (m_J4_size hc63) rfl rfl rfl rfl ?_
    cases hf
    exact h_iret hM dX0_told_66 hr rfl rfl
  rw [if_neg hc1] at hf
  by_cases hc2 : x1 = (2 : Int32)
  · rw [if_pos hc2] at hf
    refine g_tblI hX dX0_told_1 (2 : Int32) 2 (66) 67 (by decide) (by decide) rfl (by decide) hc2 ?_
    refine g_aload_n hX dX0_told_67 (lg_at 0 rfl) ?_
    refine g_getR hX hf fs_SlimeNet_27_1 rfl dX0_told_68 (fun v68 hf => ?_)
    refine g_getI hX hf fs_SlimeNet_160_3 rfl dX0_told_71 (fun v71 hf => ?_)
    cases hf
    exact h_iret hM dX0_told_74 hr rfl rfl
  rw [if_neg hc2] at hf
  by_cases hc3 : x1 = (3 : Int32)
  · rw [if_pos hc3] at hf
    refine g_tblI hX dX0_told_1 (3 : Int32) 3 (74) 75 (by decide) (by decide) rfl (by decide) hc3 ?_
    refine g_aload_n hX dX0_told_75 (lg_at 0 rfl) ?_
    refine g_getR hX hf fs_SlimeNet_34_1 rfl dX0_told_76 (fun v76 hf => ?_)
    refine g_getI hX hf fs_SlimeNet_163_4 rfl dX0_told_79 (fun v79 hf => ?_)
    cases hf
    exact h_iret hM dX0_told_82 hr rfl rfl
  rw [if_neg hc3] at hf
  by_cases hc4 : x1 = (4 : Int32)
  · rw [if_pos hc4] at hf
    refine g_tblI hX dX0_told_1 (4 : Int32) 4 (82) 83 (by decide) (by decide) rfl (by decide) hc4 ?_
    refine g_aload_n hX dX0_told_83 (lg_at 0 rfl) ?_
    refine g_getR hX hf fs_SlimeNet_34_1 rfl dX0_told_84 (fun v84 hf => ?_)
    refine g_getI hX hf fs_SlimeNet_166_4 rfl dX0_told_87 (fun v87 hf => ?_)
    cases hf
    exact h_iret hM dX0_told_90 hr rfl rfl
  rw [if_neg hc4] at hf
  by_cases hc5 : x1 = (5 : Int32)
  · rw [if_pos hc5] at hf
    refine g_tblI hX dX0_told_1 (5 : Int32) 5 (90) 91 (by decide) (by decide) rfl (by decide) hc5 ?_
    refine g_aload_n hX dX0_told_91 (lg_at 0 rfl) ?_
    refine g_getR hX hf fs_SlimeNet_27_1 rfl dX0_told_92 (fun v92 hf => ?_)
    refine g_getI hX hf fs_SlimeNet_169_3 rfl dX0_told_95 (fun v95 hf => ?_)
    cases hf
    exact h_iret hM dX0_told_98 hr rfl rfl
  rw [if_neg hc5] at hf
  by_cases hc6 : x1 = (6 : Int32)
  · rw [if_pos hc6] at hf
    refine g_tblI hX dX0_told_1 (6 : Int32) 6 (98) 99 (by decide) (by decide) rfl (by decide) hc6 ?_
    refine g_aload_n hX dX0_told_99 (lg_at 0 rfl) ?_
    refine g_getR hX hf fs_SlimeNet_27_1 rfl dX0_told_100 (fun v100 hf => ?_)
    obtain ⟨k103, hk103, hf⟩ := ob_some hf
    obtain ⟨v103, hc103, hf⟩ := ob_some hf
    refine h_callV hM [] dX0_told_103 cs_SlimeNet_172_3 hk103 (m_X2_pairs hc103) rfl rfl rfl rfl ?_
    cases hf
    exact h_iret hM dX0_told_106 hr rfl rfl
  rw [if_neg hc6] at hf
  by_cases hc7 : x1 = (7 : Int32)
  · rw [if_pos hc7] at hf
    refine g_tblI hX dX0_told_1 (7 : Int32) 7 (106) 107 (by decide) (by decide) rfl (by decide) hc7 ?_
    refine g_aload_n hX dX0_told_107 (lg_at 0 rfl) ?_
    obtain ⟨k108, hk108, hf⟩ := ob_some hf
    obtain ⟨v108, hc108, hf⟩ := ob_some hf
    refine h_callV hM [] dX0_told_108 cs_SlimeNet_175_1 hk108 (m_X0_salted hc108) rfl rfl rfl rfl ?_
    cases hf
    exact h_iret hM dX0_told_111 hr rfl rfl
  rw [if_neg hc7] at hf
  cases hf

theorem m_X0_told {l : Launch} {this : Nat} {x1 : Int32} {A : AH} {out : Int32} (h : f_X0_told this x1 A = some out) : MetF l yX0_told (Cond.code yX0_told cX0_told 2 (some Jvm.ClassFile.FieldType.int)) rm_X0_told [vr (some this), vi x1] A (r_X0_told A out) :=
  metF_of rfl rfl (Nat.le_of_ble_eq_true rfl) fun X hX hl hR hnm hr h1 h2 hno => w_f_X0_told (X := X) ⟨hX, hR, h1, h2, fun _ => ⟨hnm, hno⟩⟩ h hr

/-! SlimeNetModel.pairs()I -/
def rm_X4_pairs : Room := { frames := 1, cells := 0, slots := 0, locals := 24 }
def r_X4_pairs (A : AH) (o : Int32) : (Option AV × AH) ⊕ (Nat × AH) := .inl (some (vi o), A)
set_option maxRecDepth 100000 in
theorem w_f_X4_pairs {X : Ctx} (hM : MX X yX4_pairs cX4_pairs 1 "SlimeNetModel" (some Jvm.ClassFile.FieldType.int) rm_X4_pairs []) {this : Nat} {A : AH} {out : Int32} (hf : f_X4_pairs this A = some out) (hr : c_res X = r_X4_pairs A out) : G X 0 0 0 [(0, vr (some this))] [] A := by
  have hX := hM.1
  unfold f_X4_pairs at hf
  refine g_aload_n hX dX4_pairs_0 (lg_at 0 rfl) ?_
  refine g_getI hX hf fs_SlimeNetModel_300_5 rfl dX4_pairs_1 (fun v1 hf => ?_)
  refine g_aload_n hX dX4_pairs_4 (lg_at 0 rfl) ?_
  refine g_getI hX hf fs_SlimeNetModel_300_5 rfl dX4_pairs_5 (fun v5 hf => ?_)
  refine g_iconst hX dX4_pairs_8 (1 : Int32) (by decide) ?_
  refine g_isub hX dX4_pairs_9 ?_
  refine g_imul hX dX4_pairs_10 ?_
  refine g_iconst hX dX4_pairs_11 (2 : Int32) (by decide) ?_
  refine g_idiv hX dX4_pairs_12 hf (fun v12 _ hf => ?_)
  cases hf
  exact h_iret hM dX4_pairs_13 hr rfl rfl

theorem m_X4_pairs {l : Launch} {this : Nat} {A : AH} {out : Int32} (h : f_X4_pairs this A = some out) : MetF l yX4_pairs (Cond.code yX4_pairs cX4_pairs 1 (some Jvm.ClassFile.FieldType.int)) rm_X4_pairs [vr (some this)] A (r_X4_pairs A out) :=
  metF_of rfl rfl (Nat.le_of_ble_eq_true rfl) fun X hX hl hR hnm hr h1 h2 hno => w_f_X4_pairs (X := X) ⟨hX, hR, h1, h2, fun _ => ⟨hnm, hno⟩⟩ h hr

/-! SlimeNetModel.told(I)I -/
def rm_X4_told : Room := { frames := 2, cells := 0, slots := 0, locals := 49 }
def r_X4_told (A : AH) (o : Int32) : (Option AV × AH) ⊕ (Nat × AH) := .inl (some (vi o), A)
set_option maxRecDepth 100000 in
theorem w_f_X4_told {X : Ctx} (hM : MX X yX4_told cX4_told 2 "SlimeNetModel" (some Jvm.ClassFile.FieldType.int) rm_X4_told []) {this : Nat} {x1 : Int32} {A : AH} {out : Int32} (hf : f_X4_told this x1 A = some out) (hr : c_res X = r_X4_told A out) : G X 0 0 0 [(0, vr (some this)), (1, vi x1)] [] A := by
  have hX := hM.1
  unfold f_X4_told at hf
  refine g_iload_n hX dX4_told_0 (lg_at 1 rfl) ?_
  refine g_i2l hX dX4_told_1 ?_
  refine g_ldc2 hX dX4_told_2 (v := (10 : Int64)) (lw_LW q1368) ?_
  refine g_ldc2 hX dX4_told_5 (v := (9 : Int64)) (lw_LW q1369) ?_
  refine g_aload_n hX dX4_told_8 (lg_at 0 rfl) ?_
  refine g_getI hX hf fs_SlimeNetModel_297_5 rfl dX4_told_9 (fun v9 hf => ?_)
  refine g_i2l hX dX4_told_12 ?_
  refine g_ladd hX dX4_told_13 ?_
  obtain ⟨v14, hc14, hf⟩ := ob_some hf
  refine h_callS hM [vl (Int32.toInt64 x1), vl (10 : Int64), vl ((9 : Int64) + (Int32.toInt64 v9))] dX4_told_14 cs_SlimeNetModel_52_s (m_X4_in hc14) rfl rfl rfl rfl ?_
  refine g_if_eq hX dX4_told_17 30 hf (by decide) (fun c17 hf => ?_) (fun c17 hf => ?_)
  · refine g_iload_n hX dX4_told_30 (lg_at 1 rfl) ?_
    refine g_i2l hX dX4_told_31 ?_
    refine g_ldc2 hX dX4_told_32 (v := (20 : Int64)) (lw_LW q1370) ?_
    refine g_ldc2 hX dX4_told_35 (v := (19 : Int64)) (lw_LW q1371) ?_
    refine g_aload_n hX dX4_told_38 (lg_at 0 rfl) ?_
    refine g_getI hX hf fs_SlimeNetModel_297_5 rfl dX4_told_39 (fun v39 hf => ?_)
    refine g_i2l hX dX4_told_42 ?_
    refine g_ladd hX dX4_told_43 ?_
    obtain ⟨v44, hc44, hf⟩ := ob_some hf
    refine h_callS hM [vl (Int32.toInt64 x1), vl (20 : Int64), vl ((19 : Int64) + (Int32.toInt64 v39))] dX4_told_44 cs_SlimeNetModel_52_s (m_X4_in hc44) rfl rfl rfl rfl ?_
    refine g_if_eq hX dX4_told_47 73 hf (by decide) (fun c47 hf => ?_) (fun c47 hf => ?_)
    · refine g_iload_n hX dX4_told_73 (lg_at 1 rfl) ?_
      refine g_i2l hX dX4_told_74 ?_
      refine g_ldc2 hX dX4_told_75 (v := (30 : Int64)) (lw_LW q1372) ?_
      refine g_ldc2 hX dX4_told_78 (v := (29 : Int64)) (lw_LW q1373) ?_
      refine g_aload_n hX dX4_told_81 (lg_at 0 rfl) ?_
      refine g_getI hX hf fs_SlimeNetModel_300_5 rfl dX4_told_82 (fun v82 hf => ?_)
      refine g_i2l hX dX4_told_85 ?_
      refine g_ladd hX dX4_told_86 ?_
      obtain ⟨v87, hc87, hf⟩ := ob_some hf
      refine h_callS hM [vl (Int32.toInt64 x1), vl (30 : Int64), vl ((29 : Int64) + (Int32.toInt64 v82))] dX4_told_87 cs_SlimeNetModel_52_s (m_X4_in hc87) rfl rfl rfl rfl ?_
      refine g_if_eq hX dX4_told_90 103 hf (by decide) (fun c90 hf => ?_) (fun c90 hf => ?_)
      · refine g_iload_n hX dX4_told_103 (lg_at 1 rfl) ?_
        by_cases hd : Int32.toInt x1 < 0 ∨ 7 < Int32.toInt x1
        · rw [if_pos hd] at hf
          refine g_tblO hX dX4_told_104 192 hd (by decide) ?_
          refine g_iconst hX dX4_told_192 (-1 : Int32) (by decide) ?_
          cases hf
          exact h_iret hM dX4_told_193 hr rfl rfl
        rw [if_neg hd] at hf
        by_cases hc0 : x1 = (0 : Int32)
        · rw [if_pos hc0] at hf
          refine g_tblI hX dX4_told_104 (0 : Int32) 0 (48) 152 (by decide) (by decide) rfl (by decide) hc0 ?_
          refine g_aload_n hX dX4_told_152 (lg_at 0 rfl) ?_
          refine g_getI hX hf fs_SlimeNetModel_294_5 rfl dX4_told_153 (fun v153 hf => ?_)
          cases hf
          exact h_iret hM dX4_told_156 hr rfl rfl
        rw [if_neg hc0] at hf
        by_cases hc1 : x1 = (1 : Int32)
        · rw [if_pos hc1] at hf
          refine g_tblI hX dX4_told_104 (1 : Int32) 1 (53) 157 (by decide) (by decide) rfl (by decide) hc1 ?_
          refine g_aload_n hX dX4_told_157 (lg_at 0 rfl) ?_
          refine g_getI hX hf fs_SlimeNetModel_297_5 rfl dX4_told_158 (fun v158 hf => ?_)
          cases hf
          exact h_iret hM dX4_told_161 hr rfl rfl
        rw [if_neg hc1] at hf
        by_cases hc2 : x1 = (2 : Int32)
        · rw [if_pos hc2] at hf
          refine g_tblI hX dX4_told_104 (2 : Int32) 2 (58) 162 (by decide) (by decide) rfl (by decide) hc2 ?_
          refine g_aload_n hX dX4_told_162 (lg_at 0 rfl) ?_
          refine g_getI hX hf fs_SlimeNetModel_300_5 rfl dX4_told_163 (fun v163 hf => ?_)
          cases hf
          exact h_iret hM dX4_told_166 hr rfl rfl
        rw [if_neg hc2] at hf
        by_cases hc3 : x1 = (3 : Int32)
        · rw [if_pos hc3] at hf
          refine g_tblI hX dX4_told_104 (3 : Int32) 3 (63) 167 (by decide) (by decide) rfl (by decide) hc3 ?_
          refine g_aload_n hX dX4_told_167 (lg_at 0 rfl) ?_
          refine g_getI hX hf fs_SlimeNetModel_177_5 rfl dX4_told_168 (fun v168 hf => ?_)
          cases hf
          exact h_iret hM dX4_told_171 hr rfl rfl
        rw [if_neg hc3] at hf
        by_cases hc4 : x1 = (4 : Int32)
        · rw [if_pos hc4] at hf
          refine g_tblI hX dX4_told_104 (4 : Int32) 4 (68) 172 (by decide) (by decide) rfl (by decide) hc4 ?_
          refine g_aload_n hX dX4_told_172 (lg_at 0 rfl) ?_
          refine g_getI hX hf fs_SlimeNetModel_180_5 rfl dX4_told_173 (fun v173 hf => ?_)
          cases hf
          exact h_iret hM dX4_told_176 hr rfl rfl
        rw [if_neg hc4] at hf
        by_cases hc5 : x1 = (5 : Int32)
        · rw [if_pos hc5] at hf
          refine g_tblI hX dX4_told_104 (5 : Int32) 5 (73) 177 (by decide) (by decide) rfl (by decide) hc5 ?_
          refine g_aload_n hX dX4_told_177 (lg_at 0 rfl) ?_
          refine g_getI hX hf fs_SlimeNetModel_186_5 rfl dX4_told_178 (fun v178 hf => ?_)
          cases hf
          exact h_iret hM dX4_told_181 hr rfl rfl
        rw [if_neg hc5] at hf
        by_cases hc6 : x1 = (6 : Int32)
        · rw [if_pos hc6] at hf
          refine g_tblI hX dX4_told_104 (6 : Int32) 6 (78) 182 (by decide) (by decide) rfl (by decide) hc6 ?_
          refine g_aload_n hX dX4_told_182 (lg_at 0 rfl) ?_
          obtain ⟨k183, hk183, hf⟩ := ob_some hf
          obtain ⟨v183, hc183, hf⟩ := ob_some hf
          refine h_callV hM [] dX4_told_183 cs_SlimeNetModel_336_5 hk183 (m_X4_pairs hc183) rfl rfl rfl rfl ?_
          cases hf
          exact h_iret hM dX4_told_186 hr rfl rfl
        rw [if_neg hc6] at hf
        by_cases hc7 : x1 = (7 : Int32)
        · rw [if_pos hc7] at hf
          refine g_tblI hX dX4_told_104 (7 : Int32) 7 (83) 187 (by decide) (by decide) rfl (by decide) hc7 ?_
          refine g_aload_n hX dX4_told_187 (lg_at 0 rfl) ?_
          refine g_getI hX hf fs_SlimeNetModel_303_5 rfl dX4_told_188 (fun v188 hf => ?_)
          cases hf
          exact h_iret hM dX4_told_191 hr rfl rfl
        rw [if_neg hc7] at hf
        cases hf
      · refine g_aload_n hX dX4_told_93 (lg_at 0 rfl) ?_
        refine g_getR hX hf fs_SlimeNetModel_197_5 rfl dX4_told_94 (fun v94 hf => ?_)
        refine g_iload_n hX dX4_told_97 (lg_at 1 rfl) ?_
        refine g_bipush hX dX4_told_98 (30 : Int32) (by decide) ?_
        refine g_isub hX dX4_told_100 ?_
        refine g_iald hX hf dX4_told_101 (fun v101 hf => ?_)
        cases hf
        exact h_iret hM dX4_told_102 hr rfl rfl
    · refine g_bipush hX dX4_told_50 (8 : Int32) (by decide) ?_
      refine g_aload_n hX dX4_told_52 (lg_at 0 rfl) ?_
      refine g_getR hX hf fs_SlimeNetModel_188_5 rfl dX4_told_53 (fun v53 hf => ?_)
      refine g_iload_n hX dX4_told_56 (lg_at 1 rfl) ?_
      refine g_bipush hX dX4_told_57 (20 : Int32) (by decide) ?_
      refine g_isub hX dX4_told_59 ?_
      refine g_iald hX hf dX4_told_60 (fun v60 hf => ?_)
      refine g_imul hX dX4_told_61 ?_
      refine g_aload_n hX dX4_told_62 (lg_at 0 rfl) ?_
      refine g_getR hX hf fs_SlimeNetModel_191_5 rfl dX4_told_63 (fun v63 hf => ?_)
      refine g_iload_n hX dX4_told_66 (lg_at 1 rfl) ?_
      refine g_bipush hX dX4_told_67 (20 : Int32) (by decide) ?_
      refine g_isub hX dX4_told_69 ?_
      refine g_iald hX hf dX4_told_70 (fun v70 hf => ?_)
      refine g_iadd hX dX4_told_71 ?_
      cases hf
      exact h_iret hM dX4_told_72 hr rfl rfl
  · refine g_aload_n hX dX4_told_20 (lg_at 0 rfl) ?_
    refine g_getR hX hf fs_SlimeNetModel_194_5 rfl dX4_told_21 (fun v21 hf => ?_)
    refine g_iload_n hX dX4_told_24 (lg_at 1 rfl) ?_
    refine g_bipush hX dX4_told_25 (10 : Int32) (by decide) ?_
    refine g_isub hX dX4_told_27 ?_
    refine g_iald hX hf dX4_told_28 (fun v28 hf => ?_)
    cases hf
    exact h_iret hM dX4_told_29 hr rfl rfl

theorem m_X4_told {l : Launch} {this : Nat} {x1 : Int32} {A : AH} {out : Int32} (h : f_X4_told this x1 A = some out) : MetF l yX4_told (Cond.code yX4_told cX4_told 2 (some Jvm.ClassFile.FieldType.int)) rm_X4_told [vr (some this), vi x1] A (r_X4_told A out) :=
  metF_of rfl rfl (Nat.le_of_ble_eq_true rfl) fun X hX hl hR hnm hr h1 h2 hno => w_f_X4_told (X := X) ⟨hX, hR, h1, h2, fun _ => ⟨hnm, hno⟩⟩ h hr

/-! SlimeNet.width(I)I -/
def rm_X0_width : Room := { frames := 3, cells := 0, slots := 0, locals := 67 }
def r_X0_width (A : AH) (o : Int32) : (Option AV × AH) ⊕ (Nat × AH) := .inl (some (vi o), A)
set_option maxRecDepth 100000 in
theorem w_f_X0_width_22 {X : Ctx} (hM : MX X yX0_width cX0_width 2 "SlimeNet" (some Jvm.ClassFile.FieldType.int) rm_X0_width []) {t0 : Int32} {A : AH} {out : Int32} (hf : f_X0_width_22 t0 A = some out) (hr : c_res X = r_X0_width A out) : G X 0 0 22 [] [vi t0] A := by
  have hX := hM.1
  unfold f_X0_width_22 at hf
  cases hf
  exact h_iret hM dX0_width_22 hr rfl rfl

set_option maxRecDepth 100000 in
theorem w_f_X0_width {X : Ctx} (hM : MX X yX0_width cX0_width 2 "SlimeNet" (some Jvm.ClassFile.FieldType.int) rm_X0_width []) {this : Nat} {x1 : Int32} {A : AH} {out : Int32} (hf : f_X0_width this x1 A = some out) (hr : c_res X = r_X0_width A out) : G X 0 0 0 [(0, vr (some this)), (1, vi x1)] [] A := by
  have hX := hM.1
  unfold f_X0_width at hf
  refine g_aload_n hX dX0_width_0 (lg_at 0 rfl) ?_
  refine g_iload_n hX dX0_width_1 (lg_at 1 rfl) ?_
  obtain ⟨k2, hk2, hf⟩ := ob_some hf
  obtain ⟨v2, hc2, hf⟩ := ob_some hf
  refine h_callV hM [vi x1] dX0_width_2 cs_SlimeNet_178_1 hk2 (m_X0_isPipe hc2) rfl rfl rfl rfl ?_
  refine g_if_eq hX dX0_width_5 20 hf (by decide) (fun c5 hf => ?_) (fun c5 hf => ?_)
  · refine g_bipush hX dX0_width_20 (-2 : Int32) (by decide) ?_
    exact g_pick (w_f_X0_width_22 hM hf hr) [] rfl
  · refine g_aload_n hX dX0_width_8 (lg_at 0 rfl) ?_
    refine g_getR hX hf fs_SlimeNet_34_1 rfl dX0_width_9 (fun v9 hf => ?_)
    refine g_getR hX hf fs_SlimeNet_203_4 rfl dX0_width_12 (fun v12 hf => ?_)
    refine g_iload_n hX dX0_width_15 (lg_at 1 rfl) ?_
    refine g_iald hX hf dX0_width_16 (fun v16 hf => ?_)
    refine g_goto hX dX0_width_17 22 (by decide) ?_
    exact g_pick (w_f_X0_width_22 hM hf hr) [] rfl

theorem m_X0_width {l : Launch} {this : Nat} {x1 : Int32} {A : AH} {out : Int32} (h : f_X0_width this x1 A = some out) : MetF l yX0_width (Cond.code yX0_width cX0_width 2 (some Jvm.ClassFile.FieldType.int)) rm_X0_width [vr (some this), vi x1] A (r_X0_width A out) :=
  metF_of rfl rfl (Nat.le_of_ble_eq_true rfl) fun X hX hl hR hnm hr h1 h2 hno => w_f_X0_width (X := X) ⟨hX, hR, h1, h2, fun _ => ⟨hnm, hno⟩⟩ h hr

/-! SlimeNetModel.isPipe(I)Z -/
def rm_X4_isPipe : Room := { frames := 2, cells := 0, slots := 0, locals := 49 }
def r_X4_isPipe (A : AH) (o : Int32) : (Option AV × AH) ⊕ (Nat × AH) := .inl (some (vi o), A)
set_option maxRecDepth 100000 in
theorem w_f_X4_isPipe {X : Ctx} (hM : MX X yX4_isPipe cX4_isPipe 2 "SlimeNetModel" (some Jvm.ClassFile.FieldType.boolean) rm_X4_isPipe []) {this : Nat} {x1 : Int32} {A : AH} {out : Int32} (hf : f_X4_isPipe this x1 A = some out) (hr : c_res X = r_X4_isPipe A out) : G X 0 0 0 [(0, vr (some this)), (1, vi x1)] [] A := by
  have hX := hM.1
  unfold f_X4_isPipe at hf
  refine g_iload_n hX dX4_isPipe_0 (lg_at 1 rfl) ?_
  refine g_i2l hX dX4_isPipe_1 ?_
  refine g_lconst hX dX4_isPipe_2 (0 : Int64) (by decide) ?_
  refine g_aload_n hX dX4_isPipe_3 (lg_at 0 rfl) ?_
  refine g_getI hX hf fs_SlimeNetModel_297_5 rfl dX4_isPipe_4 (fun v4 hf => ?_)
  refine g_i2l hX dX4_isPipe_7 ?_
  refine g_lconst hX dX4_isPipe_8 (1 : Int64) (by decide) ?_
  refine g_lsub hX dX4_isPipe_9 ?_
  obtain ⟨v10, hc10, hf⟩ := ob_some hf
  refine h_callS hM [vl (Int32.toInt64 x1), vl (0 : Int64), vl ((Int32.toInt64 v4) - (1 : Int64))] dX4_isPipe_10 cs_SlimeNetModel_52_s (m_X4_in hc10) rfl rfl rfl rfl ?_
  obtain ⟨w13, hz13, hf⟩ := ob_some hf
  cases hf
  exact h_zret hM dX4_isPipe_13 hr rfl (ckZ_nar hz13).2 rfl

theorem m_X4_isPipe {l : Launch} {this : Nat} {x1 : Int32} {A : AH} {out : Int32} (h : f_X4_isPipe this x1 A = some out) : MetF l yX4_isPipe (Cond.code yX4_isPipe cX4_isPipe 2 (some Jvm.ClassFile.FieldType.boolean)) rm_X4_isPipe [vr (some this), vi x1] A (r_X4_isPipe A out) :=
  metF_of rfl rfl (Nat.le_of_ble_eq_true rfl) fun X hX hl hR hnm hr h1 h2 hno => w_f_X4_isPipe (X := X) ⟨hX, hR, h1, h2, fun _ => ⟨hnm, hno⟩⟩ h hr

/-! SlimeNetModel.width(I)I -/
def rm_X4_width : Room := { frames := 3, cells := 0, slots := 0, locals := 70 }
def r_X4_width (A : AH) (o : Int32) : (Option AV × AH) ⊕ (Nat × AH) := .inl (some (vi o), A)
set_option maxRecDepth 100000 in
theorem w_f_X4_width_19 {X : Ctx} (hM : MX X yX4_width cX4_width 2 "SlimeNetModel" (some Jvm.ClassFile.FieldType.int) rm_X4_width []) {t0 : Int32} {A : AH} {out : Int32} (hf : f_X4_width_19 t0 A = some out) (hr : c_res X = r_X4_width A out) : G X 0 0 19 [] [vi t0] A := by
  have hX := hM.1
  unfold f_X4_width_19 at hf
  cases hf
  exact h_iret hM dX4_width_19 hr rfl rfl

set_option maxRecDepth 100000 in
theorem w_f_X4_width {X : Ctx} (hM : MX X yX4_width cX4_width 2 "SlimeNetModel" (some Jvm.ClassFile.FieldType.int) rm_X4_width []) {this : Nat} {x1 : Int32} {A : AH} {out : Int32} (hf : f_X4_width this x1 A = some out) (hr : c_res X = r_X4_width A out) : G X 0 0 0 [(0, vr (some this)), (1, vi x1)] [] A := by
  have hX := hM.1
  unfold f_X4_width at hf
  refine g_aload_n hX dX4_width_0 (lg_at 0 rfl) ?_
  refine g_iload_n hX dX4_width_1 (lg_at 1 rfl) ?_
  obtain ⟨k2, hk2, hf⟩ := ob_some hf
  obtain ⟨v2, hc2, hf⟩ := ob_some hf
  refine h_callV hM [vi x1] dX4_width_2 cs_SlimeNetModel_365_5 hk2 (m_X4_isPipe hc2) rfl rfl rfl rfl ?_
  refine g_if_eq hX dX4_width_5 17 hf (by decide) (fun c5 hf => ?_) (fun c5 hf => ?_)
  · refine g_bipush hX dX4_width_17 (-2 : Int32) (by decide) ?_
    exact g_pick (w_f_X4_width_19 hM hf hr) [] rfl
  · refine g_aload_n hX dX4_width_8 (lg_at 0 rfl) ?_
    refine g_getR hX hf fs_SlimeNetModel_215_5 rfl dX4_width_9 (fun v9 hf => ?_)
    refine g_iload_n hX dX4_width_12 (lg_at 1 rfl) ?_
    refine g_iald hX hf dX4_width_13 (fun v13 hf => ?_)
    refine g_goto hX dX4_width_14 19 (by decide) ?_
    exact g_pick (w_f_X4_width_19 hM hf hr) [] rfl

theorem m_X4_width {l : Launch} {this : Nat} {x1 : Int32} {A : AH} {out : Int32} (h : f_X4_width this x1 A = some out) : MetF l yX4_width (Cond.code yX4_width cX4_width 2 (some Jvm.ClassFile.FieldType.int)) rm_X4_width [vr (some this), vi x1] A (r_X4_width A out) :=
  metF_of rfl rfl (Nat.le_of_ble_eq_true rfl) fun X hX hl hR hnm hr h1 h2 hno => w_f_X4_width (X := X) ⟨hX, hR, h1, h2, fun _ => ⟨hnm, hno⟩⟩ h hr

/-! SlimeNet.learnt(I)I -/
def rm_X0_learnt : Room := { frames := 4, cells := 0, slots := 0, locals := 88 }
def r_X0_learnt (A : AH) (o : Int32) : (Option AV × AH) ⊕ (Nat × AH) := .inl (some (vi o), A)
set_option maxRecDepth 100000 in
theorem w_f_X0_learnt_46 {X : Ctx} (hM : MX X yX0_learnt cX0_learnt 2 "SlimeNet" (some Jvm.ClassFile.FieldType.int) rm_X0_learnt []) {t0 : Int32} {A : AH} {out : Int32} (hf : f_X0_learnt_46 t0 A = some out) (hr : c_res X = r_X0_learnt A out) : G X 0 0 46 [] [vi t0] A := by
  have hX := hM.1
  unfold f_X0_learnt_46 at hf
  cases hf
  exact h_iret hM dX0_learnt_46 hr rfl rfl

set_option maxRecDepth 100000 in
theorem w_f_X0_learnt {X : Ctx} (hM : MX X yX0_learnt cX0_learnt 2 "SlimeNet" (some Jvm.ClassFile.FieldType.int) rm_X0_learnt []) {this : Nat} {x1 : Int32} {A : AH} {out : Int32} (hf : f_X0_learnt this x1 A = some out) (hr : c_res X = r_X0_learnt A out) : G X 0 0 0 [(0, vr (some this)), (1, vi x1)] [] A := by
  have hX := hM.1
  unfold f_X0_learnt at hf
  refine g_aload_n hX dX0_learnt_0 (lg_at 0 rfl) ?_
  refine g_iload_n hX dX0_learnt_1 (lg_at 1 rfl) ?_
  obtain ⟨k2, hk2, hf⟩ := ob_some hf
  obtain ⟨v2, hc2, hf⟩ := ob_some hf
  refine h_callV hM [vi x1] dX0_learnt_2 cs_SlimeNet_178_1 hk2 (m_X0_isPipe hc2) rfl rfl rfl rfl ?_
  refine g_if_ne hX dX0_learnt_5 13 hf (by decide) (fun c5 hf => ?_) (fun c5 hf => ?_)
  · refine g_aload_n hX dX0_learnt_13 (lg_at 0 rfl) ?_
    refine g_getR hX hf fs_SlimeNet_27_1 rfl dX0_learnt_14 (fun v14 hf => ?_)
    refine g_getR hX hf fs_SlimeNet_143_3 rfl dX0_learnt_17 (fun v17 hf => ?_)
    refine g_iload_n hX dX0_learnt_20 (lg_at 1 rfl) ?_
    obtain ⟨k21, hk21, hf⟩ := ob_some hf
    obtain ⟨v21, hc21, hf⟩ := ob_some hf
    refine h_callV hM [vi x1] dX0_learnt_21 cs_SlimeNet_182_8 hk21 (m_J4_get hc21) rfl rfl rfl rfl ?_
    refine g_castC hX (by decide) rfl (lw_LW q775) hf dX0_learnt_24 (fun hf => ?_)
    refine g_getI hX hf fs_SlimeNet_200_7 rfl dX0_learnt_27 (fun v27 hf => ?_)
    refine g_if_eq hX dX0_learnt_30 45 hf (by decide) (fun c30 hf => ?_) (fun c30 hf => ?_)
    · refine g_iconst hX dX0_learnt_45 (-1 : Int32) (by decide) ?_
      exact g_pick (w_f_X0_learnt_46 hM hf hr) [] rfl
    · refine g_aload_n hX dX0_learnt_33 (lg_at 0 rfl) ?_
      refine g_getR hX hf fs_SlimeNet_34_1 rfl dX0_learnt_34 (fun v34 hf => ?_)
      refine g_getR hX hf fs_SlimeNet_206_4 rfl dX0_learnt_37 (fun v37 hf => ?_)
      refine g_iload_n hX dX0_learnt_40 (lg_at 1 rfl) ?_
      refine g_iald hX hf dX0_learnt_41 (fun v41 hf => ?_)
      refine g_goto hX dX0_learnt_42 46 (by decide) ?_
      exact g_pick (w_f_X0_learnt_46 hM hf hr) [] rfl
  · refine g_bipush hX dX0_learnt_8 (-2 : Int32) (by decide) ?_
    refine g_goto hX dX0_learnt_10 46 (by decide) ?_
    exact g_pick (w_f_X0_learnt_46 hM hf hr) [] rfl

theorem m_X0_learnt {l : Launch} {this : Nat} {x1 : Int32} {A : AH} {out : Int32} (h : f_X0_learnt this x1 A = some out) : MetF l yX0_learnt (Cond.code yX0_learnt cX0_learnt 2 (some Jvm.ClassFile.FieldType.int)) rm_X0_learnt [vr (some this), vi x1] A (r_X0_learnt A out) :=
  metF_of rfl rfl (Nat.le_of_ble_eq_true rfl) fun X hX hl hR hnm hr h1 h2 hno => w_f_X0_learnt (X := X) ⟨hX, hR, h1, h2, fun _ => ⟨hnm, hno⟩⟩ h hr

/-! SlimeNetModel.learnt(I)I -/
def rm_X4_learnt : Room := { frames := 3, cells := 0, slots := 0, locals := 70 }
def r_X4_learnt (A : AH) (o : Int32) : (Option AV × AH) ⊕ (Nat × AH) := .inl (some (vi o), A)
set_option maxRecDepth 100000 in
theorem w_f_X4_learnt_35 {X : Ctx} (hM : MX X yX4_learnt cX4_learnt 2 "SlimeNetModel" (some Jvm.ClassFile.FieldType.int) rm_X4_learnt []) {t0 : Int32} {A : AH} {out : Int32} (hf : f_X4_learnt_35 t0 A = some out) (hr : c_res X = r_X4_learnt A out) : G X 0 0 35 [] [vi t0] A := by
  have hX := hM.1
  unfold f_X4_learnt_35 at hf
  cases hf
  exact h_iret hM dX4_learnt_35 hr rfl rfl

set_option maxRecDepth 100000 in
theorem w_f_X4_learnt {X : Ctx} (hM : MX X yX4_learnt cX4_learnt 2 "SlimeNetModel" (some Jvm.ClassFile.FieldType.int) rm_X4_learnt []) {this : Nat} {x1 : Int32} {A : AH} {out : Int32} (hf : f_X4_learnt this x1 A = some out) (hr : c_res X = r_X4_learnt A out) : G X 0 0 0 [(0, vr (some this)), (1, vi x1)] [] A := by
  have hX := hM.1
  unfold f_X4_learnt at hf
  refine g_aload_n hX dX4_learnt_0 (lg_at 0 rfl) ?_
  refine g_iload_n hX dX4_learnt_1 (lg_at 1 rfl) ?_
  obtain ⟨k2, hk2, hf⟩ := ob_some hf
  obtain ⟨v2, hc2, hf⟩ := ob_some hf
  refine h_callV hM [vi x1] dX4_learnt_2 cs_SlimeNetModel_365_5 hk2 (m_X4_isPipe hc2) rfl rfl rfl rfl ?_
  refine g_if_ne hX dX4_learnt_5 13 hf (by decide) (fun c5 hf => ?_) (fun c5 hf => ?_)
  · refine g_aload_n hX dX4_learnt_13 (lg_at 0 rfl) ?_
    refine g_getI hX hf fs_SlimeNetModel_303_5 rfl dX4_learnt_14 (fun v14 hf => ?_)
    refine g_iload_n hX dX4_learnt_17 (lg_at 1 rfl) ?_
    refine g_ishr hX dX4_learnt_18 ?_
    refine g_iconst hX dX4_learnt_19 (1 : Int32) (by decide) ?_
    refine g_iand hX dX4_learnt_20 ?_
    refine g_iconst hX dX4_learnt_21 (1 : Int32) (by decide) ?_
    refine g_icmp_ne hX dX4_learnt_22 34 hf (by decide) (fun c22 hf => ?_) (fun c22 hf => ?_)
    · refine g_iconst hX dX4_learnt_34 (-1 : Int32) (by decide) ?_
      exact g_pick (w_f_X4_learnt_35 hM hf hr) [] rfl
    · refine g_aload_n hX dX4_learnt_25 (lg_at 0 rfl) ?_
      refine g_getR hX hf fs_SlimeNetModel_217_5 rfl dX4_learnt_26 (fun v26 hf => ?_)
      refine g_iload_n hX dX4_learnt_29 (lg_at 1 rfl) ?_
      refine g_iald hX hf dX4_learnt_30 (fun v30 hf => ?_)
      refine g_goto hX dX4_learnt_31 35 (by decide) ?_
      exact g_pick (w_f_X4_learnt_35 hM hf hr) [] rfl
  · refine g_bipush hX dX4_learnt_8 (-2 : Int32) (by decide) ?_
    refine g_goto hX dX4_learnt_10 35 (by decide) ?_
    exact g_pick (w_f_X4_learnt_35 hM hf hr) [] rfl

theorem m_X4_learnt {l : Launch} {this : Nat} {x1 : Int32} {A : AH} {out : Int32} (h : f_X4_learnt this x1 A = some out) : MetF l yX4_learnt (Cond.code yX4_learnt cX4_learnt 2 (some Jvm.ClassFile.FieldType.int)) rm_X4_learnt [vr (some this), vi x1] A (r_X4_learnt A out) :=
  metF_of rfl rfl (Nat.le_of_ble_eq_true rfl) fun X hX hl hR hnm hr h1 h2 hno => w_f_X4_learnt (X := X) ⟨hX, hR, h1, h2, fun _ => ⟨hnm, hno⟩⟩ h hr

/-! SlimeNet.set(II)I -/
def rm_X0_set : Room := { frames := 3, cells := 0, slots := 0, locals := 67 }
def r_X0_set (_A : AH) (o : Int32 × AH) : (Option AV × AH) ⊕ (Nat × AH) := .inl (some (vi o.1), o.2)
set_option maxRecDepth 100000 in
theorem w_f_X0_set_18 {X : Ctx} (hM : MX X yX0_set cX0_set 4 "SlimeNet" (some Jvm.ClassFile.FieldType.int) rm_X0_set []) {A : AH} {out : Int32 × AH} (hf : f_X0_set_18 A = some out) (hr : c_res X = r_X0_set A out) : G X 0 0 18 [] [] A := by
  have hX := hM.1
  unfold f_X0_set_18 at hf
  refine g_bipush hX dX0_set_18 (-2 : Int32) (by decide) ?_
  cases hf
  exact h_iret hM dX0_set_20 hr rfl rfl

set_option maxRecDepth 100000 in
theorem w_f_X0_set {X : Ctx} (hM : MX X yX0_set cX0_set 4 "SlimeNet" (some Jvm.ClassFile.FieldType.int) rm_X0_set []) {this : Nat} {x1 : Int32} {x2 : Int32} {A : AH} {out : Int32 × AH} (hf : f_X0_set this x1 x2 A = some out) (hr : c_res X = r_X0_set A out) : G X 0 0 0 [(0, vr (some this)), (1, vi x1), (2, vi x2)] [] A := by
  have hX := hM.1
  unfold f_X0_set at hf
  refine g_aload_n hX dX0_set_0 (lg_at 0 rfl) ?_
  refine g_iload_n hX dX0_set_1 (lg_at 1 rfl) ?_
  obtain ⟨k2, hk2, hf⟩ := ob_some hf
  obtain ⟨v2, hc2, hf⟩ := ob_some hf
  refine h_callV hM [vi x1] dX0_set_2 cs_SlimeNet_178_1 hk2 (m_X0_isPipe hc2) rfl rfl rfl rfl ?_
  refine g_if_eq hX dX0_set_5 18 hf (by decide) (fun c5 hf => ?_) (fun c5 hf => ?_)
  · exact g_pick (w_f_X0_set_18 hM hf hr) [] rfl
  · refine g_iload_n hX dX0_set_8 (lg_at 2 rfl) ?_
    refine g_iconst hX dX0_set_9 (0 : Int32) (by decide) ?_
    refine g_bipush hX dX0_set_10 (9 : Int32) (by decide) ?_
    obtain ⟨v12, hc12, hf⟩ := ob_some hf
    refine h_callS hM [vi x2, vi (0 : Int32), vi (9 : Int32)] dX0_set_12 cs_SlimeNet_153_s (m_X0_in hc12) rfl rfl rfl rfl ?_
    refine g_if_ne hX dX0_set_15 21 hf (by decide) (fun c15 hf => ?_) (fun c15 hf => ?_)
    · refine g_aload_n hX dX0_set_21 (lg_at 0 rfl) ?_
      refine g_getR hX hf fs_SlimeNet_34_1 rfl dX0_set_22 (fun v22 hf => ?_)
      refine g_getR hX hf fs_SlimeNet_203_4 rfl dX0_set_25 (fun v25 hf => ?_)
      refine g_iload_n hX dX0_set_28 (lg_at 1 rfl) ?_
      refine g_iald hX hf dX0_set_29 (fun v29 hf => ?_)
      refine g_istore_n hX dX0_set_30 [(3, vi v29), (0, vr (some this)), (1, vi x1), (2, vi x2)] (by decide) rfl ?_
      refine g_aload_n hX dX0_set_31 (lg_at 1 rfl) ?_
      refine g_getR hX hf fs_SlimeNet_34_1 rfl dX0_set_32 (fun v32 hf => ?_)
      refine g_getR hX hf fs_SlimeNet_203_4 rfl dX0_set_35 (fun v35 hf => ?_)
      refine g_iload_n hX dX0_set_38 (lg_at 2 rfl) ?_
      refine g_iload_n hX dX0_set_39 (lg_at 3 rfl) ?_
      refine g_iast hX hf dX0_set_40 (fun A40 hf => ?_)
      refine g_iload_n hX dX0_set_41 (lg_at 0 rfl) ?_
      cases hf
      exact h_iret hM dX0_set_42 hr rfl rfl
    · exact g_pick (w_f_X0_set_18 hM hf hr) [] rfl

theorem m_X0_set {l : Launch} {this : Nat} {x1 : Int32} {x2 : Int32} {A : AH} {out : Int32 × AH} (h : f_X0_set this x1 x2 A = some out) : MetF l yX0_set (Cond.code yX0_set cX0_set 4 (some Jvm.ClassFile.FieldType.int)) rm_X0_set [vr (some this), vi x1, vi x2] A (r_X0_set A out) :=
  metF_of rfl rfl (Nat.le_of_ble_eq_true rfl) fun X hX hl hR hnm hr h1 h2 hno => w_f_X0_set (X := X) ⟨hX, hR, h1, h2, fun _ => ⟨hnm, hno⟩⟩ h hr

/-! SlimeNetModel.set(II)I -/
def rm_X4_set : Room := { frames := 3, cells := 0, slots := 0, locals := 70 }
def r_X4_set (_A : AH) (o : Int32 × AH) : (Option AV × AH) ⊕ (Nat × AH) := .inl (some (vi o.1), o.2)
set_option maxRecDepth 100000 in
theorem w_f_X4_set_20 {X : Ctx} (hM : MX X yX4_set cX4_set 4 "SlimeNetModel" (some Jvm.ClassFile.FieldType.int) rm_X4_set []) {A : AH} {out : Int32 × AH} (hf : f_X4_set_20 A = some out) (hr : c_res X = r_X4_set A out) : G X 0 0 20 [] [] A := by
  have hX := hM.1
  unfold f_X4_set_20 at hf
  refine g_bipush hX dX4_set_20 (-2 : Int32) (by decide) ?_
  cases hf
  exact h_iret hM dX4_set_22 hr rfl rfl

set_option maxRecDepth 100000 in
theorem w_f_X4_set {X : Ctx} (hM : MX X yX4_set cX4_set 4 "SlimeNetModel" (some Jvm.ClassFile.FieldType.int) rm_X4_set []) {this : Nat} {x1 : Int32} {x2 : Int32} {A : AH} {out : Int32 × AH} (hf : f_X4_set this x1 x2 A = some out) (hr : c_res X = r_X4_set A out) : G X 0 0 0 [(0, vr (some this)), (1, vi x1), (2, vi x2)] [] A := by
  have hX := hM.1
  unfold f_X4_set at hf
  refine g_aload_n hX dX4_set_0 (lg_at 0 rfl) ?_
  refine g_iload_n hX dX4_set_1 (lg_at 1 rfl) ?_
  obtain ⟨k2, hk2, hf⟩ := ob_some hf
  obtain ⟨v2, hc2, hf⟩ := ob_some hf
  refine h_callV hM [vi x1] dX4_set_2 cs_SlimeNetModel_365_5 hk2 (m_X4_isPipe hc2) rfl rfl rfl rfl ?_
  refine g_if_eq hX dX4_set_5 20 hf (by decide) (fun c5 hf => ?_) (fun c5 hf => ?_)
  · exact g_pick (w_f_X4_set_20 hM hf hr) [] rfl
  · refine g_iload_n hX dX4_set_8 (lg_at 2 rfl) ?_
    refine g_i2l hX dX4_set_9 ?_
    refine g_lconst hX dX4_set_10 (0 : Int64) (by decide) ?_
    refine g_ldc2 hX dX4_set_11 (v := (9 : Int64)) (lw_LW q1369) ?_
    obtain ⟨v14, hc14, hf⟩ := ob_some hf
    refine h_callS hM [vl (Int32.toInt64 x2), vl (0 : Int64), vl (9 : Int64)] dX4_set_14 cs_SlimeNetModel_52_s (m_X4_in hc14) rfl rfl rfl rfl ?_
    refine g_if_ne hX dX4_set_17 23 hf (by decide) (fun c17 hf => ?_) (fun c17 hf => ?_)
    · refine g_aload_n hX dX4_set_23 (lg_at 0 rfl) ?_
      refine g_getR hX hf fs_SlimeNetModel_215_5 rfl dX4_set_24 (fun v24 hf => ?_)
      refine g_iload_n hX dX4_set_27 (lg_at 1 rfl) ?_
      refine g_iald hX hf dX4_set_28 (fun v28 hf => ?_)
      refine g_istore_n hX dX4_set_29 [(3, vi v28), (0, vr (some this)), (1, vi x1), (2, vi x2)] (by decide) rfl ?_
      refine g_aload_n hX dX4_set_30 (lg_at 1 rfl) ?_
      refine g_getR hX hf fs_SlimeNetModel_215_5 rfl dX4_set_31 (fun v31 hf => ?_)
      refine g_iload_n hX dX4_set_34 (lg_at 2 rfl) ?_
      refine g_iload_n hX dX4_set_35 (lg_at 3 rfl) ?_
      refine g_iast hX hf dX4_set_36 (fun A36 hf => ?_)
      refine g_iload_n hX dX4_set_37 (lg_at 0 rfl) ?_
      cases hf
      exact h_iret hM dX4_set_38 hr rfl rfl
    · exact g_pick (w_f_X4_set_20 hM hf hr) [] rfl

theorem m_X4_set {l : Launch} {this : Nat} {x1 : Int32} {x2 : Int32} {A : AH} {out : Int32 × AH} (h : f_X4_set this x1 x2 A = some out) : MetF l yX4_set (Cond.code yX4_set cX4_set 4 (some Jvm.ClassFile.FieldType.int)) rm_X4_set [vr (some this), vi x1, vi x2] A (r_X4_set A out) :=
  metF_of rfl rfl (Nat.le_of_ble_eq_true rfl) fun X hX hl hR hnm hr h1 h2 hno => w_f_X4_set (X := X) ⟨hX, hR, h1, h2, fun _ => ⟨hnm, hno⟩⟩ h hr

/-! SlimeNet.law(II)I -/
def rm_X0_law : Room := { frames := 2, cells := 0, slots := 0, locals := 46 }
def r_X0_law (_A : AH) (o : Int32 × AH) : (Option AV × AH) ⊕ (Nat × AH) := .inl (some (vi o.1), o.2)
set_option maxRecDepth 100000 in
theorem w_f_X0_law_20 {X : Ctx} (hM : MX X yX0_law cX0_law 3 "SlimeNet" (some Jvm.ClassFile.FieldType.int) rm_X0_law []) {A : AH} {out : Int32 × AH} (hf : f_X0_law_20 A = some out) (hr : c_res X = r_X0_law A out) : G X 0 0 20 [] [] A := by
  have hX := hM.1
  unfold f_X0_law_20 at hf
  refine g_bipush hX dX0_law_20 (-2 : Int32) (by decide) ?_
  cases hf
  exact h_iret hM dX0_law_22 hr rfl rfl

set_option maxRecDepth 100000 in
theorem w_f_X0_law {X : Ctx} (hM : MX X yX0_law cX0_law 3 "SlimeNet" (some Jvm.ClassFile.FieldType.int) rm_X0_law []) {this : Nat} {x1 : Int32} {x2 : Int32} {A : AH} {out : Int32 × AH} (hf : f_X0_law this x1 x2 A = some out) (hr : c_res X = r_X0_law A out) : G X 0 0 0 [(0, vr (some this)), (1, vi x1), (2, vi x2)] [] A := by
  have hX := hM.1
  unfold f_X0_law at hf
  refine g_iload_n hX dX0_law_0 (lg_at 1 rfl) ?_
  refine g_iconst hX dX0_law_1 (0 : Int32) (by decide) ?_
  refine g_bipush hX dX0_law_2 (20 : Int32) (by decide) ?_
  obtain ⟨v4, hc4, hf⟩ := ob_some hf
  refine h_callS hM [vi x1, vi (0 : Int32), vi (20 : Int32)] dX0_law_4 cs_SlimeNet_153_s (m_X0_in hc4) rfl rfl rfl rfl ?_
  refine g_if_eq hX dX0_law_7 20 hf (by decide) (fun c7 hf => ?_) (fun c7 hf => ?_)
  · exact g_pick (w_f_X0_law_20 hM hf hr) [] rfl
  · refine g_iload_n hX dX0_law_10 (lg_at 2 rfl) ?_
    refine g_iconst hX dX0_law_11 (0 : Int32) (by decide) ?_
    refine g_bipush hX dX0_law_12 (20 : Int32) (by decide) ?_
    obtain ⟨v14, hc14, hf⟩ := ob_some hf
    refine h_callS hM [vi x2, vi (0 : Int32), vi (20 : Int32)] dX0_law_14 cs_SlimeNet_153_s (m_X0_in hc14) rfl rfl rfl rfl ?_
    refine g_if_ne hX dX0_law_17 23 hf (by decide) (fun c17 hf => ?_) (fun c17 hf => ?_)
    · refine g_aload_n hX dX0_law_23 (lg_at 0 rfl) ?_
      refine g_getR hX hf fs_SlimeNet_34_1 rfl dX0_law_24 (fun v24 hf => ?_)
      refine g_iload_n hX dX0_law_27 (lg_at 1 rfl) ?_
      refine g_putI hX hf fs_SlimeNet_163_4 ⟨_, rfl, Or.inl rfl⟩ rfl dX0_law_28 (fun A28 hf => ?_)
      refine g_aload_n hX dX0_law_31 (lg_at 0 rfl) ?_
      refine g_getR hX hf fs_SlimeNet_34_1 rfl dX0_law_32 (fun v32 hf => ?_)
      refine g_iload_n hX dX0_law_35 (lg_at 2 rfl) ?_
      refine g_putI hX hf fs_SlimeNet_166_4 ⟨_, rfl, Or.inl rfl⟩ rfl dX0_law_36 (fun A36 hf => ?_)
      refine g_iconst hX dX0_law_39 (1 : Int32) (by decide) ?_
      cases hf
      exact h_iret hM dX0_law_40 hr rfl rfl
    · exact g_pick (w_f_X0_law_20 hM hf hr) [] rfl

theorem m_X0_law {l : Launch} {this : Nat} {x1 : Int32} {x2 : Int32} {A : AH} {out : Int32 × AH} (h : f_X0_law this x1 x2 A = some out) : MetF l yX0_law (Cond.code yX0_law cX0_law 3 (some Jvm.ClassFile.FieldType.int)) rm_X0_law [vr (some this), vi x1, vi x2] A (r_X0_law A out) :=
  metF_of rfl rfl (Nat.le_of_ble_eq_true rfl) fun X hX hl hR hnm hr h1 h2 hno => w_f_X0_law (X := X) ⟨hX, hR, h1, h2, fun _ => ⟨hnm, hno⟩⟩ h hr

/-! SlimeNetModel.law(II)I -/
def rm_X4_law : Room := { frames := 2, cells := 0, slots := 0, locals := 49 }
def r_X4_law (_A : AH) (o : Int32 × AH) : (Option AV × AH) ⊕ (Nat × AH) := .inl (some (vi o.1), o.2)
set_option maxRecDepth 100000 in
theorem w_f_X4_law_24 {X : Ctx} (hM : MX X yX4_law cX4_law 3 "SlimeNetModel" (some Jvm.ClassFile.FieldType.int) rm_X4_law []) {A : AH} {out : Int32 × AH} (hf : f_X4_law_24 A = some out) (hr : c_res X = r_X4_law A out) : G X 0 0 24 [] [] A := by
  have hX := hM.1
  unfold f_X4_law_24 at hf
  refine g_bipush hX dX4_law_24 (-2 : Int32) (by decide) ?_
  cases hf
  exact h_iret hM dX4_law_26 hr rfl rfl

set_option maxRecDepth 100000 in
theorem w_f_X4_law {X : Ctx} (hM : MX X yX4_law cX4_law 3 "SlimeNetModel" (some Jvm.ClassFile.FieldType.int) rm_X4_law []) {this : Nat} {x1 : Int32} {x2 : Int32} {A : AH} {out : Int32 × AH} (hf : f_X4_law this x1 x2 A = some out) (hr : c_res X = r_X4_law A out) : G X 0 0 0 [(0, vr (some this)), (1, vi x1), (2, vi x2)] [] A := by
  have hX := hM.1
  unfold f_X4_law at hf
  refine g_iload_n hX dX4_law_0 (lg_at 1 rfl) ?_
  refine g_i2l hX dX4_law_1 ?_
  refine g_lconst hX dX4_law_2 (0 : Int64) (by decide) ?_
  refine g_ldc2 hX dX4_law_3 (v := (20 : Int64)) (lw_LW q1370) ?_
  obtain ⟨v6, hc6, hf⟩ := ob_some hf
  refine h_callS hM [vl (Int32.toInt64 x1), vl (0 : Int64), vl (20 : Int64)] dX4_law_6 cs_SlimeNetModel_52_s (m_X4_in hc6) rfl rfl rfl rfl ?_
  refine g_if_eq hX dX4_law_9 24 hf (by decide) (fun c9 hf => ?_) (fun c9 hf => ?_)
  · exact g_pick (w_f_X4_law_24 hM hf hr) [] rfl
  · refine g_iload_n hX dX4_law_12 (lg_at 2 rfl) ?_
    refine g_i2l hX dX4_law_13 ?_
    refine g_lconst hX dX4_law_14 (0 : Int64) (by decide) ?_
    refine g_ldc2 hX dX4_law_15 (v := (20 : Int64)) (lw_LW q1370) ?_
    obtain ⟨v18, hc18, hf⟩ := ob_some hf
    refine h_callS hM [vl (Int32.toInt64 x2), vl (0 : Int64), vl (20 : Int64)] dX4_law_18 cs_SlimeNetModel_52_s (m_X4_in hc18) rfl rfl rfl rfl ?_
    refine g_if_ne hX dX4_law_21 27 hf (by decide) (fun c21 hf => ?_) (fun c21 hf => ?_)
    · refine g_aload_n hX dX4_law_27 (lg_at 0 rfl) ?_
      refine g_iload_n hX dX4_law_28 (lg_at 1 rfl) ?_
      refine g_putI hX hf fs_SlimeNetModel_177_5 ⟨_, rfl, Or.inl rfl⟩ rfl dX4_law_29 (fun A29 hf => ?_)
      refine g_aload_n hX dX4_law_32 (lg_at 0 rfl) ?_
      refine g_iload_n hX dX4_law_33 (lg_at 2 rfl) ?_
      refine g_putI hX hf fs_SlimeNetModel_180_5 ⟨_, rfl, Or.inl rfl⟩ rfl dX4_law_34 (fun A34 hf => ?_)
      refine g_iconst hX dX4_law_37 (1 : Int32) (by decide) ?_
      cases hf
      exact h_iret hM dX4_law_38 hr rfl rfl
    · exact g_pick (w_f_X4_law_24 hM hf hr) [] rfl

theorem m_X4_law {l : Launch} {this : Nat} {x1 : Int32} {x2 : Int32} {A : AH} {out : Int32 × AH} (h : f_X4_law this x1 x2 A = some out) : MetF l yX4_law (Cond.code yX4_law cX4_law 3 (some Jvm.ClassFile.FieldType.int)) rm_X4_law [vr (some this), vi x1, vi x2] A (r_X4_law A out) :=
  metF_of rfl rfl (Nat.le_of_ble_eq_true rfl) fun X hX hl hR hnm hr h1 h2 hno => w_f_X4_law (X := X) ⟨hX, hR, h1, h2, fun _ => ⟨hnm, hno⟩⟩ h hr

/-! java/util/Arrays.fill([JJ)V -/
def rm_J12_fill_2 : Room := { frames := 1, cells := 0, slots := 0, locals := 24 }
def r_J12_fill_2 (_A : AH) (o : AH) : (Option AV × AH) ⊕ (Nat × AH) := .inl (none, o)
def k_J12_fill_2_6 (X : Ctx) (x0 : Option Nat) (x1 : Int64) (x4 : Int32) : ((Int32 × AH) ⊕ (AH)) → Prop
  | .inl (x3, A) => G X 0 0 6 [(0, vr x0), (1, vl x1), (3, vi x3), (4, vi x4)] [] A
  | .inr A => G X 0 0 22 [] [] A

set_option maxRecDepth 100000 in
theorem w_s_J12_fill_2_6 {X : Ctx} (hM : MX X yJ12_fill_2 cJ12_fill_2 5 "java/util/Arrays" none rm_J12_fill_2 []) {x0 : Option Nat} {x1 : Int64} {x4 : Int32} {st : Int32 × AH} {out : (Int32 × AH) ⊕ (AH)} (hf : s_J12_fill_2_6 x0 x1 x4 st = some out) (K : k_J12_fill_2_6 X x0 x1 x4 out) : k_J12_fill_2_6 X x0 x1 x4 (.inl st) := by
  have hX := hM.1
  obtain ⟨x3, A⟩ := st
  unfold s_J12_fill_2_6 at hf
  dsimp only at hf
  show G X 0 0 6 [(0, vr x0), (1, vl x1), (3, vi x3), (4, vi x4)] [] A
  refine g_iload_n hX dJ12_fill_2_6 (lg_at 2 rfl) ?_
  refine g_iload hX dJ12_fill_2_7 (lg_at 3 rfl) ?_
  refine g_icmp_ge hX dJ12_fill_2_9 22 hf (by decide) (fun c9 hf => ?_) (fun c9 hf => ?_)
  · cases hf
    exact g_pick (show G X _ _ _ _ _ _ from K) [] rfl
  · refine g_aload_n hX dJ12_fill_2_12 (lg_at 0 rfl) ?_
    refine g_iload_n hX dJ12_fill_2_13 (lg_at 2 rfl) ?_
    refine g_lload_n hX dJ12_fill_2_14 (lg_at 1 rfl) ?_
    refine g_last hX hf dJ12_fill_2_15 (fun A15 hf => ?_)
    refine g_iinc hX dJ12_fill_2_16 (1 : Int32) (x3 + (1 : Int32)) [(3, vi (x3 + (1 : Int32))), (0, vr x0), (1, vl x1), (4, vi x4)] (by decide) rfl (lg_at 2 rfl) (by decide) rfl ?_
    refine g_goto hX dJ12_fill_2_19 6 (by decide) ?_
    cases hf
    exact g_pick (show G X _ _ _ _ _ _ from K) [1, 2, 0, 3] rfl

set_option maxRecDepth 100000 in
theorem w_l_J12_fill_2_6 {X : Ctx} (hM : MX X yJ12_fill_2 cJ12_fill_2 5 "java/util/Arrays" none rm_J12_fill_2 []) {x0 : Option Nat} {x1 : Int64} {x4 : Int32} {x3 : Int32} {A : AH} {out : AH} (hf : l_J12_fill_2_6 x0 x1 x4 x3 A = some out) (hr : c_res X = r_J12_fill_2 A out) : G X 0 0 6 [(0, vr x0), (1, vl x1), (3, vi x3), (4, vi x4)] [] A := by
  have hX := hM.1
  unfold l_J12_fill_2_6 at hf
  obtain ⟨e, hw, hf⟩ := ob_some hf
  refine (whl_ind (k_J12_fill_2_6 X x0 x1 x4) (fun st o hs K => w_s_J12_fill_2_6 hM hs K) hw ?_ : k_J12_fill_2_6 X x0 x1 x4 (.inl (x3, A)))
  revert hf hw; generalize e = A; intro hw hf
  dsimp only at hf
  show G X 0 0 22 [] [] A
  cases hf
  exact h_vret hM dJ12_fill_2_22 hr rfl rfl

set_option maxRecDepth 100000 in
theorem w_f_J12_fill_2 {X : Ctx} (hM : MX X yJ12_fill_2 cJ12_fill_2 5 "java/util/Arrays" none rm_J12_fill_2 []) {x0 : Option Nat} {x1 : Int64} {A : AH} {out : AH} (hf : f_J12_fill_2 x0 x1 A = some out) (hr : c_res X = r_J12_fill_2 A out) : G X 0 0 0 [(0, vr x0), (1, vl x1)] [] A := by
  have hX := hM.1
  unfold f_J12_fill_2 at hf
  refine g_iconst hX dJ12_fill_2_0 (0 : Int32) (by decide) ?_
  refine g_istore_n hX dJ12_fill_2_1 [(3, vi (0 : Int32)), (0, vr x0), (1, vl x1)] (by decide) rfl ?_
  refine g_aload_n hX dJ12_fill_2_2 (lg_at 1 rfl) ?_
  refine g_alen hX 13 rfl hf dJ12_fill_2_3 (fun v3 hf => ?_)
  refine g_istore hX dJ12_fill_2_4 [(4, vi v3), (3, vi (0 : Int32)), (0, vr x0), (1, vl x1)] (by decide) rfl ?_
  exact g_pick (w_l_J12_fill_2_6 hM hf hr) [2, 3, 1, 0] rfl

theorem m_J12_fill_2 {l : Launch} {x0 : Option Nat} {x1 : Int64} {A : AH} {out : AH} (h : f_J12_fill_2 x0 x1 A = some out) : MetF l yJ12_fill_2 (Cond.code yJ12_fill_2 cJ12_fill_2 5 none) rm_J12_fill_2 [vr x0, vl x1] A (r_J12_fill_2 A out) :=
  metF_of rfl rfl (Nat.le_of_ble_eq_true rfl) fun X hX hl hR hnm hr h1 h2 hno => w_f_J12_fill_2 (X := X) ⟨hX, hR, h1, h2, fun _ => ⟨hnm, hno⟩⟩ h hr

/-! SlimeNet$Slime.own()I -/
def rm_X3_own : Room := { frames := 1, cells := 0, slots := 0, locals := 24 }
def r_X3_own (A : AH) (o : Int32) : (Option AV × AH) ⊕ (Nat × AH) := .inl (some (vi o), A)
def k_X3_own_4 (X : Ctx) (this : Nat) (A : AH) : ((Int32 × Int32) ⊕ (Int32)) → Prop
  | .inl (x1, x2) => G X 0 0 4 [(0, vr (some this)), (1, vi x1), (2, vi x2)] [] A
  | .inr x1 => G X 0 0 35 [(1, vi x1)] [] A

set_option maxRecDepth 100000 in
theorem w_f_X3_own_27 {X : Ctx} (hM : MX X yX3_own cX3_own 3 "SlimeNet$Slime" (some Jvm.ClassFile.FieldType.int) rm_X3_own []) {this : Nat} {x2 : Int32} {t0 : Int32} {t1 : Int32} {A : AH} {out : (Int32 × Int32) ⊕ (Int32)} (hf : f_X3_own_27 this x2 t0 t1 A = some out) (K : k_X3_own_4 X this A out) : G X 0 0 27 [(0, vr (some this)), (2, vi x2)] [vi t0, vi t1] A := by
  have hX := hM.1
  unfold f_X3_own_27 at hf
  refine g_ior hX dX3_own_27 ?_
  refine g_istore_n hX dX3_own_28 [(1, vi (t1 ||| t0)), (0, vr (some this)), (2, vi x2)] (by decide) rfl ?_
  refine g_iinc hX dX3_own_29 (1 : Int32) (x2 + (1 : Int32)) [(2, vi (x2 + (1 : Int32))), (1, vi (t1 ||| t0)), (0, vr (some this))] (by decide) rfl (lg_at 2 rfl) (by decide) rfl ?_
  refine g_goto hX dX3_own_32 4 (by decide) ?_
  cases hf
  exact g_pick (show G X _ _ _ _ _ _ from K) [2, 1, 0] rfl

set_option maxRecDepth 100000 in
theorem w_s_X3_own_4 {X : Ctx} (hM : MX X yX3_own cX3_own 3 "SlimeNet$Slime" (some Jvm.ClassFile.FieldType.int) rm_X3_own []) {this : Nat} {A : AH} {st : Int32 × Int32} {out : (Int32 × Int32) ⊕ (Int32)} (hf : s_X3_own_4 this A st = some out) (K : k_X3_own_4 X this A out) : k_X3_own_4 X this A (.inl st) := by
  have hX := hM.1
  obtain ⟨x1, x2⟩ := st
  unfold s_X3_own_4 at hf
  dsimp only at hf
  show G X 0 0 4 [(0, vr (some this)), (1, vi x1), (2, vi x2)] [] A
  refine g_iload_n hX dX3_own_4 (lg_at 2 rfl) ?_
  refine g_bipush hX dX3_own_5 (10 : Int32) (by decide) ?_
  refine g_icmp_ge hX dX3_own_7 35 hf (by decide) (fun c7 hf => ?_) (fun c7 hf => ?_)
  · cases hf
    exact g_pick (show G X _ _ _ _ _ _ from K) [1] rfl
  · refine g_iload_n hX dX3_own_10 (lg_at 1 rfl) ?_
    refine g_aload_n hX dX3_own_11 (lg_at 0 rfl) ?_
    refine g_getR hX hf fs_SlimeNet_Slime_9_4 rfl dX3_own_12 (fun v12 hf => ?_)
    refine g_iload_n hX dX3_own_15 (lg_at 2 rfl) ?_
    refine g_iald hX hf dX3_own_16 (fun v16 hf => ?_)
    refine g_if_le hX dX3_own_17 26 hf (by decide) (fun c17 hf => ?_) (fun c17 hf => ?_)
    · refine g_iconst hX dX3_own_26 (0 : Int32) (by decide) ?_
      exact g_pick (w_f_X3_own_27 hM hf K) [0, 2] rfl
    · refine g_iconst hX dX3_own_20 (1 : Int32) (by decide) ?_
      refine g_iload_n hX dX3_own_21 (lg_at 2 rfl) ?_
      refine g_ishl hX dX3_own_22 ?_
      refine g_goto hX dX3_own_23 27 (by decide) ?_
      exact g_pick (w_f_X3_own_27 hM hf K) [0, 2] rfl

set_option maxRecDepth 100000 in
theorem w_l_X3_own_4 {X : Ctx} (hM : MX X yX3_own cX3_own 3 "SlimeNet$Slime" (some Jvm.ClassFile.FieldType.int) rm_X3_own []) {this : Nat} {x1 : Int32} {x2 : Int32} {A : AH} {out : Int32} (hf : l_X3_own_4 this x1 x2 A = some out) (hr : c_res X = r_X3_own A out) : G X 0 0 4 [(0, vr (some this)), (1, vi x1), (2, vi x2)] [] A := by
  have hX := hM.1
  unfold l_X3_own_4 at hf
  obtain ⟨e, hw, hf⟩ := ob_some hf
  refine (whl_ind (k_X3_own_4 X this A) (fun st o hs K => w_s_X3_own_4 hM hs K) hw ?_ : k_X3_own_4 X this A (.inl (x1, x2)))
  revert hf hw; generalize e = x1; intro hw hf
  dsimp only at hf
  show G X 0 0 35 [(1, vi x1)] [] A
  refine g_iload_n hX dX3_own_35 (lg_at 0 rfl) ?_
  cases hf
  exact h_iret hM dX3_own_36 hr rfl rfl

set_option maxRecDepth 100000 in
theorem w_f_X3_own {X : Ctx} (hM : MX X yX3_own cX3_own 3 "SlimeNet$Slime" (some Jvm.ClassFile.FieldType.int) rm_X3_own []) {this : Nat} {A : AH} {out : Int32} (hf : f_X3_own this A = some out) (hr : c_res X = r_X3_own A out) : G X 0 0 0 [(0, vr (some this))] [] A := by
  have hX := hM.1
  unfold f_X3_own at hf
  refine g_iconst hX dX3_own_0 (0 : Int32) (by decide) ?_
  refine g_istore_n hX dX3_own_1 [(1, vi (0 : Int32)), (0, vr (some this))] (by decide) rfl ?_
  refine g_iconst hX dX3_own_2 (0 : Int32) (by decide) ?_
  refine g_istore_n hX dX3_own_3 [(2, vi (0 : Int32)), (1, vi (0 : Int32)), (0, vr (some this))] (by decide) rfl ?_
  exact g_pick (w_l_X3_own_4 hM hf hr) [2, 1, 0] rfl

theorem m_X3_own {l : Launch} {this : Nat} {A : AH} {out : Int32} (h : f_X3_own this A = some out) : MetF l yX3_own (Cond.code yX3_own cX3_own 3 (some Jvm.ClassFile.FieldType.int)) rm_X3_own [vr (some this)] A (r_X3_own A out) :=
  metF_of rfl rfl (Nat.le_of_ble_eq_true rfl) fun X hX hl hR hnm hr h1 h2 hno => w_f_X3_own (X := X) ⟨hX, hR, h1, h2, fun _ => ⟨hnm, hno⟩⟩ h hr

/-! SlimeNet$Plate.joined(II)I -/
def rm_X2_joined : Room := { frames := 4, cells := 0, slots := 0, locals := 88 }
def r_X2_joined (A : AH) (o : Int32) : (Option AV × AH) ⊕ (Nat × AH) := .inl (some (vi o), A)
def k_X2_joined_7 (X : Ctx) (this : Nat) (x1 : Int32) (A : AH) : ((Int32 × Int32) ⊕ (Int32)) → Prop
  | .inl (x3, x4) => G X 0 0 7 [(0, vr (some this)), (1, vi x1), (3, vi x3), (4, vi x4)] [] A
  | .inr x3 => G X 0 0 103 [(3, vi x3)] [] A

def k_X2_joined_19 (X : Ctx) (this : Nat) (x1 : Int32) (x4 : Int32) (A : AH) : ((Int32 × Int32) ⊕ (Int32)) → Prop
  | .inl (x3, x5) => G X 0 0 19 [(0, vr (some this)), (1, vi x1), (3, vi x3), (4, vi x4), (5, vi x5)] [] A
  | .inr x3 => G X 0 0 100 [(0, vr (some this)), (1, vi x1), (3, vi x3), (4, vi x4)] [] A

set_option maxRecDepth 100000 in
theorem w_f_X2_joined_94 {X : Ctx} (hM : MX X yX2_joined cX2_joined 7 "SlimeNet$Plate" (some Jvm.ClassFile.FieldType.int) rm_X2_joined []) {this : Nat} {x1 : Int32} {x3 : Int32} {x4 : Int32} {x5 : Int32} {A : AH} {out : (Int32 × Int32) ⊕ (Int32)} (hf : f_X2_joined_94 this x1 x3 x4 x5 A = some out) (K : k_X2_joined_19 X this x1 x4 A out) : G X 0 0 94 [(0, vr (some this)), (1, vi x1), (3, vi x3), (4, vi x4), (5, vi x5)] [] A := by
  have hX := hM.1
  unfold f_X2_joined_94 at hf
  refine g_iinc hX dX2_joined_94 (1 : Int32) (x5 + (1 : Int32)) [(5, vi (x5 + (1 : Int32))), (0, vr (some this)), (1, vi x1), (3, vi x3), (4, vi x4)] (by decide) rfl (lg_at 4 rfl) (by decide) rfl ?_
  refine g_goto hX dX2_joined_97 19 (by decide) ?_
  cases hf
  exact g_pick (show G X _ _ _ _ _ _ from K) [1, 2, 3, 4, 0] rfl

set_option maxRecDepth 100000 in
theorem w_s_X2_joined_19 {X : Ctx} (hM : MX X yX2_joined cX2_joined 7 "SlimeNet$Plate" (some Jvm.ClassFile.FieldType.int) rm_X2_joined []) {this : Nat} {x1 : Int32} {x4 : Int32} {A : AH} {st : Int32 × Int32} {out : (Int32 × Int32) ⊕ (Int32)} (hf : s_X2_joined_19 this x1 x4 A st = some out) (K : k_X2_joined_19 X this x1 x4 A out) : k_X2_joined_19 X this x1 x4 A (.inl st) := by
  have hX := hM.1
  obtain ⟨x3, x5⟩ := st
  unfold s_X2_joined_19 at hf
  dsimp only at hf
  show G X 0 0 19 [(0, vr (some this)), (1, vi x1), (3, vi x3), (4, vi x4), (5, vi x5)] [] A
  refine g_iload hX dX2_joined_19 (lg_at 4 rfl) ?_
  refine g_aload_n hX dX2_joined_21 (lg_at 0 rfl) ?_
  refine g_getR hX hf fs_SlimeNet_Plate_18_3 rfl dX2_joined_22 (fun v22 hf => ?_)
  obtain ⟨k25, hk25, hf⟩ := ob_some hf
  obtain ⟨v25, hc25, hf⟩ := ob_some hf
  refine h_callV hM [] dX2_joined_25 cs_SlimeNet_Plate_48_8 hk25 (m_J4_size hc25) rfl rfl rfl rfl ?_
  refine g_icmp_ge hX dX2_joined_28 100 hf (by decide) (fun c28 hf => ?_) (fun c28 hf => ?_)
  · cases hf
    exact g_pick (show G X _ _ _ _ _ _ from K) [0, 1, 2, 3] rfl
  · refine g_aload_n hX dX2_joined_31 (lg_at 0 rfl) ?_
    refine g_getR hX hf fs_SlimeNet_Plate_18_3 rfl dX2_joined_32 (fun v32 hf => ?_)
    refine g_iload hX dX2_joined_35 (lg_at 4 rfl) ?_
    obtain ⟨k37, hk37, hf⟩ := ob_some hf
    obtain ⟨v37, hc37, hf⟩ := ob_some hf
    refine h_callV hM [vi x5] dX2_joined_37 cs_SlimeNet_Plate_52_8 hk37 (m_J4_get hc37) rfl rfl rfl rfl ?_
    refine g_castC hX (by decide) rfl (lw_LW q624) hf dX2_joined_40 (fun hf => ?_)
    refine g_astore hX dX2_joined_43 [(6, vr v37), (0, vr (some this)), (1, vi x1), (3, vi x3), (4, vi x4), (5, vi x5)] (by decide) rfl ?_
    refine g_iload_n hX dX2_joined_45 (lg_at 2 rfl) ?_
    refine g_iload hX dX2_joined_46 (lg_at 5 rfl) ?_
    refine g_ishr hX dX2_joined_48 ?_
    refine g_iconst hX dX2_joined_49 (1 : Int32) (by decide) ?_
    refine g_iand hX dX2_joined_50 ?_
    refine g_iconst hX dX2_joined_51 (1 : Int32) (by decide) ?_
    refine g_icmp_ne hX dX2_joined_52 94 hf (by decide) (fun c52 hf => ?_) (fun c52 hf => ?_)
    · exact g_pick (w_f_X2_joined_94 hM hf K) [1, 2, 3, 4, 5] rfl
    · refine g_iload_n hX dX2_joined_55 (lg_at 3 rfl) ?_
      refine g_aload hX dX2_joined_56 (lg_at 0 rfl) ?_
      refine g_getI hX hf fs_SlimeNet_Plate_58_7 rfl dX2_joined_58 (fun v58 hf => ?_)
      refine g_ishr hX dX2_joined_61 ?_
      refine g_iconst hX dX2_joined_62 (1 : Int32) (by decide) ?_
      refine g_iand hX dX2_joined_63 ?_
      refine g_iload_n hX dX2_joined_64 (lg_at 3 rfl) ?_
      refine g_aload hX dX2_joined_65 (lg_at 0 rfl) ?_
      refine g_getI hX hf fs_SlimeNet_Plate_61_7 rfl dX2_joined_67 (fun v67 hf => ?_)
      refine g_ishr hX dX2_joined_70 ?_
      refine g_iconst hX dX2_joined_71 (1 : Int32) (by decide) ?_
      refine g_iand hX dX2_joined_72 ?_
      refine g_icmp_eq hX dX2_joined_73 94 hf (by decide) (fun c73 hf => ?_) (fun c73 hf => ?_)
      · exact g_pick (w_f_X2_joined_94 hM hf K) [1, 2, 3, 4, 5] rfl
      · refine g_iload_n hX dX2_joined_76 (lg_at 3 rfl) ?_
        refine g_iconst hX dX2_joined_77 (1 : Int32) (by decide) ?_
        refine g_aload hX dX2_joined_78 (lg_at 0 rfl) ?_
        refine g_getI hX hf fs_SlimeNet_Plate_58_7 rfl dX2_joined_80 (fun v80 hf => ?_)
        refine g_ishl hX dX2_joined_83 ?_
        refine g_iconst hX dX2_joined_84 (1 : Int32) (by decide) ?_
        refine g_aload hX dX2_joined_85 (lg_at 0 rfl) ?_
        refine g_getI hX hf fs_SlimeNet_Plate_61_7 rfl dX2_joined_87 (fun v87 hf => ?_)
        refine g_ishl hX dX2_joined_90 ?_
        refine g_ior hX dX2_joined_91 ?_
        refine g_ior hX dX2_joined_92 ?_
        refine g_istore_n hX dX2_joined_93 [(3, vi (x3 ||| (((1 : Int32) <<< (v80 &&& 31)) ||| ((1 : Int32) <<< (v87 &&& 31))))), (6, vr v37), (0, vr (some this)), (1, vi x1), (4, vi x4), (5, vi x5)] (by decide) rfl ?_
        exact g_pick (w_f_X2_joined_94 hM hf K) [2, 3, 0, 4, 5] rfl

set_option maxRecDepth 100000 in
theorem w_l_X2_joined_19 {X : Ctx} (hM : MX X yX2_joined cX2_joined 7 "SlimeNet$Plate" (some Jvm.ClassFile.FieldType.int) rm_X2_joined []) {this : Nat} {x1 : Int32} {x4 : Int32} {x3 : Int32} {x5 : Int32} {A : AH} {out : (Int32 × Int32) ⊕ (Int32)} (hf : l_X2_joined_19 this x1 x4 x3 x5 A = some out) (K : k_X2_joined_7 X this x1 A out) : G X 0 0 19 [(0, vr (some this)), (1, vi x1), (3, vi x3), (4, vi x4), (5, vi x5)] [] A := by
  have hX := hM.1
  unfold l_X2_joined_19 at hf
  obtain ⟨e, hw, hf⟩ := ob_some hf
  refine (whl_ind (k_X2_joined_19 X this x1 x4 A) (fun st o hs K => w_s_X2_joined_19 hM hs K) hw ?_ : k_X2_joined_19 X this x1 x4 A (.inl (x3, x5)))
  revert hf hw; generalize e = x3; intro hw hf
  dsimp only at hf
  show G X 0 0 100 [(0, vr (some this)), (1, vi x1), (3, vi x3), (4, vi x4)] [] A
  refine g_goto hX dX2_joined_100 7 (by decide) ?_
  cases hf
  exact g_pick (show G X _ _ _ _ _ _ from K) [0, 1, 2, 3] rfl

set_option maxRecDepth 100000 in
theorem w_s_X2_joined_7 {X : Ctx} (hM : MX X yX2_joined cX2_joined 7 "SlimeNet$Plate" (some Jvm.ClassFile.FieldType.int) rm_X2_joined []) {this : Nat} {x1 : Int32} {A : AH} {st : Int32 × Int32} {out : (Int32 × Int32) ⊕ (Int32)} (hf : s_X2_joined_7 this x1 A st = some out) (K : k_X2_joined_7 X this x1 A out) : k_X2_joined_7 X this x1 A (.inl st) := by
  have hX := hM.1
  obtain ⟨x3, x4⟩ := st
  unfold s_X2_joined_7 at hf
  dsimp only at hf
  show G X 0 0 7 [(0, vr (some this)), (1, vi x1), (3, vi x3), (4, vi x4)] [] A
  refine g_iload hX dX2_joined_7 (lg_at 3 rfl) ?_
  refine g_iload_n hX dX2_joined_9 (lg_at 2 rfl) ?_
  refine g_icmp_eq hX dX2_joined_10 103 hf (by decide) (fun c10 hf => ?_) (fun c10 hf => ?_)
  · cases hf
    exact g_pick (show G X _ _ _ _ _ _ from K) [2] rfl
  · refine g_iload_n hX dX2_joined_13 (lg_at 2 rfl) ?_
    refine g_istore hX dX2_joined_14 [(4, vi x3), (0, vr (some this)), (1, vi x1), (3, vi x3)] (by decide) rfl ?_
    refine g_iconst hX dX2_joined_16 (0 : Int32) (by decide) ?_
    refine g_istore hX dX2_joined_17 [(5, vi (0 : Int32)), (4, vi x3), (0, vr (some this)), (1, vi x1), (3, vi x3)] (by decide) rfl ?_
    exact g_pick (w_l_X2_joined_19 hM hf K) [2, 3, 4, 1, 0] rfl

set_option maxRecDepth 100000 in
theorem w_l_X2_joined_7 {X : Ctx} (hM : MX X yX2_joined cX2_joined 7 "SlimeNet$Plate" (some Jvm.ClassFile.FieldType.int) rm_X2_joined []) {this : Nat} {x1 : Int32} {x3 : Int32} {x4 : Int32} {A : AH} {out : Int32} (hf : l_X2_joined_7 this x1 x3 x4 A = some out) (hr : c_res X = r_X2_joined A out) : G X 0 0 7 [(0, vr (some this)), (1, vi x1), (3, vi x3), (4, vi x4)] [] A := by
  have hX := hM.1
  unfold l_X2_joined_7 at hf
  obtain ⟨e, hw, hf⟩ := ob_some hf
  refine (whl_ind (k_X2_joined_7 X this x1 A) (fun st o hs K => w_s_X2_joined_7 hM hs K) hw ?_ : k_X2_joined_7 X this x1 A (.inl (x3, x4)))
  revert hf hw; generalize e = x3; intro hw hf
  dsimp only at hf
  show G X 0 0 103 [(3, vi x3)] [] A
  refine g_iload_n hX dX2_joined_103 (lg_at 0 rfl) ?_
  cases hf
  exact h_iret hM dX2_joined_104 hr rfl rfl

set_option maxRecDepth 100000 in
theorem w_f_X2_joined {X : Ctx} (hM : MX X yX2_joined cX2_joined 7 "SlimeNet$Plate" (some Jvm.ClassFile.FieldType.int) rm_X2_joined []) {this : Nat} {x1 : Int32} {x2 : Int32} {A : AH} {out : Int32} (hf : f_X2_joined this x1 x2 A = some out) (hr : c_res X = r_X2_joined A out) : G X 0 0 0 [(0, vr (some this)), (1, vi x1), (2, vi x2)] [] A := by
  have hX := hM.1
  unfold f_X2_joined at hf
  refine g_iconst hX dX2_joined_0 (1 : Int32) (by decide) ?_
  refine g_iload_n hX dX2_joined_1 (lg_at 2 rfl) ?_
  refine g_ishl hX dX2_joined_2 ?_
  refine g_istore_n hX dX2_joined_3 [(3, vi ((1 : Int32) <<< (x2 &&& 31))), (0, vr (some this)), (1, vi x1), (2, vi x2)] (by decide) rfl ?_
  refine g_iconst hX dX2_joined_4 (0 : Int32) (by decide) ?_
  refine g_istore hX dX2_joined_5 [(4, vi (0 : Int32)), (3, vi ((1 : Int32) <<< (x2 &&& 31))), (0, vr (some this)), (1, vi x1), (2, vi x2)] (by decide) rfl ?_
  exact g_pick (w_l_X2_joined_7 hM hf hr) [2, 3, 1, 0] rfl

theorem m_X2_joined {l : Launch} {this : Nat} {x1 : Int32} {x2 : Int32} {A : AH} {out : Int32} (h : f_X2_joined this x1 x2 A = some out) : MetF l yX2_joined (Cond.code yX2_joined cX2_joined 7 (some Jvm.ClassFile.FieldType.int)) rm_X2_joined [vr (some this), vi x1, vi x2] A (r_X2_joined A out) :=
  metF_of rfl rfl (Nat.le_of_ble_eq_true rfl) fun X hX hl hR hnm hr h1 h2 hno => w_f_X2_joined (X := X) ⟨hX, hR, h1, h2, fun _ => ⟨hnm, hno⟩⟩ h hr

/-! SlimeNet$Slime.leads(LSlimeNet$Pipe;)J -/
def rm_X3_leads : Room := { frames := 1, cells := 0, slots := 0, locals := 24 }
def r_X3_leads (A : AH) (o : Int64) : (Option AV × AH) ⊕ (Nat × AH) := .inl (some (vl o), A)
set_option maxRecDepth 100000 in
theorem w_f_X3_leads_53 {X : Ctx} (hM : MX X yX3_leads cX3_leads 3 "SlimeNet$Slime" (some Jvm.ClassFile.FieldType.long) rm_X3_leads []) {x1 : Option Nat} {t0 : Int32} {t1 : Int64} {A : AH} {out : Int64} (hf : f_X3_leads_53 x1 t0 t1 A = some out) (hr : c_res X = r_X3_leads A out) : G X 0 0 53 [(1, vr x1)] [vi t0, vl t1] A := by
  have hX := hM.1
  unfold f_X3_leads_53 at hf
  refine g_i2l hX dX3_leads_53 ?_
  refine g_lmul hX dX3_leads_54 ?_
  refine g_aload_n hX dX3_leads_55 (lg_at 0 rfl) ?_
  refine g_getI hX hf fs_SlimeNet_Slime_76_7 rfl dX3_leads_56 (fun v56 hf => ?_)
  refine g_i2l hX dX3_leads_59 ?_
  refine g_ldiv hX dX3_leads_60 hf (fun v60 _ hf => ?_)
  cases hf
  exact h_lret hM dX3_leads_61 hr rfl rfl

set_option maxRecDepth 100000 in
theorem w_f_X3_leads_31 {X : Ctx} (hM : MX X yX3_leads cX3_leads 3 "SlimeNet$Slime" (some Jvm.ClassFile.FieldType.long) rm_X3_leads []) {this : Nat} {x1 : Option Nat} {t0 : Int32} {A : AH} {out : Int64} (hf : f_X3_leads_31 this x1 t0 A = some out) (hr : c_res X = r_X3_leads A out) : G X 0 0 31 [(0, vr (some this)), (1, vr x1)] [vi t0] A := by
  have hX := hM.1
  unfold f_X3_leads_31 at hf
  refine g_istore_n hX dX3_leads_31 [(2, vi t0), (0, vr (some this)), (1, vr x1)] (by decide) rfl ?_
  refine g_aload_n hX dX3_leads_32 (lg_at 1 rfl) ?_
  refine g_getR hX hf fs_SlimeNet_Slime_9_4 rfl dX3_leads_33 (fun v33 hf => ?_)
  refine g_aload_n hX dX3_leads_36 (lg_at 2 rfl) ?_
  refine g_getI hX hf fs_SlimeNet_Slime_70_7 rfl dX3_leads_37 (fun v37 hf => ?_)
  refine g_iald hX hf dX3_leads_40 (fun v40 hf => ?_)
  refine g_i2l hX dX3_leads_41 ?_
  refine g_iload_n hX dX3_leads_42 (lg_at 0 rfl) ?_
  refine g_if_eq hX dX3_leads_43 51 hf (by decide) (fun c43 hf => ?_) (fun c43 hf => ?_)
  · refine g_bipush hX dX3_leads_51 (24 : Int32) (by decide) ?_
    exact g_pick (w_f_X3_leads_53 hM hf hr) [2] rfl
  · refine g_bipush hX dX3_leads_46 (12 : Int32) (by decide) ?_
    refine g_goto hX dX3_leads_48 53 (by decide) ?_
    exact g_pick (w_f_X3_leads_53 hM hf hr) [2] rfl

set_option maxRecDepth 100000 in
theorem w_f_X3_leads_30 {X : Ctx} (hM : MX X yX3_leads cX3_leads 3 "SlimeNet$Slime" (some Jvm.ClassFile.FieldType.long) rm_X3_leads []) {this : Nat} {x1 : Option Nat} {A : AH} {out : Int64} (hf : f_X3_leads_30 this x1 A = some out) (hr : c_res X = r_X3_leads A out) : G X 0 0 30 [(0, vr (some this)), (1, vr x1)] [] A := by
  have hX := hM.1
  unfold f_X3_leads_30 at hf
  refine g_iconst hX dX3_leads_30 (0 : Int32) (by decide) ?_
  exact g_pick (w_f_X3_leads_31 hM hf hr) [0, 1] rfl

set_option maxRecDepth 100000 in
theorem w_f_X3_leads {X : Ctx} (hM : MX X yX3_leads cX3_leads 3 "SlimeNet$Slime" (some Jvm.ClassFile.FieldType.long) rm_X3_leads []) {this : Nat} {x1 : Option Nat} {A : AH} {out : Int64} (hf : f_X3_leads this x1 A = some out) (hr : c_res X = r_X3_leads A out) : G X 0 0 0 [(0, vr (some this)), (1, vr x1)] [] A := by
  have hX := hM.1
  unfold f_X3_leads at hf
  refine g_aload_n hX dX3_leads_0 (lg_at 1 rfl) ?_
  refine g_getI hX hf fs_SlimeNet_Slime_64_7 rfl dX3_leads_1 (fun v1 hf => ?_)
  refine g_if_eq hX dX3_leads_4 30 hf (by decide) (fun c4 hf => ?_) (fun c4 hf => ?_)
  · exact g_pick (w_f_X3_leads_30 hM hf hr) [0, 1] rfl
  · refine g_aload_n hX dX3_leads_7 (lg_at 0 rfl) ?_
    refine g_getR hX hf fs_SlimeNet_Slime_15_4 rfl dX3_leads_8 (fun v8 hf => ?_)
    refine g_aload_n hX dX3_leads_11 (lg_at 1 rfl) ?_
    refine g_getI hX hf fs_SlimeNet_Slime_70_7 rfl dX3_leads_12 (fun v12 hf => ?_)
    refine g_iald hX hf dX3_leads_15 (fun v15 hf => ?_)
    refine g_aload_n hX dX3_leads_16 (lg_at 0 rfl) ?_
    refine g_getR hX hf fs_SlimeNet_Slime_34_4 rfl dX3_leads_17 (fun v17 hf => ?_)
    refine g_getI hX hf fs_SlimeNet_Slime_73_3 rfl dX3_leads_20 (fun v20 hf => ?_)
    refine g_icmp_ge hX dX3_leads_23 30 hf (by decide) (fun c23 hf => ?_) (fun c23 hf => ?_)
    · exact g_pick (w_f_X3_leads_30 hM hf hr) [0, 1] rfl
    · refine g_iconst hX dX3_leads_26 (1 : Int32) (by decide) ?_
      refine g_goto hX dX3_leads_27 31 (by decide) ?_
      exact g_pick (w_f_X3_leads_31 hM hf hr) [0, 1] rfl

theorem m_X3_leads {l : Launch} {this : Nat} {x1 : Option Nat} {A : AH} {out : Int64} (h : f_X3_leads this x1 A = some out) : MetF l yX3_leads (Cond.code yX3_leads cX3_leads 3 (some Jvm.ClassFile.FieldType.long)) rm_X3_leads [vr (some this), vr x1] A (r_X3_leads A out) :=
  metF_of rfl rfl (Nat.le_of_ble_eq_true rfl) fun X hX hl hR hnm hr h1 h2 hno => w_f_X3_leads (X := X) ⟨hX, hR, h1, h2, fun _ => ⟨hnm, hno⟩⟩ h hr

/-! SlimeNet$Slime.minor(II)J -/
def rm_X3_minor (d : Nat) : Room := { frames := d + 1, cells := 0, slots := 0, locals := 100 * (d + 1) }
def r_X3_minor (A : AH) (o : Int64) : (Option AV × AH) ⊕ (Nat × AH) := .inl (some (vl o), A)
theorem roomOK_rec (d : Nat) : roomOK (rm_X3_minor (d + 1)) (rm_X3_minor d) 7 0 0 = true := by
  simp only [roomOK, rm_X3_minor, Bool.and_eq_true, Nat.ble_eq]
  omega
def k_X3_minor_18 (X : Ctx) (this : Nat) (x1 : Int32) (x2 : Int32) (A : AH) : ((Int64 × Int32 × Int32) ⊕ (Int64)) → Prop
  | .inl (x3, x5, x6) => G X 0 0 18 [(0, vr (some this)), (1, vi x1), (2, vi x2), (3, vl x3), (5, vi x5), (6, vi x6)] [] A
  | .inr x3 => G X 0 0 102 [(3, vl x3)] [] A

set_option maxRecDepth 100000 in
theorem w_f_X3_minor_96 {X : Ctx} {d : Nat} (hM : MX X yX3_minor cX3_minor 7 "SlimeNet$Slime" (some Jvm.ClassFile.FieldType.long) (rm_X3_minor (d + 1)) []) {rec : Nat → Int32 → Int32 → AH → Option (Int64)} (hrec : ∀ k0 a0 a1 A0 o0, rec k0 a0 a1 A0 = some o0 → MetF (c_l X) yX3_minor (Cond.code yX3_minor cX3_minor 7 (some Jvm.ClassFile.FieldType.long)) (rm_X3_minor d) [vr (some k0), vi a0, vi a1] A0 (r_X3_minor A0 o0)) {this : Nat} {x1 : Int32} {x2 : Int32} {x3 : Int64} {x5 : Int32} {x6 : Int32} {A : AH} {out : (Int64 × Int32 × Int32) ⊕ (Int64)} (hf : f_X3_minor_96 rec this x1 x2 x3 x5 x6 A = some out) (K : k_X3_minor_18 X this x1 x2 A out) : G X 0 0 96 [(0, vr (some this)), (1, vi x1), (2, vi x2), (3, vl x3), (5, vi x5), (6, vi x6)] [] A := by
  have hX := hM.1
  unfold f_X3_minor_96 at hf
  refine g_iinc hX dX3_minor_96 (1 : Int32) (x6 + (1 : Int32)) [(6, vi (x6 + (1 : Int32))), (0, vr (some this)), (1, vi x1), (2, vi x2), (3, vl x3), (5, vi x5)] (by decide) rfl (lg_at 5 rfl) (by decide) rfl ?_
  refine g_goto hX dX3_minor_99 18 (by decide) ?_
  cases hf
  exact g_pick (show G X _ _ _ _ _ _ from K) [1, 2, 3, 4, 5, 0] rfl

set_option maxRecDepth 100000 in
theorem w_f_X3_minor_91 {X : Ctx} {d : Nat} (hM : MX X yX3_minor cX3_minor 7 "SlimeNet$Slime" (some Jvm.ClassFile.FieldType.long) (rm_X3_minor (d + 1)) []) {rec : Nat → Int32 → Int32 → AH → Option (Int64)} (hrec : ∀ k0 a0 a1 A0 o0, rec k0 a0 a1 A0 = some o0 → MetF (c_l X) yX3_minor (Cond.code yX3_minor cX3_minor 7 (some Jvm.ClassFile.FieldType.long)) (rm_X3_minor d) [vr (some k0), vi a0, vi a1] A0 (r_X3_minor A0 o0)) {this : Nat} {x1 : Int32} {x2 : Int32} {x3 : Int64} {x5 : Int32} {x6 : Int32} {A : AH} {out : (Int64 × Int32 × Int32) ⊕ (Int64)} (hf : f_X3_minor_91 rec this x1 x2 x3 x5 x6 A = some out) (K : k_X3_minor_18 X this x1 x2 A out) : G X 0 0 91 [(0, vr (some this)), (1, vi x1), (2, vi x2), (3, vl x3), (5, vi x5), (6, vi x6)] [] A := by
  have hX := hM.1
  unfold f_X3_minor_91 at hf
  refine g_iload hX dX3_minor_91 (lg_at 4 rfl) ?_
  refine g_ineg hX dX3_minor_93 ?_
  refine g_istore hX dX3_minor_94 [(5, vi (-x5)), (0, vr (some this)), (1, vi x1), (2, vi x2), (3, vl x3), (6, vi x6)] (by decide) rfl ?_
  exact g_pick (w_f_X3_minor_96 hM hrec hf K) [1, 2, 3, 4, 0, 5] rfl

set_option maxRecDepth 100000 in
theorem w_s_X3_minor_18 {X : Ctx} {d : Nat} (hM : MX X yX3_minor cX3_minor 7 "SlimeNet$Slime" (some Jvm.ClassFile.FieldType.long) (rm_X3_minor (d + 1)) []) {rec : Nat → Int32 → Int32 → AH → Option (Int64)} (hrec : ∀ k0 a0 a1 A0 o0, rec k0 a0 a1 A0 = some o0 → MetF (c_l X) yX3_minor (Cond.code yX3_minor cX3_minor 7 (some Jvm.ClassFile.FieldType.long)) (rm_X3_minor d) [vr (some k0), vi a0, vi a1] A0 (r_X3_minor A0 o0)) {this : Nat} {x1 : Int32} {x2 : Int32} {A : AH} {st : Int64 × Int32 × Int32} {out : (Int64 × Int32 × Int32) ⊕ (Int64)} (hf : s_X3_minor_18 rec this x1 x2 A st = some out) (K : k_X3_minor_18 X this x1 x2 A out) : k_X3_minor_18 X this x1 x2 A (.inl st) := by
  have hX := hM.1
  obtain ⟨x3, x5, x6⟩ := st
  unfold s_X3_minor_18 at hf
  dsimp only at hf
  show G X 0 0 18 [(0, vr (some this)), (1, vi x1), (2, vi x2), (3, vl x3), (5, vi x5), (6, vi x6)] [] A
  refine g_iload hX dX3_minor_18 (lg_at 5 rfl) ?_
  refine g_aload_n hX dX3_minor_20 (lg_at 0 rfl) ?_
  refine g_getI hX hf fs_SlimeNet_Slime_79_4 rfl dX3_minor_21 (fun v21 hf => ?_)
  refine g_icmp_ge hX dX3_minor_24 102 hf (by decide) (fun c24 hf => ?_) (fun c24 hf => ?_)
  · cases hf
    exact g_pick (show G X _ _ _ _ _ _ from K) [3] rfl
  · refine g_iload_n hX dX3_minor_27 (lg_at 2 rfl) ?_
    refine g_iload hX dX3_minor_28 (lg_at 5 rfl) ?_
    refine g_ishr hX dX3_minor_30 ?_
    refine g_iconst hX dX3_minor_31 (1 : Int32) (by decide) ?_
    refine g_iand hX dX3_minor_32 ?_
    refine g_if_ne hX dX3_minor_33 39 hf (by decide) (fun c33 hf => ?_) (fun c33 hf => ?_)
    · refine g_aload_n hX dX3_minor_39 (lg_at 0 rfl) ?_
      refine g_getR hX hf fs_SlimeNet_Slime_21_4 rfl dX3_minor_40 (fun v40 hf => ?_)
      refine g_bipush hX dX3_minor_43 (6 : Int32) (by decide) ?_
      refine g_iload_n hX dX3_minor_45 (lg_at 1 rfl) ?_
      refine g_imul hX dX3_minor_46 ?_
      refine g_iload hX dX3_minor_47 (lg_at 5 rfl) ?_
      refine g_iadd hX dX3_minor_49 ?_
      refine g_lald hX hf dX3_minor_50 (fun v50 hf => ?_)
      refine g_lconst hX dX3_minor_51 (0 : Int64) (by decide) ?_
      refine g_lcmp hX dX3_minor_52 ?_
      refine g_if_eq hX dX3_minor_53 91 hf (by decide) (fun c53 hf => ?_) (fun c53 hf => ?_)
      · exact g_pick (w_f_X3_minor_91 hM hrec hf K) [0, 1, 2, 3, 4, 5] rfl
      · refine g_lload_n hX dX3_minor_56 (lg_at 3 rfl) ?_
        refine g_iload hX dX3_minor_57 (lg_at 4 rfl) ?_
        refine g_i2l hX dX3_minor_59 ?_
        refine g_aload_n hX dX3_minor_60 (lg_at 0 rfl) ?_
        refine g_getR hX hf fs_SlimeNet_Slime_21_4 rfl dX3_minor_61 (fun v61 hf => ?_)
        refine g_bipush hX dX3_minor_64 (6 : Int32) (by decide) ?_
        refine g_iload_n hX dX3_minor_66 (lg_at 1 rfl) ?_
        refine g_imul hX dX3_minor_67 ?_
        refine g_iload hX dX3_minor_68 (lg_at 5 rfl) ?_
        refine g_iadd hX dX3_minor_70 ?_
        refine g_lald hX hf dX3_minor_71 (fun v71 hf => ?_)
        refine g_lmul hX dX3_minor_72 ?_
        refine g_aload_n hX dX3_minor_73 (lg_at 0 rfl) ?_
        refine g_iload_n hX dX3_minor_74 (lg_at 1 rfl) ?_
        refine g_iconst hX dX3_minor_75 (1 : Int32) (by decide) ?_
        refine g_iadd hX dX3_minor_76 ?_
        refine g_iload_n hX dX3_minor_77 (lg_at 2 rfl) ?_
        refine g_iconst hX dX3_minor_78 (1 : Int32) (by decide) ?_
        refine g_iload hX dX3_minor_79 (lg_at 5 rfl) ?_
        refine g_ishl hX dX3_minor_81 ?_
        refine g_iconst hX dX3_minor_82 (-1 : Int32) (by decide) ?_
        refine g_ixor hX dX3_minor_83 ?_
        refine g_iand hX dX3_minor_84 ?_
        obtain ⟨k85, hk85, hf⟩ := ob_some hf
        obtain ⟨v85, hc85, hf⟩ := ob_some hf
        refine h_callV hM [vi (x1 + (1 : Int32)), vi (x2 &&& (((1 : Int32) <<< (x6 &&& 31)) ^^^ (-1 : Int32)))] dX3_minor_85 cs_SlimeNet_Slime_82_4 hk85 (hrec _ _ _ _ _ hc85) (roomOK_rec d) rfl rfl rfl ?_
        refine g_lmul hX dX3_minor_88 ?_
        refine g_ladd hX dX3_minor_89 ?_
        refine g_lstore_n hX dX3_minor_90 [(3, vl (x3 + (((Int32.toInt64 x5) * v71) * v85))), (0, vr (some this)), (1, vi x1), (2, vi x2), (5, vi x5), (6, vi x6)] (by decide) rfl ?_
        exact g_pick (w_f_X3_minor_91 hM hrec hf K) [1, 2, 3, 0, 4, 5] rfl
    · refine g_goto hX dX3_minor_36 96 (by decide) ?_
      exact g_pick (w_f_X3_minor_96 hM hrec hf K) [0, 1, 2, 3, 4, 5] rfl

set_option maxRecDepth 100000 in
theorem w_l_X3_minor_18 {X : Ctx} {d : Nat} (hM : MX X yX3_minor cX3_minor 7 "SlimeNet$Slime" (some Jvm.ClassFile.FieldType.long) (rm_X3_minor (d + 1)) []) {rec : Nat → Int32 → Int32 → AH → Option (Int64)} (hrec : ∀ k0 a0 a1 A0 o0, rec k0 a0 a1 A0 = some o0 → MetF (c_l X) yX3_minor (Cond.code yX3_minor cX3_minor 7 (some Jvm.ClassFile.FieldType.long)) (rm_X3_minor d) [vr (some k0), vi a0, vi a1] A0 (r_X3_minor A0 o0)) {this : Nat} {x1 : Int32} {x2 : Int32} {x3 : Int64} {x5 : Int32} {x6 : Int32} {A : AH} {out : Int64} (hf : l_X3_minor_18 rec this x1 x2 x3 x5 x6 A = some out) (hr : c_res X = r_X3_minor A out) : G X 0 0 18 [(0, vr (some this)), (1, vi x1), (2, vi x2), (3, vl x3), (5, vi x5), (6, vi x6)] [] A := by
  have hX := hM.1
  unfold l_X3_minor_18 at hf
  obtain ⟨e, hw, hf⟩ := ob_some hf
  refine (whl_ind (k_X3_minor_18 X this x1 x2 A) (fun st o hs K => w_s_X3_minor_18 hM hrec hs K) hw ?_ : k_X3_minor_18 X this x1 x2 A (.inl (x3, x5, x6)))
  revert hf hw; generalize e = x3; intro hw hf
  dsimp only at hf
  show G X 0 0 102 [(3, vl x3)] [] A
  refine g_lload_n hX dX3_minor_102 (lg_at 0 rfl) ?_
  cases hf
  exact h_lret hM dX3_minor_103 hr rfl rfl

set_option maxRecDepth 100000 in
theorem w_b_X3_minor {X : Ctx} {d : Nat} (hM : MX X yX3_minor cX3_minor 7 "SlimeNet$Slime" (some Jvm.ClassFile.FieldType.long) (rm_X3_minor (d + 1)) []) {rec : Nat → Int32 → Int32 → AH → Option (Int64)} (hrec : ∀ k0 a0 a1 A0 o0, rec k0 a0 a1 A0 = some o0 → MetF (c_l X) yX3_minor (Cond.code yX3_minor cX3_minor 7 (some Jvm.ClassFile.FieldType.long)) (rm_X3_minor d) [vr (some k0), vi a0, vi a1] A0 (r_X3_minor A0 o0)) {this : Nat} {x1 : Int32} {x2 : Int32} {A : AH} {out : Int64} (hf : b_X3_minor rec this x1 x2 A = some out) (hr : c_res X = r_X3_minor A out) : G X 0 0 0 [(0, vr (some this)), (1, vi x1), (2, vi x2)] [] A := by
  have hX := hM.1
  unfold b_X3_minor at hf
  refine g_iload_n hX dX3_minor_0 (lg_at 1 rfl) ?_
  refine g_aload_n hX dX3_minor_1 (lg_at 0 rfl) ?_
  refine g_getI hX hf fs_SlimeNet_Slime_79_4 rfl dX3_minor_2 (fun v2 hf => ?_)
  refine g_icmp_ne hX dX3_minor_5 10 hf (by decide) (fun c5 hf => ?_) (fun c5 hf => ?_)
  · refine g_lconst hX dX3_minor_10 (0 : Int64) (by decide) ?_
    refine g_lstore_n hX dX3_minor_11 [(3, vl (0 : Int64)), (0, vr (some this)), (1, vi x1), (2, vi x2)] (by decide) rfl ?_
    refine g_iconst hX dX3_minor_12 (1 : Int32) (by decide) ?_
    refine g_istore hX dX3_minor_13 [(5, vi (1 : Int32)), (3, vl (0 : Int64)), (0, vr (some this)), (1, vi x1), (2, vi x2)] (by decide) rfl ?_
    refine g_iconst hX dX3_minor_15 (0 : Int32) (by decide) ?_
    refine g_istore hX dX3_minor_16 [(6, vi (0 : Int32)), (5, vi (1 : Int32)), (3, vl (0 : Int64)), (0, vr (some this)), (1, vi x1), (2, vi x2)] (by decide) rfl ?_
    exact g_pick (w_l_X3_minor_18 hM hrec hf hr) [3, 4, 5, 2, 1, 0] rfl
  · refine g_lconst hX dX3_minor_8 (1 : Int64) (by decide) ?_
    cases hf
    exact h_lret hM dX3_minor_9 hr rfl rfl

theorem m_X3_minor {l : Launch} : ∀ (d : Nat) {this : Nat} {x1 : Int32} {x2 : Int32} {A : AH} {out : Int64}, f_X3_minor d this x1 x2 A = some out → MetF l yX3_minor (Cond.code yX3_minor cX3_minor 7 (some Jvm.ClassFile.FieldType.long)) (rm_X3_minor d) [vr (some this), vi x1, vi x2] A (r_X3_minor A out)
  | 0 => fun h => by cases h
  | d + 1 => fun h => metF_of rfl rfl (Nat.le_of_ble_eq_true rfl) fun X hX hl hR hnm hr h1 h2 hno => w_b_X3_minor (X := X) ⟨hX, hR, h1, h2, fun _ => ⟨hnm, hno⟩⟩ (fun _ _ _ _ _ q => by rw [hl]; exact m_X3_minor d q) h hr

/-! SlimeNet$Slime.swap(II)V -/
def rm_X3_swap : Room := { frames := 1, cells := 0, slots := 0, locals := 24 }
def r_X3_swap (_A : AH) (o : AH) : (Option AV × AH) ⊕ (Nat × AH) := .inl (none, o)
set_option maxRecDepth 100000 in
theorem w_f_X3_swap {X : Ctx} (hM : MX X yX3_swap cX3_swap 5 "SlimeNet$Slime" none rm_X3_swap []) {this : Nat} {x1 : Int32} {x2 : Int32} {A : AH} {out : AH} (hf : f_X3_swap this x1 x2 A = some out) (hr : c_res X = r_X3_swap A out) : G X 0 0 0 [(0, vr (some this)), (1, vi x1), (2, vi x2)] [] A := by
  have hX := hM.1
  unfold f_X3_swap at hf
  refine g_aload_n hX dX3_swap_0 (lg_at 0 rfl) ?_
  refine g_getR hX hf fs_SlimeNet_Slime_21_4 rfl dX3_swap_1 (fun v1 hf => ?_)
  refine g_bipush hX dX3_swap_4 (6 : Int32) (by decide) ?_
  refine g_iload_n hX dX3_swap_6 (lg_at 1 rfl) ?_
  refine g_imul hX dX3_swap_7 ?_
  refine g_iload_n hX dX3_swap_8 (lg_at 2 rfl) ?_
  refine g_iadd hX dX3_swap_9 ?_
  refine g_lald hX hf dX3_swap_10 (fun v10 hf => ?_)
  refine g_lstore_n hX dX3_swap_11 [(3, vl v10), (0, vr (some this)), (1, vi x1), (2, vi x2)] (by decide) rfl ?_
  refine g_aload_n hX dX3_swap_12 (lg_at 1 rfl) ?_
  refine g_getR hX hf fs_SlimeNet_Slime_21_4 rfl dX3_swap_13 (fun v13 hf => ?_)
  refine g_bipush hX dX3_swap_16 (6 : Int32) (by decide) ?_
  refine g_iload_n hX dX3_swap_18 (lg_at 2 rfl) ?_
  refine g_imul hX dX3_swap_19 ?_
  refine g_iload_n hX dX3_swap_20 (lg_at 3 rfl) ?_
  refine g_iadd hX dX3_swap_21 ?_
  refine g_aload_n hX dX3_swap_22 (lg_at 1 rfl) ?_
  refine g_getR hX hf fs_SlimeNet_Slime_25_4 rfl dX3_swap_23 (fun v23 hf => ?_)
  refine g_iload_n hX dX3_swap_26 (lg_at 2 rfl) ?_
  refine g_lald hX hf dX3_swap_27 (fun v27 hf => ?_)
  refine g_last hX hf dX3_swap_28 (fun A28 hf => ?_)
  refine g_aload_n hX dX3_swap_29 (lg_at 1 rfl) ?_
  refine g_getR hX hf fs_SlimeNet_Slime_25_4 rfl dX3_swap_30 (fun v30 hf => ?_)
  refine g_iload_n hX dX3_swap_33 (lg_at 2 rfl) ?_
  refine g_lload_n hX dX3_swap_34 (lg_at 0 rfl) ?_
  refine g_last hX hf dX3_swap_35 (fun A35 hf => ?_)
  cases hf
  exact h_vret hM dX3_swap_36 hr rfl rfl

theorem m_X3_swap {l : Launch} {this : Nat} {x1 : Int32} {x2 : Int32} {A : AH} {out : AH} (h : f_X3_swap this x1 x2 A = some out) : MetF l yX3_swap (Cond.code yX3_swap cX3_swap 5 none) rm_X3_swap [vr (some this), vi x1, vi x2] A (r_X3_swap A out) :=
  metF_of rfl rfl (Nat.le_of_ble_eq_true rfl) fun X hX hl hR hnm hr h1 h2 hno => w_f_X3_swap (X := X) ⟨hX, hR, h1, h2, fun _ => ⟨hnm, hno⟩⟩ h hr

/-! SlimeNet$Slime.inPlace(I)J -/
def rm_X3_inPlace : Room := { frames := 10, cells := 0, slots := 0, locals := 1026 }
def r_X3_inPlace (_A : AH) (o : Int64 × AH) : (Option AV × AH) ⊕ (Nat × AH) := .inl (some (vl o.1), o.2)
def k_X3_inPlace_2 (X : Ctx) (this : Nat) (x1 : Int32) : ((Int32 × AH) ⊕ (AH)) → Prop
  | .inl (x2, A) => G X 0 0 2 [(0, vr (some this)), (1, vi x1), (2, vi x2)] [] A
  | .inr A => G X 0 0 22 [(0, vr (some this)), (1, vi x1)] [] A

def k_X3_inPlace_39 (X : Ctx) (this : Nat) (x1 : Int32) (x2 : Int64) : ((Int32 × AH) ⊕ (AH)) → Prop
  | .inl (x4, A) => G X 0 0 39 [(0, vr (some this)), (1, vi x1), (2, vl x2), (4, vi x4)] [] A
  | .inr A => G X 0 0 61 [(2, vl x2)] [] A

set_option maxRecDepth 100000 in
theorem w_s_X3_inPlace_39 {X : Ctx} (hM : MX X yX3_inPlace cX3_inPlace 5 "SlimeNet$Slime" (some Jvm.ClassFile.FieldType.long) rm_X3_inPlace []) {this : Nat} {x1 : Int32} {x2 : Int64} {st : Int32 × AH} {out : (Int32 × AH) ⊕ (AH)} (hf : s_X3_inPlace_39 this x1 x2 st = some out) (K : k_X3_inPlace_39 X this x1 x2 out) : k_X3_inPlace_39 X this x1 x2 (.inl st) := by
  have hX := hM.1
  obtain ⟨x4, A⟩ := st
  unfold s_X3_inPlace_39 at hf
  dsimp only at hf
  show G X 0 0 39 [(0, vr (some this)), (1, vi x1), (2, vl x2), (4, vi x4)] [] A
  refine g_iload hX dX3_inPlace_39 (lg_at 3 rfl) ?_
  refine g_aload_n hX dX3_inPlace_41 (lg_at 0 rfl) ?_
  refine g_getI hX hf fs_SlimeNet_Slime_79_4 rfl dX3_inPlace_42 (fun v42 hf => ?_)
  refine g_icmp_ge hX dX3_inPlace_45 61 hf (by decide) (fun c45 hf => ?_) (fun c45 hf => ?_)
  · cases hf
    exact g_pick (show G X _ _ _ _ _ _ from K) [2] rfl
  · refine g_aload_n hX dX3_inPlace_48 (lg_at 0 rfl) ?_
    refine g_iload hX dX3_inPlace_49 (lg_at 3 rfl) ?_
    refine g_iload_n hX dX3_inPlace_51 (lg_at 1 rfl) ?_
    obtain ⟨k52, hk52, hf⟩ := ob_some hf
    obtain ⟨A52, hc52, hf⟩ := ob_some hf
    refine h_callV hM [vi x4, vi x1] dX3_inPlace_52 cs_SlimeNet_Slime_86_4 hk52 (m_X3_swap hc52) rfl rfl rfl rfl ?_
    refine g_iinc hX dX3_inPlace_55 (1 : Int32) (x4 + (1 : Int32)) [(4, vi (x4 + (1 : Int32))), (0, vr (some this)), (1, vi x1), (2, vl x2)] (by decide) rfl (lg_at 3 rfl) (by decide) rfl ?_
    refine g_goto hX dX3_inPlace_58 39 (by decide) ?_
    cases hf
    exact g_pick (show G X _ _ _ _ _ _ from K) [1, 2, 3, 0] rfl

set_option maxRecDepth 100000 in
theorem w_l_X3_inPlace_39 {X : Ctx} (hM : MX X yX3_inPlace cX3_inPlace 5 "SlimeNet$Slime" (some Jvm.ClassFile.FieldType.long) rm_X3_inPlace []) {this : Nat} {x1 : Int32} {x2 : Int64} {x4 : Int32} {A : AH} {out : Int64 × AH} (hf : l_X3_inPlace_39 this x1 x2 x4 A = some out) (hr : c_res X = r_X3_inPlace A out) : G X 0 0 39 [(0, vr (some this)), (1, vi x1), (2, vl x2), (4, vi x4)] [] A := by
  have hX := hM.1
  unfold l_X3_inPlace_39 at hf
  obtain ⟨e, hw, hf⟩ := ob_some hf
  refine (whl_ind (k_X3_inPlace_39 X this x1 x2) (fun st o hs K => w_s_X3_inPlace_39 hM hs K) hw ?_ : k_X3_inPlace_39 X this x1 x2 (.inl (x4, A)))
  revert hf hw; generalize e = A; intro hw hf
  dsimp only at hf
  show G X 0 0 61 [(2, vl x2)] [] A
  refine g_lload_n hX dX3_inPlace_61 (lg_at 0 rfl) ?_
  cases hf
  exact h_lret hM dX3_inPlace_62 hr rfl rfl

set_option maxRecDepth 100000 in
theorem w_s_X3_inPlace_2 {X : Ctx} (hM : MX X yX3_inPlace cX3_inPlace 5 "SlimeNet$Slime" (some Jvm.ClassFile.FieldType.long) rm_X3_inPlace []) {this : Nat} {x1 : Int32} {st : Int32 × AH} {out : (Int32 × AH) ⊕ (AH)} (hf : s_X3_inPlace_2 this x1 st = some out) (K : k_X3_inPlace_2 X this x1 out) : k_X3_inPlace_2 X this x1 (.inl st) := by
  have hX := hM.1
  obtain ⟨x2, A⟩ := st
  unfold s_X3_inPlace_2 at hf
  dsimp only at hf
  show G X 0 0 2 [(0, vr (some this)), (1, vi x1), (2, vi x2)] [] A
  refine g_iload_n hX dX3_inPlace_2 (lg_at 2 rfl) ?_
  refine g_aload_n hX dX3_inPlace_3 (lg_at 0 rfl) ?_
  refine g_getI hX hf fs_SlimeNet_Slime_79_4 rfl dX3_inPlace_4 (fun v4 hf => ?_)
  refine g_icmp_ge hX dX3_inPlace_7 22 hf (by decide) (fun c7 hf => ?_) (fun c7 hf => ?_)
  · cases hf
    exact g_pick (show G X _ _ _ _ _ _ from K) [0, 1] rfl
  · refine g_aload_n hX dX3_inPlace_10 (lg_at 0 rfl) ?_
    refine g_iload_n hX dX3_inPlace_11 (lg_at 2 rfl) ?_
    refine g_iload_n hX dX3_inPlace_12 (lg_at 1 rfl) ?_
    obtain ⟨k13, hk13, hf⟩ := ob_some hf
    obtain ⟨A13, hc13, hf⟩ := ob_some hf
    refine h_callV hM [vi x2, vi x1] dX3_inPlace_13 cs_SlimeNet_Slime_86_4 hk13 (m_X3_swap hc13) rfl rfl rfl rfl ?_
    refine g_iinc hX dX3_inPlace_16 (1 : Int32) (x2 + (1 : Int32)) [(2, vi (x2 + (1 : Int32))), (0, vr (some this)), (1, vi x1)] (by decide) rfl (lg_at 2 rfl) (by decide) rfl ?_
    refine g_goto hX dX3_inPlace_19 2 (by decide) ?_
    cases hf
    exact g_pick (show G X _ _ _ _ _ _ from K) [1, 2, 0] rfl

set_option maxRecDepth 100000 in
theorem w_l_X3_inPlace_2 {X : Ctx} (hM : MX X yX3_inPlace cX3_inPlace 5 "SlimeNet$Slime" (some Jvm.ClassFile.FieldType.long) rm_X3_inPlace []) {this : Nat} {x1 : Int32} {x2 : Int32} {A : AH} {out : Int64 × AH} (hf : l_X3_inPlace_2 this x1 x2 A = some out) (hr : c_res X = r_X3_inPlace A out) : G X 0 0 2 [(0, vr (some this)), (1, vi x1), (2, vi x2)] [] A := by
  have hX := hM.1
  unfold l_X3_inPlace_2 at hf
  obtain ⟨e, hw, hf⟩ := ob_some hf
  refine (whl_ind (k_X3_inPlace_2 X this x1) (fun st o hs K => w_s_X3_inPlace_2 hM hs K) hw ?_ : k_X3_inPlace_2 X this x1 (.inl (x2, A)))
  revert hf hw; generalize e = A; intro hw hf
  dsimp only at hf
  show G X 0 0 22 [(0, vr (some this)), (1, vi x1)] [] A
  refine g_aload_n hX dX3_inPlace_22 (lg_at 0 rfl) ?_
  refine g_iconst hX dX3_inPlace_23 (0 : Int32) (by decide) ?_
  refine g_iconst hX dX3_inPlace_24 (1 : Int32) (by decide) ?_
  refine g_aload_n hX dX3_inPlace_25 (lg_at 0 rfl) ?_
  refine g_getI hX hf fs_SlimeNet_Slime_79_4 rfl dX3_inPlace_26 (fun v26 hf => ?_)
  refine g_ishl hX dX3_inPlace_29 ?_
  refine g_iconst hX dX3_inPlace_30 (1 : Int32) (by decide) ?_
  refine g_isub hX dX3_inPlace_31 ?_
  obtain ⟨k32, hk32, hf⟩ := ob_some hf
  obtain ⟨v32, hc32, hf⟩ := ob_some hf
  refine h_callV hM [vi (0 : Int32), vi (((1 : Int32) <<< (v26 &&& 31)) - (1 : Int32))] dX3_inPlace_32 cs_SlimeNet_Slime_82_4 hk32 (m_X3_minor 8 hc32) rfl rfl rfl rfl ?_
  refine g_lstore_n hX dX3_inPlace_35 [(2, vl v32), (0, vr (some this)), (1, vi x1)] (by decide) rfl ?_
  refine g_iconst hX dX3_inPlace_36 (0 : Int32) (by decide) ?_
  refine g_istore hX dX3_inPlace_37 [(4, vi (0 : Int32)), (2, vl v32), (0, vr (some this)), (1, vi x1)] (by decide) rfl ?_
  exact g_pick (w_l_X3_inPlace_39 hM hf hr) [2, 3, 1, 0] rfl

set_option maxRecDepth 100000 in
theorem w_f_X3_inPlace {X : Ctx} (hM : MX X yX3_inPlace cX3_inPlace 5 "SlimeNet$Slime" (some Jvm.ClassFile.FieldType.long) rm_X3_inPlace []) {this : Nat} {x1 : Int32} {A : AH} {out : Int64 × AH} (hf : f_X3_inPlace this x1 A = some out) (hr : c_res X = r_X3_inPlace A out) : G X 0 0 0 [(0, vr (some this)), (1, vi x1)] [] A := by
  have hX := hM.1
  unfold f_X3_inPlace at hf
  refine g_iconst hX dX3_inPlace_0 (0 : Int32) (by decide) ?_
  refine g_istore_n hX dX3_inPlace_1 [(2, vi (0 : Int32)), (0, vr (some this)), (1, vi x1)] (by decide) rfl ?_
  exact g_pick (w_l_X3_inPlace_2 hM hf hr) [1, 2, 0] rfl

theorem m_X3_inPlace {l : Launch} {this : Nat} {x1 : Int32} {A : AH} {out : Int64 × AH} (h : f_X3_inPlace this x1 A = some out) : MetF l yX3_inPlace (Cond.code yX3_inPlace cX3_inPlace 5 (some Jvm.ClassFile.FieldType.long)) rm_X3_inPlace [vr (some this), vi x1] A (r_X3_inPlace A out) :=
  metF_of rfl rfl (Nat.le_of_ble_eq_true rfl) fun X hX hl hR hnm hr h1 h2 hno => w_f_X3_inPlace (X := X) ⟨hX, hR, h1, h2, fun _ => ⟨hnm, hno⟩⟩ h hr

