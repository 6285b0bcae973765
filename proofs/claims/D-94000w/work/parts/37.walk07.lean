/-! SlimeNetModel.besideOf(I)I -/
def rm_X4_besideOf : Room := { frames := 4, cells := 0, slots := 0, locals := 95 }
def r_X4_besideOf (A : AH) (o : Int32) : (Option AV × AH) ⊕ (Nat × AH) := .inl (some (vi o), A)
def k_X4_besideOf_18 (X : Ctx) (this : Nat) (x2 : Int32) (x3 : Int32) (A : AH) : ((Int32 × Int32) ⊕ (Int32)) → Prop
  | .inl (x4, x5) => G X 0 0 18 [(0, vr (some this)), (2, vi x2), (3, vi x3), (4, vi x4), (5, vi x5)] [] A
  | .inr x4 => G X 0 0 74 [(4, vi x4)] [] A

set_option maxRecDepth 100000 in
theorem w_f_X4_besideOf_65 {X : Ctx} (hM : MX X yX4_besideOf cX4_besideOf 6 "SlimeNetModel" (some Jvm.ClassFile.FieldType.int) rm_X4_besideOf []) {this : Nat} {x2 : Int32} {x3 : Int32} {x5 : Int32} {t0 : Int32} {t1 : Int32} {A : AH} {out : (Int32 × Int32) ⊕ (Int32)} (hf : f_X4_besideOf_65 this x2 x3 x5 t0 t1 A = some out) (K : k_X4_besideOf_18 X this x2 x3 A out) : G X 0 0 65 [(0, vr (some this)), (2, vi x2), (3, vi x3), (5, vi x5)] [vi t0, vi t1] A := by
  have hX := hM.1
  unfold f_X4_besideOf_65 at hf
  refine g_iadd hX dX4_besideOf_65 ?_
  refine g_istore hX dX4_besideOf_66 [(4, vi (t1 + t0)), (0, vr (some this)), (2, vi x2), (3, vi x3), (5, vi x5)] (by decide) rfl ?_
  refine g_iinc hX dX4_besideOf_68 (1 : Int32) (x5 + (1 : Int32)) [(5, vi (x5 + (1 : Int32))), (4, vi (t1 + t0)), (0, vr (some this)), (2, vi x2), (3, vi x3)] (by decide) rfl (lg_at 4 rfl) (by decide) rfl ?_
  refine g_goto hX dX4_besideOf_71 18 (by decide) ?_
  cases hf
  exact g_pick (show G X _ _ _ _ _ _ from K) [2, 3, 4, 1, 0] rfl

set_option maxRecDepth 100000 in
theorem w_f_X4_besideOf_64 {X : Ctx} (hM : MX X yX4_besideOf cX4_besideOf 6 "SlimeNetModel" (some Jvm.ClassFile.FieldType.int) rm_X4_besideOf []) {this : Nat} {x2 : Int32} {x3 : Int32} {x5 : Int32} {t0 : Int32} {A : AH} {out : (Int32 × Int32) ⊕ (Int32)} (hf : f_X4_besideOf_64 this x2 x3 x5 t0 A = some out) (K : k_X4_besideOf_18 X this x2 x3 A out) : G X 0 0 64 [(0, vr (some this)), (2, vi x2), (3, vi x3), (5, vi x5)] [vi t0] A := by
  have hX := hM.1
  unfold f_X4_besideOf_64 at hf
  refine g_iconst hX dX4_besideOf_64 (0 : Int32) (by decide) ?_
  exact g_pick (w_f_X4_besideOf_65 hM hf K) [0, 1, 2, 3] rfl

set_option maxRecDepth 100000 in
theorem w_s_X4_besideOf_18 {X : Ctx} (hM : MX X yX4_besideOf cX4_besideOf 6 "SlimeNetModel" (some Jvm.ClassFile.FieldType.int) rm_X4_besideOf []) {this : Nat} {x2 : Int32} {x3 : Int32} {A : AH} {st : Int32 × Int32} {out : (Int32 × Int32) ⊕ (Int32)} (hf : s_X4_besideOf_18 this x2 x3 A st = some out) (K : k_X4_besideOf_18 X this x2 x3 A out) : k_X4_besideOf_18 X this x2 x3 A (.inl st) := by
  have hX := hM.1
  obtain ⟨x4, x5⟩ := st
  unfold s_X4_besideOf_18 at hf
  dsimp only at hf
  show G X 0 0 18 [(0, vr (some this)), (2, vi x2), (3, vi x3), (4, vi x4), (5, vi x5)] [] A
  refine g_iload hX dX4_besideOf_18 (lg_at 4 rfl) ?_
  refine g_iconst hX dX4_besideOf_20 (1 : Int32) (by decide) ?_
  refine g_aload_n hX dX4_besideOf_21 (lg_at 0 rfl) ?_
  refine g_getI hX hf fs_SlimeNetModel_297_5 rfl dX4_besideOf_22 (fun v22 hf => ?_)
  refine g_ishl hX dX4_besideOf_25 ?_
  refine g_icmp_ge hX dX4_besideOf_26 74 hf (by decide) (fun c26 hf => ?_) (fun c26 hf => ?_)
  · cases hf
    exact g_pick (show G X _ _ _ _ _ _ from K) [3] rfl
  · refine g_iload hX dX4_besideOf_29 (lg_at 3 rfl) ?_
    refine g_aload_n hX dX4_besideOf_31 (lg_at 0 rfl) ?_
    refine g_iload hX dX4_besideOf_32 (lg_at 4 rfl) ?_
    obtain ⟨k34, hk34, hf⟩ := ob_some hf
    obtain ⟨v34, hc34, hf⟩ := ob_some hf
    refine h_callV hM [vi x5] dX4_besideOf_34 cs_SlimeNetModel_411_5 hk34 (m_X4_joins hc34) rfl rfl rfl rfl ?_
    refine g_if_eq hX dX4_besideOf_37 64 hf (by decide) (fun c37 hf => ?_) (fun c37 hf => ?_)
    · exact g_pick (w_f_X4_besideOf_64 hM hf K) [0, 1, 2, 4] rfl
    · refine g_aload_n hX dX4_besideOf_40 (lg_at 0 rfl) ?_
      refine g_iload hX dX4_besideOf_41 (lg_at 4 rfl) ?_
      obtain ⟨k43, hk43, hf⟩ := ob_some hf
      obtain ⟨v43, hc43, hf⟩ := ob_some hf
      refine h_callV hM [vi x5] dX4_besideOf_43 cs_SlimeNetModel_419_5 hk43 (m_X4_lengthOf hc43) rfl rfl rfl rfl ?_
      refine g_iload_n hX dX4_besideOf_46 (lg_at 1 rfl) ?_
      refine g_icmp_gt hX dX4_besideOf_47 64 hf (by decide) (fun c47 hf => ?_) (fun c47 hf => ?_)
      · exact g_pick (w_f_X4_besideOf_64 hM hf K) [0, 1, 2, 4] rfl
      · refine g_aload_n hX dX4_besideOf_50 (lg_at 0 rfl) ?_
        refine g_iload hX dX4_besideOf_51 (lg_at 4 rfl) ?_
        obtain ⟨k53, hk53, hf⟩ := ob_some hf
        obtain ⟨v53, hc53, hf⟩ := ob_some hf
        refine h_callV hM [vi x5] dX4_besideOf_53 cs_SlimeNetModel_422_5 hk53 (m_X4_sureOf hc53) rfl rfl rfl rfl ?_
        refine g_iload_n hX dX4_besideOf_56 (lg_at 2 rfl) ?_
        refine g_icmp_le hX dX4_besideOf_57 64 hf (by decide) (fun c57 hf => ?_) (fun c57 hf => ?_)
        · exact g_pick (w_f_X4_besideOf_64 hM hf K) [0, 1, 2, 4] rfl
        · refine g_iconst hX dX4_besideOf_60 (1 : Int32) (by decide) ?_
          refine g_goto hX dX4_besideOf_61 65 (by decide) ?_
          exact g_pick (w_f_X4_besideOf_65 hM hf K) [0, 1, 2, 4] rfl

set_option maxRecDepth 100000 in
theorem w_l_X4_besideOf_18 {X : Ctx} (hM : MX X yX4_besideOf cX4_besideOf 6 "SlimeNetModel" (some Jvm.ClassFile.FieldType.int) rm_X4_besideOf []) {this : Nat} {x2 : Int32} {x3 : Int32} {x4 : Int32} {x5 : Int32} {A : AH} {out : Int32} (hf : l_X4_besideOf_18 this x2 x3 x4 x5 A = some out) (hr : c_res X = r_X4_besideOf A out) : G X 0 0 18 [(0, vr (some this)), (2, vi x2), (3, vi x3), (4, vi x4), (5, vi x5)] [] A := by
  have hX := hM.1
  unfold l_X4_besideOf_18 at hf
  obtain ⟨e, hw, hf⟩ := ob_some hf
  refine (whl_ind (k_X4_besideOf_18 X this x2 x3 A) (fun st o hs K => w_s_X4_besideOf_18 hM hs K) hw ?_ : k_X4_besideOf_18 X this x2 x3 A (.inl (x4, x5)))
  revert hf hw; generalize e = x4; intro hw hf
  dsimp only at hf
  show G X 0 0 74 [(4, vi x4)] [] A
  refine g_iload hX dX4_besideOf_74 (lg_at 0 rfl) ?_
  cases hf
  exact h_iret hM dX4_besideOf_76 hr rfl rfl

set_option maxRecDepth 100000 in
theorem w_f_X4_besideOf {X : Ctx} (hM : MX X yX4_besideOf cX4_besideOf 6 "SlimeNetModel" (some Jvm.ClassFile.FieldType.int) rm_X4_besideOf []) {this : Nat} {x1 : Int32} {A : AH} {out : Int32} (hf : f_X4_besideOf this x1 A = some out) (hr : c_res X = r_X4_besideOf A out) : G X 0 0 0 [(0, vr (some this)), (1, vi x1)] [] A := by
  have hX := hM.1
  unfold f_X4_besideOf at hf
  refine g_aload_n hX dX4_besideOf_0 (lg_at 0 rfl) ?_
  refine g_iload_n hX dX4_besideOf_1 (lg_at 1 rfl) ?_
  obtain ⟨k2, hk2, hf⟩ := ob_some hf
  obtain ⟨v2, hc2, hf⟩ := ob_some hf
  refine h_callV hM [vi x1] dX4_besideOf_2 cs_SlimeNetModel_419_5 hk2 (m_X4_lengthOf hc2) rfl rfl rfl rfl ?_
  refine g_istore_n hX dX4_besideOf_5 [(2, vi v2), (0, vr (some this)), (1, vi x1)] (by decide) rfl ?_
  refine g_aload_n hX dX4_besideOf_6 (lg_at 1 rfl) ?_
  refine g_iload_n hX dX4_besideOf_7 (lg_at 2 rfl) ?_
  obtain ⟨k8, hk8, hf⟩ := ob_some hf
  obtain ⟨v8, hc8, hf⟩ := ob_some hf
  refine h_callV hM [vi x1] dX4_besideOf_8 cs_SlimeNetModel_422_5 hk8 (m_X4_sureOf hc8) rfl rfl rfl rfl ?_
  refine g_istore_n hX dX4_besideOf_11 [(3, vi v8), (2, vi v2), (0, vr (some this)), (1, vi x1)] (by decide) rfl ?_
  refine g_iconst hX dX4_besideOf_12 (0 : Int32) (by decide) ?_
  refine g_istore hX dX4_besideOf_13 [(4, vi (0 : Int32)), (3, vi v8), (2, vi v2), (0, vr (some this)), (1, vi x1)] (by decide) rfl ?_
  refine g_iconst hX dX4_besideOf_15 (0 : Int32) (by decide) ?_
  refine g_istore hX dX4_besideOf_16 [(5, vi (0 : Int32)), (4, vi (0 : Int32)), (3, vi v8), (2, vi v2), (0, vr (some this)), (1, vi x1)] (by decide) rfl ?_
  exact g_pick (w_l_X4_besideOf_18 hM hf hr) [4, 3, 2, 1, 0] rfl

theorem m_X4_besideOf {l : Launch} {this : Nat} {x1 : Int32} {A : AH} {out : Int32} (h : f_X4_besideOf this x1 A = some out) : MetF l yX4_besideOf (Cond.code yX4_besideOf cX4_besideOf 6 (some Jvm.ClassFile.FieldType.int)) rm_X4_besideOf [vr (some this), vi x1] A (r_X4_besideOf A out) :=
  metF_of rfl rfl (Nat.le_of_ble_eq_true rfl) fun X hX hl hR hnm hr h1 h2 hno => w_f_X4_besideOf (X := X) ⟨hX, hR, h1, h2, fun _ => ⟨hnm, hno⟩⟩ h hr

/-! SlimeNetModel.net(II)I -/
def rm_X4_net : Room := { frames := 5, cells := 0, slots := 0, locals := 120 }
def r_X4_net (_A : AH) (o : Int32 × AH) : (Option AV × AH) ⊕ (Nat × AH) := .inl (some (vi o.1), o.2)
set_option maxRecDepth 100000 in
theorem w_f_X4_net_67 {X : Ctx} (hM : MX X yX4_net cX4_net 3 "SlimeNetModel" (some Jvm.ClassFile.FieldType.int) rm_X4_net []) {t0 : Int32} {A : AH} {out : Int32 × AH} (hf : f_X4_net_67 t0 A = some out) (hr : c_res X = r_X4_net A out) : G X 0 0 67 [] [vi t0] A := by
  have hX := hM.1
  unfold f_X4_net_67 at hf
  cases hf
  exact h_iret hM dX4_net_67 hr rfl rfl

set_option maxRecDepth 100000 in
theorem w_f_X4_net {X : Ctx} (hM : MX X yX4_net cX4_net 3 "SlimeNetModel" (some Jvm.ClassFile.FieldType.int) rm_X4_net []) {this : Nat} {x1 : Int32} {x2 : Int32} {A : AH} {out : Int32 × AH} (hf : f_X4_net this x1 x2 A = some out) (hr : c_res X = r_X4_net A out) : G X 0 0 0 [(0, vr (some this)), (1, vi x1), (2, vi x2)] [] A := by
  have hX := hM.1
  unfold f_X4_net at hf
  refine g_aload_n hX dX4_net_0 (lg_at 0 rfl) ?_
  refine g_iload_n hX dX4_net_1 (lg_at 1 rfl) ?_
  obtain ⟨k2, hk2, hf⟩ := ob_some hf
  obtain ⟨v2, hc2, hf⟩ := ob_some hf
  refine h_callV hM [vi x1] dX4_net_2 cs_SlimeNetModel_425_5 hk2 (m_X4_isNet hc2) rfl rfl rfl rfl ?_
  refine g_if_ne hX dX4_net_5 11 hf (by decide) (fun c5 hf => ?_) (fun c5 hf => ?_)
  · refine g_iload_n hX dX4_net_11 (lg_at 2 rfl) ?_
    by_cases hd : Int32.toInt x2 < 0 ∨ 4 < Int32.toInt x2
    · rw [if_pos hd] at hf
      refine g_tblO hX dX4_net_12 86 hd (by decide) ?_
      refine g_bipush hX dX4_net_86 (-2 : Int32) (by decide) ?_
      cases hf
      exact h_iret hM dX4_net_88 hr rfl rfl
    rw [if_neg hd] at hf
    by_cases hc0 : x2 = (0 : Int32)
    · rw [if_pos hc0] at hf
      refine g_tblI hX dX4_net_12 (0 : Int32) 0 (36) 48 (by decide) (by decide) rfl (by decide) hc0 ?_
      refine g_aload_n hX dX4_net_48 (lg_at 0 rfl) ?_
      refine g_iload_n hX dX4_net_49 (lg_at 1 rfl) ?_
      obtain ⟨k50, hk50, hf⟩ := ob_some hf
      obtain ⟨v50, hc50, hf⟩ := ob_some hf
      refine h_callV hM [vi x1] dX4_net_50 cs_SlimeNetModel_419_5 hk50 (m_X4_lengthOf hc50) rfl rfl rfl rfl ?_
      cases hf
      exact h_iret hM dX4_net_53 hr rfl rfl
    rw [if_neg hc0] at hf
    by_cases hc1 : x2 = (1 : Int32)
    · rw [if_pos hc1] at hf
      refine g_tblI hX dX4_net_12 (1 : Int32) 1 (42) 54 (by decide) (by decide) rfl (by decide) hc1 ?_
      refine g_aload_n hX dX4_net_54 (lg_at 0 rfl) ?_
      refine g_iload_n hX dX4_net_55 (lg_at 1 rfl) ?_
      obtain ⟨k56, hk56, hf⟩ := ob_some hf
      obtain ⟨v56, hc56, hf⟩ := ob_some hf
      refine h_callV hM [vi x1] dX4_net_56 cs_SlimeNetModel_411_5 hk56 (m_X4_joins hc56) rfl rfl rfl rfl ?_
      refine g_if_eq hX dX4_net_59 66 hf (by decide) (fun c59 hf => ?_) (fun c59 hf => ?_)
      · refine g_iconst hX dX4_net_66 (0 : Int32) (by decide) ?_
        exact g_pick (w_f_X4_net_67 hM hf hr) [] rfl
      · refine g_iconst hX dX4_net_62 (1 : Int32) (by decide) ?_
        refine g_goto hX dX4_net_63 67 (by decide) ?_
        exact g_pick (w_f_X4_net_67 hM hf hr) [] rfl
    rw [if_neg hc1] at hf
    by_cases hc2 : x2 = (2 : Int32)
    · rw [if_pos hc2] at hf
      refine g_tblI hX dX4_net_12 (2 : Int32) 2 (56) 68 (by decide) (by decide) rfl (by decide) hc2 ?_
      refine g_aload_n hX dX4_net_68 (lg_at 0 rfl) ?_
      refine g_iload_n hX dX4_net_69 (lg_at 1 rfl) ?_
      obtain ⟨k70, hk70, hf⟩ := ob_some hf
      obtain ⟨v70, hc70, hf⟩ := ob_some hf
      refine h_callV hM [vi x1] dX4_net_70 cs_SlimeNetModel_422_5 hk70 (m_X4_sureOf hc70) rfl rfl rfl rfl ?_
      cases hf
      exact h_iret hM dX4_net_73 hr rfl rfl
    rw [if_neg hc2] at hf
    by_cases hc3 : x2 = (3 : Int32)
    · rw [if_pos hc3] at hf
      refine g_tblI hX dX4_net_12 (3 : Int32) 3 (62) 74 (by decide) (by decide) rfl (by decide) hc3 ?_
      refine g_aload_n hX dX4_net_74 (lg_at 0 rfl) ?_
      refine g_iload_n hX dX4_net_75 (lg_at 1 rfl) ?_
      obtain ⟨k76, hk76, hf⟩ := ob_some hf
      obtain ⟨⟨v76, A76⟩, hc76, hf⟩ := ob_some hf
      refine h_callV hM [vi x1] dX4_net_76 cs_SlimeNetModel_428_5 hk76 (m_X4_waysOf hc76) rfl rfl rfl rfl ?_
      dsimp only at hf
      cases hf
      exact h_iret hM dX4_net_79 hr rfl rfl
    rw [if_neg hc3] at hf
    by_cases hc4 : x2 = (4 : Int32)
    · rw [if_pos hc4] at hf
      refine g_tblI hX dX4_net_12 (4 : Int32) 4 (68) 80 (by decide) (by decide) rfl (by decide) hc4 ?_
      refine g_aload_n hX dX4_net_80 (lg_at 0 rfl) ?_
      refine g_iload_n hX dX4_net_81 (lg_at 1 rfl) ?_
      obtain ⟨k82, hk82, hf⟩ := ob_some hf
      obtain ⟨v82, hc82, hf⟩ := ob_some hf
      refine h_callV hM [vi x1] dX4_net_82 cs_SlimeNetModel_431_5 hk82 (m_X4_besideOf hc82) rfl rfl rfl rfl ?_
      cases hf
      exact h_iret hM dX4_net_85 hr rfl rfl
    rw [if_neg hc4] at hf
    cases hf
  · refine g_bipush hX dX4_net_8 (-2 : Int32) (by decide) ?_
    cases hf
    exact h_iret hM dX4_net_10 hr rfl rfl

theorem m_X4_net {l : Launch} {this : Nat} {x1 : Int32} {x2 : Int32} {A : AH} {out : Int32 × AH} (h : f_X4_net this x1 x2 A = some out) : MetF l yX4_net (Cond.code yX4_net cX4_net 3 (some Jvm.ClassFile.FieldType.int)) rm_X4_net [vr (some this), vi x1, vi x2] A (r_X4_net A out) :=
  metF_of rfl rfl (Nat.le_of_ble_eq_true rfl) fun X hX hl hR hnm hr h1 h2 hno => w_f_X4_net (X := X) ⟨hX, hR, h1, h2, fun _ => ⟨hnm, hno⟩⟩ h hr

/-! SlimeNet.shortest()I -/
def rm_X0_shortest : Room := { frames := 8, cells := 0, slots := 0, locals := 181 }
def r_X0_shortest (_A : AH) (o : Int32 × AH) : (Option AV × AH) ⊕ (Nat × AH) := .inl (some (vi o.1), o.2)
def k_X0_shortest_8 (X : Ctx) (this : Nat) (A : AH) : ((Int32 × Int32) ⊕ (Int32)) → Prop
  | .inl (x1, x2) => G X 0 0 8 [(0, vr (some this)), (1, vi x1), (2, vi x2)] [] A
  | .inr x1 => G X 0 0 87 [(1, vi x1)] [] A

set_option maxRecDepth 100000 in
theorem w_f_X0_shortest_81 {X : Ctx} (hM : MX X yX0_shortest cX0_shortest 3 "SlimeNet" (some Jvm.ClassFile.FieldType.int) rm_X0_shortest []) {this : Nat} {x1 : Int32} {x2 : Int32} {A : AH} {out : (Int32 × Int32) ⊕ (Int32)} (hf : f_X0_shortest_81 this x1 x2 A = some out) (K : k_X0_shortest_8 X this A out) : G X 0 0 81 [(0, vr (some this)), (1, vi x1), (2, vi x2)] [] A := by
  have hX := hM.1
  unfold f_X0_shortest_81 at hf
  refine g_iinc hX dX0_shortest_81 (1 : Int32) (x2 + (1 : Int32)) [(2, vi (x2 + (1 : Int32))), (0, vr (some this)), (1, vi x1)] (by decide) rfl (lg_at 2 rfl) (by decide) rfl ?_
  refine g_goto hX dX0_shortest_84 8 (by decide) ?_
  cases hf
  exact g_pick (show G X _ _ _ _ _ _ from K) [1, 2, 0] rfl

set_option maxRecDepth 100000 in
theorem w_f_X0_shortest_79 {X : Ctx} (hM : MX X yX0_shortest cX0_shortest 3 "SlimeNet" (some Jvm.ClassFile.FieldType.int) rm_X0_shortest []) {this : Nat} {x2 : Int32} {A : AH} {out : (Int32 × Int32) ⊕ (Int32)} (hf : f_X0_shortest_79 this x2 A = some out) (K : k_X0_shortest_8 X this A out) : G X 0 0 79 [(0, vr (some this)), (2, vi x2)] [] A := by
  have hX := hM.1
  unfold f_X0_shortest_79 at hf
  refine g_iload_n hX dX0_shortest_79 (lg_at 1 rfl) ?_
  refine g_istore_n hX dX0_shortest_80 [(1, vi x2), (0, vr (some this)), (2, vi x2)] (by decide) rfl ?_
  exact g_pick (w_f_X0_shortest_81 hM hf K) [1, 0, 2] rfl

set_option maxRecDepth 100000 in
theorem w_s_X0_shortest_8 {X : Ctx} (hM : MX X yX0_shortest cX0_shortest 3 "SlimeNet" (some Jvm.ClassFile.FieldType.int) rm_X0_shortest []) {this : Nat} {A : AH} {st : Int32 × Int32} {out : (Int32 × Int32) ⊕ (Int32)} (hf : s_X0_shortest_8 this A st = some out) (K : k_X0_shortest_8 X this A out) : k_X0_shortest_8 X this A (.inl st) := by
  have hX := hM.1
  obtain ⟨x1, x2⟩ := st
  unfold s_X0_shortest_8 at hf
  dsimp only at hf
  show G X 0 0 8 [(0, vr (some this)), (1, vi x1), (2, vi x2)] [] A
  refine g_iload_n hX dX0_shortest_8 (lg_at 2 rfl) ?_
  refine g_aload_n hX dX0_shortest_9 (lg_at 0 rfl) ?_
  refine g_getI hX hf fs_SlimeNet_276_1 rfl dX0_shortest_10 (fun v10 hf => ?_)
  refine g_icmp_ge hX dX0_shortest_13 87 hf (by decide) (fun c13 hf => ?_) (fun c13 hf => ?_)
  · cases hf
    exact g_pick (show G X _ _ _ _ _ _ from K) [1] rfl
  · refine g_aload_n hX dX0_shortest_16 (lg_at 0 rfl) ?_
    refine g_getR hX hf fs_SlimeNet_56_1 rfl dX0_shortest_17 (fun v17 hf => ?_)
    refine g_iload_n hX dX0_shortest_20 (lg_at 2 rfl) ?_
    refine g_iald hX hf dX0_shortest_21 (fun v21 hf => ?_)
    refine g_iconst hX dX0_shortest_22 (-1 : Int32) (by decide) ?_
    refine g_icmp_eq hX dX0_shortest_23 81 hf (by decide) (fun c23 hf => ?_) (fun c23 hf => ?_)
    · exact g_pick (w_f_X0_shortest_81 hM hf K) [0, 1, 2] rfl
    · refine g_iload_n hX dX0_shortest_26 (lg_at 1 rfl) ?_
      refine g_iconst hX dX0_shortest_27 (-1 : Int32) (by decide) ?_
      refine g_icmp_eq hX dX0_shortest_28 79 hf (by decide) (fun c28 hf => ?_) (fun c28 hf => ?_)
      · exact g_pick (w_f_X0_shortest_79 hM hf K) [0, 2] rfl
      · refine g_aload_n hX dX0_shortest_31 (lg_at 0 rfl) ?_
        refine g_getR hX hf fs_SlimeNet_56_1 rfl dX0_shortest_32 (fun v32 hf => ?_)
        refine g_iload_n hX dX0_shortest_35 (lg_at 2 rfl) ?_
        refine g_iald hX hf dX0_shortest_36 (fun v36 hf => ?_)
        refine g_aload_n hX dX0_shortest_37 (lg_at 0 rfl) ?_
        refine g_getR hX hf fs_SlimeNet_56_1 rfl dX0_shortest_38 (fun v38 hf => ?_)
        refine g_iload_n hX dX0_shortest_41 (lg_at 1 rfl) ?_
        refine g_iald hX hf dX0_shortest_42 (fun v42 hf => ?_)
        refine g_icmp_gt hX dX0_shortest_43 81 hf (by decide) (fun c43 hf => ?_) (fun c43 hf => ?_)
        · exact g_pick (w_f_X0_shortest_81 hM hf K) [0, 1, 2] rfl
        · refine g_aload_n hX dX0_shortest_46 (lg_at 0 rfl) ?_
          refine g_getR hX hf fs_SlimeNet_56_1 rfl dX0_shortest_47 (fun v47 hf => ?_)
          refine g_iload_n hX dX0_shortest_50 (lg_at 2 rfl) ?_
          refine g_iald hX hf dX0_shortest_51 (fun v51 hf => ?_)
          refine g_aload_n hX dX0_shortest_52 (lg_at 0 rfl) ?_
          refine g_getR hX hf fs_SlimeNet_56_1 rfl dX0_shortest_53 (fun v53 hf => ?_)
          refine g_iload_n hX dX0_shortest_56 (lg_at 1 rfl) ?_
          refine g_iald hX hf dX0_shortest_57 (fun v57 hf => ?_)
          refine g_icmp_ne hX dX0_shortest_58 79 hf (by decide) (fun c58 hf => ?_) (fun c58 hf => ?_)
          · exact g_pick (w_f_X0_shortest_79 hM hf K) [0, 2] rfl
          · refine g_aload_n hX dX0_shortest_61 (lg_at 0 rfl) ?_
            refine g_getR hX hf fs_SlimeNet_59_1 rfl dX0_shortest_62 (fun v62 hf => ?_)
            refine g_iload_n hX dX0_shortest_65 (lg_at 2 rfl) ?_
            refine g_iald hX hf dX0_shortest_66 (fun v66 hf => ?_)
            refine g_aload_n hX dX0_shortest_67 (lg_at 0 rfl) ?_
            refine g_getR hX hf fs_SlimeNet_59_1 rfl dX0_shortest_68 (fun v68 hf => ?_)
            refine g_iload_n hX dX0_shortest_71 (lg_at 1 rfl) ?_
            refine g_iald hX hf dX0_shortest_72 (fun v72 hf => ?_)
            refine g_icmp_gt hX dX0_shortest_73 79 hf (by decide) (fun c73 hf => ?_) (fun c73 hf => ?_)
            · exact g_pick (w_f_X0_shortest_79 hM hf K) [0, 2] rfl
            · refine g_goto hX dX0_shortest_76 81 (by decide) ?_
              exact g_pick (w_f_X0_shortest_81 hM hf K) [0, 1, 2] rfl

set_option maxRecDepth 100000 in
theorem w_l_X0_shortest_8 {X : Ctx} (hM : MX X yX0_shortest cX0_shortest 3 "SlimeNet" (some Jvm.ClassFile.FieldType.int) rm_X0_shortest []) {this : Nat} {x1 : Int32} {x2 : Int32} {A : AH} {out : Int32 × AH} (hf : l_X0_shortest_8 this x1 x2 A = some out) (hr : c_res X = r_X0_shortest A out) : G X 0 0 8 [(0, vr (some this)), (1, vi x1), (2, vi x2)] [] A := by
  have hX := hM.1
  unfold l_X0_shortest_8 at hf
  obtain ⟨e, hw, hf⟩ := ob_some hf
  refine (whl_ind (k_X0_shortest_8 X this A) (fun st o hs K => w_s_X0_shortest_8 hM hs K) hw ?_ : k_X0_shortest_8 X this A (.inl (x1, x2)))
  revert hf hw; generalize e = x1; intro hw hf
  dsimp only at hf
  show G X 0 0 87 [(1, vi x1)] [] A
  refine g_iload_n hX dX0_shortest_87 (lg_at 0 rfl) ?_
  cases hf
  exact h_iret hM dX0_shortest_88 hr rfl rfl

set_option maxRecDepth 100000 in
theorem w_f_X0_shortest {X : Ctx} (hM : MX X yX0_shortest cX0_shortest 3 "SlimeNet" (some Jvm.ClassFile.FieldType.int) rm_X0_shortest []) {this : Nat} {A : AH} {out : Int32 × AH} (hf : f_X0_shortest this A = some out) (hr : c_res X = r_X0_shortest A out) : G X 0 0 0 [(0, vr (some this))] [] A := by
  have hX := hM.1
  unfold f_X0_shortest at hf
  refine g_aload_n hX dX0_shortest_0 (lg_at 0 rfl) ?_
  obtain ⟨k1, hk1, hf⟩ := ob_some hf
  obtain ⟨A1, hc1, hf⟩ := ob_some hf
  refine h_callV hM [] dX0_shortest_1 cs_SlimeNet_305_1 hk1 (m_X0_list hc1) rfl rfl rfl rfl ?_
  refine g_iconst hX dX0_shortest_4 (-1 : Int32) (by decide) ?_
  refine g_istore_n hX dX0_shortest_5 [(1, vi (-1 : Int32)), (0, vr (some this))] (by decide) rfl ?_
  refine g_iconst hX dX0_shortest_6 (0 : Int32) (by decide) ?_
  refine g_istore_n hX dX0_shortest_7 [(2, vi (0 : Int32)), (1, vi (-1 : Int32)), (0, vr (some this))] (by decide) rfl ?_
  exact g_pick (w_l_X0_shortest_8 hM hf hr) [2, 1, 0] rfl

theorem m_X0_shortest {l : Launch} {this : Nat} {A : AH} {out : Int32 × AH} (h : f_X0_shortest this A = some out) : MetF l yX0_shortest (Cond.code yX0_shortest cX0_shortest 3 (some Jvm.ClassFile.FieldType.int)) rm_X0_shortest [vr (some this)] A (r_X0_shortest A out) :=
  metF_of rfl rfl (Nat.le_of_ble_eq_true rfl) fun X hX hl hR hnm hr h1 h2 hno => w_f_X0_shortest (X := X) ⟨hX, hR, h1, h2, fun _ => ⟨hnm, hno⟩⟩ h hr

/-! SlimeNetModel.shortest()I -/
def rm_X4_shortest : Room := { frames := 4, cells := 0, slots := 0, locals := 95 }
def r_X4_shortest (A : AH) (o : Int32) : (Option AV × AH) ⊕ (Nat × AH) := .inl (some (vi o), A)
def k_X4_shortest_4 (X : Ctx) (this : Nat) (A : AH) : ((Int32 × Int32) ⊕ (Int32)) → Prop
  | .inl (x1, x2) => G X 0 0 4 [(0, vr (some this)), (1, vi x1), (2, vi x2)] [] A
  | .inr x1 => G X 0 0 75 [(1, vi x1)] [] A

set_option maxRecDepth 100000 in
theorem w_f_X4_shortest_69 {X : Ctx} (hM : MX X yX4_shortest cX4_shortest 4 "SlimeNetModel" (some Jvm.ClassFile.FieldType.int) rm_X4_shortest []) {this : Nat} {x1 : Int32} {x2 : Int32} {A : AH} {out : (Int32 × Int32) ⊕ (Int32)} (hf : f_X4_shortest_69 this x1 x2 A = some out) (K : k_X4_shortest_4 X this A out) : G X 0 0 69 [(0, vr (some this)), (1, vi x1), (2, vi x2)] [] A := by
  have hX := hM.1
  unfold f_X4_shortest_69 at hf
  refine g_iinc hX dX4_shortest_69 (1 : Int32) (x2 + (1 : Int32)) [(2, vi (x2 + (1 : Int32))), (0, vr (some this)), (1, vi x1)] (by decide) rfl (lg_at 2 rfl) (by decide) rfl ?_
  refine g_goto hX dX4_shortest_72 4 (by decide) ?_
  cases hf
  exact g_pick (show G X _ _ _ _ _ _ from K) [1, 2, 0] rfl

set_option maxRecDepth 100000 in
theorem w_f_X4_shortest_67 {X : Ctx} (hM : MX X yX4_shortest cX4_shortest 4 "SlimeNetModel" (some Jvm.ClassFile.FieldType.int) rm_X4_shortest []) {this : Nat} {x2 : Int32} {A : AH} {out : (Int32 × Int32) ⊕ (Int32)} (hf : f_X4_shortest_67 this x2 A = some out) (K : k_X4_shortest_4 X this A out) : G X 0 0 67 [(0, vr (some this)), (2, vi x2)] [] A := by
  have hX := hM.1
  unfold f_X4_shortest_67 at hf
  refine g_iload_n hX dX4_shortest_67 (lg_at 1 rfl) ?_
  refine g_istore_n hX dX4_shortest_68 [(1, vi x2), (0, vr (some this)), (2, vi x2)] (by decide) rfl ?_
  exact g_pick (w_f_X4_shortest_69 hM hf K) [1, 0, 2] rfl

set_option maxRecDepth 100000 in
theorem w_f_X4_shortest_45 {X : Ctx} (hM : MX X yX4_shortest cX4_shortest 4 "SlimeNetModel" (some Jvm.ClassFile.FieldType.int) rm_X4_shortest []) {this : Nat} {x1 : Int32} {x2 : Int32} {t0 : Int32} {A : AH} {out : (Int32 × Int32) ⊕ (Int32)} (hf : f_X4_shortest_45 this x1 x2 t0 A = some out) (K : k_X4_shortest_4 X this A out) : G X 0 0 45 [(0, vr (some this)), (1, vi x1), (2, vi x2)] [vi t0] A := by
  have hX := hM.1
  unfold f_X4_shortest_45 at hf
  refine g_istore_n hX dX4_shortest_45 [(3, vi t0), (0, vr (some this)), (1, vi x1), (2, vi x2)] (by decide) rfl ?_
  refine g_iload_n hX dX4_shortest_46 (lg_at 0 rfl) ?_
  refine g_if_lt hX dX4_shortest_47 67 hf (by decide) (fun c47 hf => ?_) (fun c47 hf => ?_)
  · exact g_pick (w_f_X4_shortest_67 hM hf K) [1, 3] rfl
  · refine g_iload_n hX dX4_shortest_50 (lg_at 0 rfl) ?_
    refine g_if_ne hX dX4_shortest_51 69 hf (by decide) (fun c51 hf => ?_) (fun c51 hf => ?_)
    · exact g_pick (w_f_X4_shortest_69 hM hf K) [1, 2, 3] rfl
    · refine g_aload_n hX dX4_shortest_54 (lg_at 1 rfl) ?_
      refine g_iload_n hX dX4_shortest_55 (lg_at 3 rfl) ?_
      obtain ⟨k56, hk56, hf⟩ := ob_some hf
      obtain ⟨v56, hc56, hf⟩ := ob_some hf
      refine h_callV hM [vi x2] dX4_shortest_56 cs_SlimeNetModel_422_5 hk56 (m_X4_sureOf hc56) rfl rfl rfl rfl ?_
      refine g_aload_n hX dX4_shortest_59 (lg_at 1 rfl) ?_
      refine g_iload_n hX dX4_shortest_60 (lg_at 2 rfl) ?_
      obtain ⟨k61, hk61, hf⟩ := ob_some hf
      obtain ⟨v61, hc61, hf⟩ := ob_some hf
      refine h_callV hM [vi x1] dX4_shortest_61 cs_SlimeNetModel_422_5 hk61 (m_X4_sureOf hc61) rfl rfl rfl rfl ?_
      refine g_icmp_le hX dX4_shortest_64 69 hf (by decide) (fun c64 hf => ?_) (fun c64 hf => ?_)
      · exact g_pick (w_f_X4_shortest_69 hM hf K) [1, 2, 3] rfl
      · exact g_pick (w_f_X4_shortest_67 hM hf K) [1, 3] rfl

set_option maxRecDepth 100000 in
theorem w_s_X4_shortest_4 {X : Ctx} (hM : MX X yX4_shortest cX4_shortest 4 "SlimeNetModel" (some Jvm.ClassFile.FieldType.int) rm_X4_shortest []) {this : Nat} {A : AH} {st : Int32 × Int32} {out : (Int32 × Int32) ⊕ (Int32)} (hf : s_X4_shortest_4 this A st = some out) (K : k_X4_shortest_4 X this A out) : k_X4_shortest_4 X this A (.inl st) := by
  have hX := hM.1
  obtain ⟨x1, x2⟩ := st
  unfold s_X4_shortest_4 at hf
  dsimp only at hf
  show G X 0 0 4 [(0, vr (some this)), (1, vi x1), (2, vi x2)] [] A
  refine g_iload_n hX dX4_shortest_4 (lg_at 2 rfl) ?_
  refine g_iconst hX dX4_shortest_5 (1 : Int32) (by decide) ?_
  refine g_aload_n hX dX4_shortest_6 (lg_at 0 rfl) ?_
  refine g_getI hX hf fs_SlimeNetModel_297_5 rfl dX4_shortest_7 (fun v7 hf => ?_)
  refine g_ishl hX dX4_shortest_10 ?_
  refine g_icmp_ge hX dX4_shortest_11 75 hf (by decide) (fun c11 hf => ?_) (fun c11 hf => ?_)
  · cases hf
    exact g_pick (show G X _ _ _ _ _ _ from K) [1] rfl
  · refine g_aload_n hX dX4_shortest_14 (lg_at 0 rfl) ?_
    refine g_iload_n hX dX4_shortest_15 (lg_at 2 rfl) ?_
    obtain ⟨k16, hk16, hf⟩ := ob_some hf
    obtain ⟨v16, hc16, hf⟩ := ob_some hf
    refine h_callV hM [vi x2] dX4_shortest_16 cs_SlimeNetModel_411_5 hk16 (m_X4_joins hc16) rfl rfl rfl rfl ?_
    refine g_if_ne hX dX4_shortest_19 25 hf (by decide) (fun c19 hf => ?_) (fun c19 hf => ?_)
    · refine g_iload_n hX dX4_shortest_25 (lg_at 1 rfl) ?_
      refine g_iconst hX dX4_shortest_26 (-1 : Int32) (by decide) ?_
      refine g_icmp_ne hX dX4_shortest_27 34 hf (by decide) (fun c27 hf => ?_) (fun c27 hf => ?_)
      · refine g_aload_n hX dX4_shortest_34 (lg_at 0 rfl) ?_
        refine g_iload_n hX dX4_shortest_35 (lg_at 2 rfl) ?_
        obtain ⟨k36, hk36, hf⟩ := ob_some hf
        obtain ⟨v36, hc36, hf⟩ := ob_some hf
        refine h_callV hM [vi x2] dX4_shortest_36 cs_SlimeNetModel_419_5 hk36 (m_X4_lengthOf hc36) rfl rfl rfl rfl ?_
        refine g_aload_n hX dX4_shortest_39 (lg_at 0 rfl) ?_
        refine g_iload_n hX dX4_shortest_40 (lg_at 1 rfl) ?_
        obtain ⟨k41, hk41, hf⟩ := ob_some hf
        obtain ⟨v41, hc41, hf⟩ := ob_some hf
        refine h_callV hM [vi x1] dX4_shortest_41 cs_SlimeNetModel_419_5 hk41 (m_X4_lengthOf hc41) rfl rfl rfl rfl ?_
        refine g_isub hX dX4_shortest_44 ?_
        exact g_pick (w_f_X4_shortest_45 hM hf K) [0, 1, 2] rfl
      · refine g_iconst hX dX4_shortest_30 (-1 : Int32) (by decide) ?_
        refine g_goto hX dX4_shortest_31 45 (by decide) ?_
        exact g_pick (w_f_X4_shortest_45 hM hf K) [0, 1, 2] rfl
    · refine g_goto hX dX4_shortest_22 69 (by decide) ?_
      exact g_pick (w_f_X4_shortest_69 hM hf K) [0, 1, 2] rfl

set_option maxRecDepth 100000 in
theorem w_l_X4_shortest_4 {X : Ctx} (hM : MX X yX4_shortest cX4_shortest 4 "SlimeNetModel" (some Jvm.ClassFile.FieldType.int) rm_X4_shortest []) {this : Nat} {x1 : Int32} {x2 : Int32} {A : AH} {out : Int32} (hf : l_X4_shortest_4 this x1 x2 A = some out) (hr : c_res X = r_X4_shortest A out) : G X 0 0 4 [(0, vr (some this)), (1, vi x1), (2, vi x2)] [] A := by
  have hX := hM.1
  unfold l_X4_shortest_4 at hf
  obtain ⟨e, hw, hf⟩ := ob_some hf
  refine (whl_ind (k_X4_shortest_4 X this A) (fun st o hs K => w_s_X4_shortest_4 hM hs K) hw ?_ : k_X4_shortest_4 X this A (.inl (x1, x2)))
  revert hf hw; generalize e = x1; intro hw hf
  dsimp only at hf
  show G X 0 0 75 [(1, vi x1)] [] A
  refine g_iload_n hX dX4_shortest_75 (lg_at 0 rfl) ?_
  cases hf
  exact h_iret hM dX4_shortest_76 hr rfl rfl

set_option maxRecDepth 100000 in
theorem w_f_X4_shortest {X : Ctx} (hM : MX X yX4_shortest cX4_shortest 4 "SlimeNetModel" (some Jvm.ClassFile.FieldType.int) rm_X4_shortest []) {this : Nat} {A : AH} {out : Int32} (hf : f_X4_shortest this A = some out) (hr : c_res X = r_X4_shortest A out) : G X 0 0 0 [(0, vr (some this))] [] A := by
  have hX := hM.1
  unfold f_X4_shortest at hf
  refine g_iconst hX dX4_shortest_0 (-1 : Int32) (by decide) ?_
  refine g_istore_n hX dX4_shortest_1 [(1, vi (-1 : Int32)), (0, vr (some this))] (by decide) rfl ?_
  refine g_iconst hX dX4_shortest_2 (0 : Int32) (by decide) ?_
  refine g_istore_n hX dX4_shortest_3 [(2, vi (0 : Int32)), (1, vi (-1 : Int32)), (0, vr (some this))] (by decide) rfl ?_
  exact g_pick (w_l_X4_shortest_4 hM hf hr) [2, 1, 0] rfl

theorem m_X4_shortest {l : Launch} {this : Nat} {A : AH} {out : Int32} (h : f_X4_shortest this A = some out) : MetF l yX4_shortest (Cond.code yX4_shortest cX4_shortest 4 (some Jvm.ClassFile.FieldType.int)) rm_X4_shortest [vr (some this)] A (r_X4_shortest A out) :=
  metF_of rfl rfl (Nat.le_of_ble_eq_true rfl) fun X hX hl hR hnm hr h1 h2 hno => w_f_X4_shortest (X := X) ⟨hX, hR, h1, h2, fun _ => ⟨hnm, hno⟩⟩ h hr

/-! SlimeNet.good(I)I -/
def rm_X0_good : Room := { frames := 8, cells := 0, slots := 0, locals := 181 }
def r_X0_good (_A : AH) (o : Int32 × AH) : (Option AV × AH) ⊕ (Nat × AH) := .inl (some (vi o.1), o.2)
set_option maxRecDepth 100000 in
theorem w_f_X0_good_40 {X : Ctx} (hM : MX X yX0_good cX0_good 2 "SlimeNet" (some Jvm.ClassFile.FieldType.int) rm_X0_good []) {t0 : Int32} {A : AH} {out : Int32 × AH} (hf : f_X0_good_40 t0 A = some out) (hr : c_res X = r_X0_good A out) : G X 0 0 40 [] [vi t0] A := by
  have hX := hM.1
  unfold f_X0_good_40 at hf
  cases hf
  exact h_iret hM dX0_good_40 hr rfl rfl

set_option maxRecDepth 100000 in
theorem w_f_X0_good {X : Ctx} (hM : MX X yX0_good cX0_good 2 "SlimeNet" (some Jvm.ClassFile.FieldType.int) rm_X0_good []) {this : Nat} {x1 : Int32} {A : AH} {out : Int32 × AH} (hf : f_X0_good this x1 A = some out) (hr : c_res X = r_X0_good A out) : G X 0 0 0 [(0, vr (some this)), (1, vi x1)] [] A := by
  have hX := hM.1
  unfold f_X0_good at hf
  refine g_aload_n hX dX0_good_0 (lg_at 0 rfl) ?_
  obtain ⟨k1, hk1, hf⟩ := ob_some hf
  obtain ⟨A1, hc1, hf⟩ := ob_some hf
  refine h_callV hM [] dX0_good_1 cs_SlimeNet_305_1 hk1 (m_X0_list hc1) rfl rfl rfl rfl ?_
  refine g_iload_n hX dX0_good_4 (lg_at 1 rfl) ?_
  refine g_iconst hX dX0_good_5 (-1 : Int32) (by decide) ?_
  refine g_icmp_ne hX dX0_good_6 16 hf (by decide) (fun c6 hf => ?_) (fun c6 hf => ?_)
  · refine g_iload_n hX dX0_good_16 (lg_at 1 rfl) ?_
    refine g_iconst hX dX0_good_17 (0 : Int32) (by decide) ?_
    refine g_aload_n hX dX0_good_18 (lg_at 0 rfl) ?_
    refine g_getI hX hf fs_SlimeNet_287_1 rfl dX0_good_19 (fun v19 hf => ?_)
    refine g_iconst hX dX0_good_22 (1 : Int32) (by decide) ?_
    refine g_isub hX dX0_good_23 ?_
    obtain ⟨v24, hc24, hf⟩ := ob_some hf
    refine h_callS hM [vi x1, vi (0 : Int32), vi (v19 - (1 : Int32))] dX0_good_24 cs_SlimeNet_153_s (m_X0_in hc24) rfl rfl rfl rfl ?_
    refine g_if_eq hX dX0_good_27 39 hf (by decide) (fun c27 hf => ?_) (fun c27 hf => ?_)
    · refine g_iconst hX dX0_good_39 (-1 : Int32) (by decide) ?_
      exact g_pick (w_f_X0_good_40 hM hf hr) [] rfl
    · refine g_aload_n hX dX0_good_30 (lg_at 0 rfl) ?_
      refine g_getR hX hf fs_SlimeNet_62_1 rfl dX0_good_31 (fun v31 hf => ?_)
      refine g_iload_n hX dX0_good_34 (lg_at 1 rfl) ?_
      refine g_iald hX hf dX0_good_35 (fun v35 hf => ?_)
      refine g_goto hX dX0_good_36 40 (by decide) ?_
      exact g_pick (w_f_X0_good_40 hM hf hr) [] rfl
  · refine g_aload_n hX dX0_good_9 (lg_at 0 rfl) ?_
    refine g_getI hX hf fs_SlimeNet_287_1 rfl dX0_good_10 (fun v10 hf => ?_)
    refine g_goto hX dX0_good_13 40 (by decide) ?_
    exact g_pick (w_f_X0_good_40 hM hf hr) [] rfl

theorem m_X0_good {l : Launch} {this : Nat} {x1 : Int32} {A : AH} {out : Int32 × AH} (h : f_X0_good this x1 A = some out) : MetF l yX0_good (Cond.code yX0_good cX0_good 2 (some Jvm.ClassFile.FieldType.int)) rm_X0_good [vr (some this), vi x1] A (r_X0_good A out) :=
  metF_of rfl rfl (Nat.le_of_ble_eq_true rfl) fun X hX hl hR hnm hr h1 h2 hno => w_f_X0_good (X := X) ⟨hX, hR, h1, h2, fun _ => ⟨hnm, hno⟩⟩ h hr

/-! SlimeNetModel.good(I)I -/
def rm_X4_good : Room := { frames := 4, cells := 0, slots := 0, locals := 95 }
def r_X4_good (_A : AH) (o : Int32 × AH) : (Option AV × AH) ⊕ (Nat × AH) := .inl (some (vi o.1), o.2)
def k_X4_good_9 (X : Ctx) (this : Nat) (x1 : Int32) : ((Int32 × AH) ⊕ (AH)) → Prop
  | .inl (x2, A) => G X 0 0 9 [(0, vr (some this)), (1, vi x1), (2, vi x2)] [] A
  | .inr A => G X 0 0 31 [(0, vr (some this)), (1, vi x1)] [] A

def k_X4_good_33 (X : Ctx) (this : Nat) (x1 : Int32) : ((Int32 × AH) ⊕ (AH)) → Prop
  | .inl (x2, A) => G X 0 0 33 [(0, vr (some this)), (1, vi x1), (2, vi x2)] [] A
  | .inr A => G X 0 0 103 [(0, vr (some this)), (1, vi x1)] [] A

def k_X4_good_110 (X : Ctx) (this : Nat) (x1 : Int32) (A : AH) : ((Int32 × Int32 × Int32) ⊕ ((Int32) ⊕ (Int32))) → Prop
  | .inl (x2, x3, x4) => G X 0 0 110 [(0, vr (some this)), (1, vi x1), (2, vi x2), (3, vi x3), (4, vi x4)] [] A
  | .inr (.inl x4) => G X 0 0 147 [(0, vr (some this)), (4, vi x4)] [] A
  | .inr (.inr x3) => G X 0 0 164 [(1, vi x1), (3, vi x3)] [] A

set_option maxRecDepth 100000 in
theorem w_f_X4_good_97 {X : Ctx} (hM : MX X yX4_good cX4_good 5 "SlimeNetModel" (some Jvm.ClassFile.FieldType.int) rm_X4_good []) {this : Nat} {x1 : Int32} {x2 : Int32} {A : AH} {out : (Int32 × AH) ⊕ (AH)} (hf : f_X4_good_97 this x1 x2 A = some out) (K : k_X4_good_33 X this x1 out) : G X 0 0 97 [(0, vr (some this)), (1, vi x1), (2, vi x2)] [] A := by
  have hX := hM.1
  unfold f_X4_good_97 at hf
  refine g_iinc hX dX4_good_97 (1 : Int32) (x2 + (1 : Int32)) [(2, vi (x2 + (1 : Int32))), (0, vr (some this)), (1, vi x1)] (by decide) rfl (lg_at 2 rfl) (by decide) rfl ?_
  refine g_goto hX dX4_good_100 33 (by decide) ?_
  cases hf
  exact g_pick (show G X _ _ _ _ _ _ from K) [1, 2, 0] rfl

set_option maxRecDepth 100000 in
theorem w_f_X4_good_158 {X : Ctx} (hM : MX X yX4_good cX4_good 5 "SlimeNetModel" (some Jvm.ClassFile.FieldType.int) rm_X4_good []) {this : Nat} {x1 : Int32} {x2 : Int32} {x3 : Int32} {x4 : Int32} {A : AH} {out : (Int32 × Int32 × Int32) ⊕ ((Int32) ⊕ (Int32))} (hf : f_X4_good_158 this x1 x2 x3 x4 A = some out) (K : k_X4_good_110 X this x1 A out) : G X 0 0 158 [(0, vr (some this)), (1, vi x1), (2, vi x2), (3, vi x3), (4, vi x4)] [] A := by
  have hX := hM.1
  unfold f_X4_good_158 at hf
  refine g_iinc hX dX4_good_158 (1 : Int32) (x4 + (1 : Int32)) [(4, vi (x4 + (1 : Int32))), (0, vr (some this)), (1, vi x1), (2, vi x2), (3, vi x3)] (by decide) rfl (lg_at 4 rfl) (by decide) rfl ?_
  refine g_goto hX dX4_good_161 110 (by decide) ?_
  cases hf
  exact g_pick (show G X _ _ _ _ _ _ from K) [1, 2, 3, 4, 0] rfl

set_option maxRecDepth 100000 in
theorem w_f_X4_good_174 {X : Ctx} (hM : MX X yX4_good cX4_good 5 "SlimeNetModel" (some Jvm.ClassFile.FieldType.int) rm_X4_good []) {t0 : Int32} {A : AH} {out : Int32 × AH} (hf : f_X4_good_174 t0 A = some out) (hr : c_res X = r_X4_good A out) : G X 0 0 174 [] [vi t0] A := by
  have hX := hM.1
  unfold f_X4_good_174 at hf
  cases hf
  exact h_iret hM dX4_good_174 hr rfl rfl

set_option maxRecDepth 100000 in
theorem w_s_X4_good_110 {X : Ctx} (hM : MX X yX4_good cX4_good 5 "SlimeNetModel" (some Jvm.ClassFile.FieldType.int) rm_X4_good []) {this : Nat} {x1 : Int32} {A : AH} {st : Int32 × Int32 × Int32} {out : (Int32 × Int32 × Int32) ⊕ ((Int32) ⊕ (Int32))} (hf : s_X4_good_110 this x1 A st = some out) (K : k_X4_good_110 X this x1 A out) : k_X4_good_110 X this x1 A (.inl st) := by
  have hX := hM.1
  obtain ⟨x2, x3, x4⟩ := st
  unfold s_X4_good_110 at hf
  dsimp only at hf
  show G X 0 0 110 [(0, vr (some this)), (1, vi x1), (2, vi x2), (3, vi x3), (4, vi x4)] [] A
  refine g_iload hX dX4_good_110 (lg_at 4 rfl) ?_
  refine g_aload_n hX dX4_good_112 (lg_at 0 rfl) ?_
  refine g_getR hX hf fs_SlimeNetModel_245_5 rfl dX4_good_113 (fun v113 hf => ?_)
  refine g_alen hX 10 rfl hf dX4_good_116 (fun v116 hf => ?_)
  refine g_icmp_ge hX dX4_good_117 164 hf (by decide) (fun c117 hf => ?_) (fun c117 hf => ?_)
  · cases hf
    exact g_pick (show G X _ _ _ _ _ _ from K) [1, 3] rfl
  · refine g_aload_n hX dX4_good_120 (lg_at 0 rfl) ?_
    refine g_getR hX hf fs_SlimeNetModel_245_5 rfl dX4_good_121 (fun v121 hf => ?_)
    refine g_iload hX dX4_good_124 (lg_at 4 rfl) ?_
    refine g_iald hX hf dX4_good_126 (fun v126 hf => ?_)
    refine g_iload_n hX dX4_good_127 (lg_at 2 rfl) ?_
    refine g_icmp_gt hX dX4_good_128 134 hf (by decide) (fun c128 hf => ?_) (fun c128 hf => ?_)
    · refine g_aload_n hX dX4_good_134 (lg_at 0 rfl) ?_
      refine g_getR hX hf fs_SlimeNetModel_245_5 rfl dX4_good_135 (fun v135 hf => ?_)
      refine g_iload hX dX4_good_138 (lg_at 4 rfl) ?_
      refine g_iald hX hf dX4_good_140 (fun v140 hf => ?_)
      refine g_istore_n hX dX4_good_141 [(2, vi v140), (0, vr (some this)), (1, vi x1), (3, vi x3), (4, vi x4)] (by decide) rfl ?_
      refine g_iload_n hX dX4_good_142 (lg_at 3 rfl) ?_
      refine g_iload_n hX dX4_good_143 (lg_at 2 rfl) ?_
      refine g_icmp_ne hX dX4_good_144 155 hf (by decide) (fun c144 hf => ?_) (fun c144 hf => ?_)
      · refine g_iinc hX dX4_good_155 (1 : Int32) (x3 + (1 : Int32)) [(3, vi (x3 + (1 : Int32))), (2, vi v140), (0, vr (some this)), (1, vi x1), (4, vi x4)] (by decide) rfl (lg_at 3 rfl) (by decide) rfl ?_
        exact g_pick (w_f_X4_good_158 hM hf K) [2, 3, 1, 0, 4] rfl
      · cases hf
        exact g_pick (show G X _ _ _ _ _ _ from K) [1, 4] rfl
    · refine g_goto hX dX4_good_131 158 (by decide) ?_
      exact g_pick (w_f_X4_good_158 hM hf K) [0, 1, 2, 3, 4] rfl

set_option maxRecDepth 100000 in
theorem w_l_X4_good_110 {X : Ctx} (hM : MX X yX4_good cX4_good 5 "SlimeNetModel" (some Jvm.ClassFile.FieldType.int) rm_X4_good []) {this : Nat} {x1 : Int32} {x2 : Int32} {x3 : Int32} {x4 : Int32} {A : AH} {out : Int32 × AH} (hf : l_X4_good_110 this x1 x2 x3 x4 A = some out) (hr : c_res X = r_X4_good A out) : G X 0 0 110 [(0, vr (some this)), (1, vi x1), (2, vi x2), (3, vi x3), (4, vi x4)] [] A := by
  have hX := hM.1
  unfold l_X4_good_110 at hf
  obtain ⟨e, hw, hf⟩ := ob_some hf
  refine (whl_ind (k_X4_good_110 X this x1 A) (fun st o hs K => w_s_X4_good_110 hM hs K) hw ?_ : k_X4_good_110 X this x1 A (.inl (x2, x3, x4)))
  rcases e with x4 | x3
  · dsimp only at hf
    show G X 0 0 147 [(0, vr (some this)), (4, vi x4)] [] A
    refine g_aload_n hX dX4_good_147 (lg_at 0 rfl) ?_
    refine g_getR hX hf fs_SlimeNetModel_248_5 rfl dX4_good_148 (fun v148 hf => ?_)
    refine g_iload hX dX4_good_151 (lg_at 1 rfl) ?_
    refine g_iald hX hf dX4_good_153 (fun v153 hf => ?_)
    cases hf
    exact h_iret hM dX4_good_154 hr rfl rfl
  · dsimp only at hf
    show G X 0 0 164 [(1, vi x1), (3, vi x3)] [] A
    refine g_iload_n hX dX4_good_164 (lg_at 0 rfl) ?_
    refine g_iconst hX dX4_good_165 (-1 : Int32) (by decide) ?_
    refine g_icmp_ne hX dX4_good_166 173 hf (by decide) (fun c166 hf => ?_) (fun c166 hf => ?_)
    · refine g_iconst hX dX4_good_173 (-1 : Int32) (by decide) ?_
      exact g_pick (w_f_X4_good_174 hM hf hr) [] rfl
    · refine g_iload_n hX dX4_good_169 (lg_at 1 rfl) ?_
      refine g_goto hX dX4_good_170 174 (by decide) ?_
      exact g_pick (w_f_X4_good_174 hM hf hr) [] rfl

set_option maxRecDepth 100000 in
theorem w_s_X4_good_33 {X : Ctx} (hM : MX X yX4_good cX4_good 5 "SlimeNetModel" (some Jvm.ClassFile.FieldType.int) rm_X4_good []) {this : Nat} {x1 : Int32} {st : Int32 × AH} {out : (Int32 × AH) ⊕ (AH)} (hf : s_X4_good_33 this x1 st = some out) (K : k_X4_good_33 X this x1 out) : k_X4_good_33 X this x1 (.inl st) := by
  have hX := hM.1
  obtain ⟨x2, A⟩ := st
  unfold s_X4_good_33 at hf
  dsimp only at hf
  show G X 0 0 33 [(0, vr (some this)), (1, vi x1), (2, vi x2)] [] A
  refine g_iload_n hX dX4_good_33 (lg_at 2 rfl) ?_
  refine g_iconst hX dX4_good_34 (1 : Int32) (by decide) ?_
  refine g_aload_n hX dX4_good_35 (lg_at 0 rfl) ?_
  refine g_getI hX hf fs_SlimeNetModel_297_5 rfl dX4_good_36 (fun v36 hf => ?_)
  refine g_ishl hX dX4_good_39 ?_
  refine g_icmp_ge hX dX4_good_40 103 hf (by decide) (fun c40 hf => ?_) (fun c40 hf => ?_)
  · cases hf
    exact g_pick (show G X _ _ _ _ _ _ from K) [0, 1] rfl
  · refine g_aload_n hX dX4_good_43 (lg_at 0 rfl) ?_
    refine g_iload_n hX dX4_good_44 (lg_at 2 rfl) ?_
    obtain ⟨k45, hk45, hf⟩ := ob_some hf
    obtain ⟨v45, hc45, hf⟩ := ob_some hf
    refine h_callV hM [vi x2] dX4_good_45 cs_SlimeNetModel_411_5 hk45 (m_X4_joins hc45) rfl rfl rfl rfl ?_
    refine g_if_ne hX dX4_good_48 54 hf (by decide) (fun c48 hf => ?_) (fun c48 hf => ?_)
    · refine g_aload_n hX dX4_good_54 (lg_at 0 rfl) ?_
      refine g_iload_n hX dX4_good_55 (lg_at 2 rfl) ?_
      obtain ⟨k56, hk56, hf⟩ := ob_some hf
      obtain ⟨v56, hc56, hf⟩ := ob_some hf
      refine h_callV hM [vi x2] dX4_good_56 cs_SlimeNetModel_422_5 hk56 (m_X4_sureOf hc56) rfl rfl rfl rfl ?_
      refine g_istore_n hX dX4_good_59 [(3, vi v56), (0, vr (some this)), (1, vi x1), (2, vi x2)] (by decide) rfl ?_
      refine g_aload_n hX dX4_good_60 (lg_at 1 rfl) ?_
      refine g_iload_n hX dX4_good_61 (lg_at 3 rfl) ?_
      obtain ⟨k62, hk62, hf⟩ := ob_some hf
      obtain ⟨v62, hc62, hf⟩ := ob_some hf
      refine h_callV hM [vi x2] dX4_good_62 cs_SlimeNetModel_419_5 hk62 (m_X4_lengthOf hc62) rfl rfl rfl rfl ?_
      refine g_istore hX dX4_good_65 [(4, vi v62), (3, vi v56), (0, vr (some this)), (1, vi x1), (2, vi x2)] (by decide) rfl ?_
      refine g_iload_n hX dX4_good_67 (lg_at 1 rfl) ?_
      refine g_aload_n hX dX4_good_68 (lg_at 2 rfl) ?_
      refine g_getR hX hf fs_SlimeNetModel_245_5 rfl dX4_good_69 (fun v69 hf => ?_)
      refine g_iload hX dX4_good_72 (lg_at 0 rfl) ?_
      refine g_iald hX hf dX4_good_74 (fun v74 hf => ?_)
      refine g_icmp_gt hX dX4_good_75 81 hf (by decide) (fun c75 hf => ?_) (fun c75 hf => ?_)
      · refine g_aload_n hX dX4_good_81 (lg_at 2 rfl) ?_
        refine g_getR hX hf fs_SlimeNetModel_245_5 rfl dX4_good_82 (fun v82 hf => ?_)
        refine g_iload hX dX4_good_85 (lg_at 0 rfl) ?_
        refine g_iload_n hX dX4_good_87 (lg_at 1 rfl) ?_
        refine g_iast hX hf dX4_good_88 (fun A88 hf => ?_)
        refine g_aload_n hX dX4_good_89 (lg_at 2 rfl) ?_
        refine g_getR hX hf fs_SlimeNetModel_248_5 rfl dX4_good_90 (fun v90 hf => ?_)
        refine g_iload hX dX4_good_93 (lg_at 0 rfl) ?_
        refine g_iload_n hX dX4_good_95 (lg_at 4 rfl) ?_
        refine g_iast hX hf dX4_good_96 (fun A96 hf => ?_)
        exact g_pick (w_f_X4_good_97 hM hf K) [2, 3, 4] rfl
      · refine g_goto hX dX4_good_78 97 (by decide) ?_
        exact g_pick (w_f_X4_good_97 hM hf K) [2, 3, 4] rfl
    · refine g_goto hX dX4_good_51 97 (by decide) ?_
      exact g_pick (w_f_X4_good_97 hM hf K) [0, 1, 2] rfl

set_option maxRecDepth 100000 in
theorem w_l_X4_good_33 {X : Ctx} (hM : MX X yX4_good cX4_good 5 "SlimeNetModel" (some Jvm.ClassFile.FieldType.int) rm_X4_good []) {this : Nat} {x1 : Int32} {x2 : Int32} {A : AH} {out : Int32 × AH} (hf : l_X4_good_33 this x1 x2 A = some out) (hr : c_res X = r_X4_good A out) : G X 0 0 33 [(0, vr (some this)), (1, vi x1), (2, vi x2)] [] A := by
  have hX := hM.1
  unfold l_X4_good_33 at hf
  obtain ⟨e, hw, hf⟩ := ob_some hf
  refine (whl_ind (k_X4_good_33 X this x1) (fun st o hs K => w_s_X4_good_33 hM hs K) hw ?_ : k_X4_good_33 X this x1 (.inl (x2, A)))
  revert hf hw; generalize e = A; intro hw hf
  dsimp only at hf
  show G X 0 0 103 [(0, vr (some this)), (1, vi x1)] [] A
  refine g_iconst hX dX4_good_103 (-1 : Int32) (by decide) ?_
  refine g_istore_n hX dX4_good_104 [(2, vi (-1 : Int32)), (0, vr (some this)), (1, vi x1)] (by decide) rfl ?_
  refine g_iconst hX dX4_good_105 (0 : Int32) (by decide) ?_
  refine g_istore_n hX dX4_good_106 [(3, vi (0 : Int32)), (2, vi (-1 : Int32)), (0, vr (some this)), (1, vi x1)] (by decide) rfl ?_
  refine g_iconst hX dX4_good_107 (0 : Int32) (by decide) ?_
  refine g_istore hX dX4_good_108 [(4, vi (0 : Int32)), (3, vi (0 : Int32)), (2, vi (-1 : Int32)), (0, vr (some this)), (1, vi x1)] (by decide) rfl ?_
  exact g_pick (w_l_X4_good_110 hM hf hr) [3, 4, 2, 1, 0] rfl

set_option maxRecDepth 100000 in
theorem w_s_X4_good_9 {X : Ctx} (hM : MX X yX4_good cX4_good 5 "SlimeNetModel" (some Jvm.ClassFile.FieldType.int) rm_X4_good []) {this : Nat} {x1 : Int32} {st : Int32 × AH} {out : (Int32 × AH) ⊕ (AH)} (hf : s_X4_good_9 this x1 st = some out) (K : k_X4_good_9 X this x1 out) : k_X4_good_9 X this x1 (.inl st) := by
  have hX := hM.1
  obtain ⟨x2, A⟩ := st
  unfold s_X4_good_9 at hf
  dsimp only at hf
  show G X 0 0 9 [(0, vr (some this)), (1, vi x1), (2, vi x2)] [] A
  refine g_iload_n hX dX4_good_9 (lg_at 2 rfl) ?_
  refine g_aload_n hX dX4_good_10 (lg_at 0 rfl) ?_
  refine g_getR hX hf fs_SlimeNetModel_245_5 rfl dX4_good_11 (fun v11 hf => ?_)
  refine g_alen hX 10 rfl hf dX4_good_14 (fun v14 hf => ?_)
  refine g_icmp_ge hX dX4_good_15 31 hf (by decide) (fun c15 hf => ?_) (fun c15 hf => ?_)
  · cases hf
    exact g_pick (show G X _ _ _ _ _ _ from K) [0, 1] rfl
  · refine g_aload_n hX dX4_good_18 (lg_at 0 rfl) ?_
    refine g_getR hX hf fs_SlimeNetModel_245_5 rfl dX4_good_19 (fun v19 hf => ?_)
    refine g_iload_n hX dX4_good_22 (lg_at 2 rfl) ?_
    refine g_iconst hX dX4_good_23 (-1 : Int32) (by decide) ?_
    refine g_iast hX hf dX4_good_24 (fun A24 hf => ?_)
    refine g_iinc hX dX4_good_25 (1 : Int32) (x2 + (1 : Int32)) [(2, vi (x2 + (1 : Int32))), (0, vr (some this)), (1, vi x1)] (by decide) rfl (lg_at 2 rfl) (by decide) rfl ?_
    refine g_goto hX dX4_good_28 9 (by decide) ?_
    cases hf
    exact g_pick (show G X _ _ _ _ _ _ from K) [1, 2, 0] rfl

set_option maxRecDepth 100000 in
theorem w_l_X4_good_9 {X : Ctx} (hM : MX X yX4_good cX4_good 5 "SlimeNetModel" (some Jvm.ClassFile.FieldType.int) rm_X4_good []) {this : Nat} {x1 : Int32} {x2 : Int32} {A : AH} {out : Int32 × AH} (hf : l_X4_good_9 this x1 x2 A = some out) (hr : c_res X = r_X4_good A out) : G X 0 0 9 [(0, vr (some this)), (1, vi x1), (2, vi x2)] [] A := by
  have hX := hM.1
  unfold l_X4_good_9 at hf
  obtain ⟨e, hw, hf⟩ := ob_some hf
  refine (whl_ind (k_X4_good_9 X this x1) (fun st o hs K => w_s_X4_good_9 hM hs K) hw ?_ : k_X4_good_9 X this x1 (.inl (x2, A)))
  revert hf hw; generalize e = A; intro hw hf
  dsimp only at hf
  show G X 0 0 31 [(0, vr (some this)), (1, vi x1)] [] A
  refine g_iconst hX dX4_good_31 (0 : Int32) (by decide) ?_
  refine g_istore_n hX dX4_good_32 [(2, vi (0 : Int32)), (0, vr (some this)), (1, vi x1)] (by decide) rfl ?_
  exact g_pick (w_l_X4_good_33 hM hf hr) [1, 2, 0] rfl

set_option maxRecDepth 100000 in
theorem w_f_X4_good {X : Ctx} (hM : MX X yX4_good cX4_good 5 "SlimeNetModel" (some Jvm.ClassFile.FieldType.int) rm_X4_good []) {this : Nat} {x1 : Int32} {A : AH} {out : Int32 × AH} (hf : f_X4_good this x1 A = some out) (hr : c_res X = r_X4_good A out) : G X 0 0 0 [(0, vr (some this)), (1, vi x1)] [] A := by
  have hX := hM.1
  unfold f_X4_good at hf
  refine g_iload_n hX dX4_good_0 (lg_at 1 rfl) ?_
  refine g_iconst hX dX4_good_1 (-1 : Int32) (by decide) ?_
  refine g_icmp_ge hX dX4_good_2 7 hf (by decide) (fun c2 hf => ?_) (fun c2 hf => ?_)
  · refine g_iconst hX dX4_good_7 (0 : Int32) (by decide) ?_
    refine g_istore_n hX dX4_good_8 [(2, vi (0 : Int32)), (0, vr (some this)), (1, vi x1)] (by decide) rfl ?_
    exact g_pick (w_l_X4_good_9 hM hf hr) [1, 2, 0] rfl
  · refine g_iconst hX dX4_good_5 (-1 : Int32) (by decide) ?_
    cases hf
    exact h_iret hM dX4_good_6 hr rfl rfl

theorem m_X4_good {l : Launch} {this : Nat} {x1 : Int32} {A : AH} {out : Int32 × AH} (h : f_X4_good this x1 A = some out) : MetF l yX4_good (Cond.code yX4_good cX4_good 5 (some Jvm.ClassFile.FieldType.int)) rm_X4_good [vr (some this), vi x1] A (r_X4_good A out) :=
  metF_of rfl rfl (Nat.le_of_ble_eq_true rfl) fun X hX hl hR hnm hr h1 h2 hno => w_f_X4_good (X := X) ⟨hX, hR, h1, h2, fun _ => ⟨hnm, hno⟩⟩ h hr

/-! SlimeNet.maze()I -/
def rm_X0_maze : Room := { frames := 6, cells := 0, slots := 0, locals := 137 }
def r_X0_maze (_A : AH) (o : Int32 × AH) : (Option AV × AH) ⊕ (Nat × AH) := .inl (some (vi o.1), o.2)
set_option maxRecDepth 100000 in
theorem w_f_X0_maze_103 {X : Ctx} (hM : MX X yX0_maze cX0_maze 3 "SlimeNet" (some Jvm.ClassFile.FieldType.int) rm_X0_maze []) {t0 : Int32} {A : AH} {out : Int32 × AH} (hf : f_X0_maze_103 t0 A = some out) (hr : c_res X = r_X0_maze A out) : G X 0 0 103 [] [vi t0] A := by
  have hX := hM.1
  unfold f_X0_maze_103 at hf
  cases hf
  exact h_iret hM dX0_maze_103 hr rfl rfl

set_option maxRecDepth 100000 in
theorem w_f_X0_maze_102 {X : Ctx} (hM : MX X yX0_maze cX0_maze 3 "SlimeNet" (some Jvm.ClassFile.FieldType.int) rm_X0_maze []) {A : AH} {out : Int32 × AH} (hf : f_X0_maze_102 A = some out) (hr : c_res X = r_X0_maze A out) : G X 0 0 102 [] [] A := by
  have hX := hM.1
  unfold f_X0_maze_102 at hf
  refine g_iconst hX dX0_maze_102 (0 : Int32) (by decide) ?_
  exact g_pick (w_f_X0_maze_103 hM hf hr) [] rfl

set_option maxRecDepth 100000 in
theorem w_f_X0_maze {X : Ctx} (hM : MX X yX0_maze cX0_maze 3 "SlimeNet" (some Jvm.ClassFile.FieldType.int) rm_X0_maze []) {this : Nat} {A : AH} {out : Int32 × AH} (hf : f_X0_maze this A = some out) (hr : c_res X = r_X0_maze A out) : G X 0 0 0 [(0, vr (some this))] [] A := by
  have hX := hM.1
  unfold f_X0_maze at hf
  refine g_aload_n hX dX0_maze_0 (lg_at 0 rfl) ?_
  refine g_getR hX hf fs_SlimeNet_27_1 rfl dX0_maze_1 (fun v1 hf => ?_)
  refine g_getI hX hf fs_SlimeNet_160_3 rfl dX0_maze_4 (fun v4 hf => ?_)
  refine g_iconst hX dX0_maze_7 (2 : Int32) (by decide) ?_
  refine g_icmp_eq hX dX0_maze_8 14 hf (by decide) (fun c8 hf => ?_) (fun c8 hf => ?_)
  · refine g_iconst hX dX0_maze_14 (1 : Int32) (by decide) ?_
    refine g_aload_n hX dX0_maze_15 (lg_at 0 rfl) ?_
    refine g_getR hX hf fs_SlimeNet_27_1 rfl dX0_maze_16 (fun v16 hf => ?_)
    refine g_getR hX hf fs_SlimeNet_143_3 rfl dX0_maze_19 (fun v19 hf => ?_)
    obtain ⟨k22, hk22, hf⟩ := ob_some hf
    obtain ⟨v22, hc22, hf⟩ := ob_some hf
    refine h_callV hM [] dX0_maze_22 cs_SlimeNet_147_8 hk22 (m_J4_size hc22) rfl rfl rfl rfl ?_
    refine g_ishl hX dX0_maze_25 ?_
    refine g_iconst hX dX0_maze_26 (1 : Int32) (by decide) ?_
    refine g_isub hX dX0_maze_27 ?_
    refine g_istore_n hX dX0_maze_28 [(1, vi (((1 : Int32) <<< (v22 &&& 31)) - (1 : Int32))), (0, vr (some this))] (by decide) rfl ?_
    refine g_aload_n hX dX0_maze_29 (lg_at 1 rfl) ?_
    refine g_getR hX hf fs_SlimeNet_27_1 rfl dX0_maze_30 (fun v30 hf => ?_)
    refine g_iload_n hX dX0_maze_33 (lg_at 0 rfl) ?_
    obtain ⟨k34, hk34, hf⟩ := ob_some hf
    obtain ⟨v34, hc34, hf⟩ := ob_some hf
    refine h_callV hM [vi (((1 : Int32) <<< (v22 &&& 31)) - (1 : Int32))] dX0_maze_34 cs_SlimeNet_279_3 hk34 (m_X2_joins hc34) rfl rfl rfl rfl ?_
    refine g_if_ne hX dX0_maze_37 42 hf (by decide) (fun c37 hf => ?_) (fun c37 hf => ?_)
    · refine g_aload_n hX dX0_maze_42 (lg_at 1 rfl) ?_
      refine g_getR hX hf fs_SlimeNet_34_1 rfl dX0_maze_43 (fun v43 hf => ?_)
      obtain ⟨k46, hk46, hf⟩ := ob_some hf
      obtain ⟨v46, hc46, hf⟩ := ob_some hf
      refine h_callV hM [] dX0_maze_46 cs_SlimeNet_267_4 hk46 (m_X3_own hc46) rfl rfl rfl rfl ?_
      refine g_istore_n hX dX0_maze_49 [(2, vi v46), (1, vi (((1 : Int32) <<< (v22 &&& 31)) - (1 : Int32))), (0, vr (some this))] (by decide) rfl ?_
      refine g_aload_n hX dX0_maze_50 (lg_at 2 rfl) ?_
      refine g_getR hX hf fs_SlimeNet_27_1 rfl dX0_maze_51 (fun v51 hf => ?_)
      refine g_iload_n hX dX0_maze_54 (lg_at 0 rfl) ?_
      obtain ⟨k55, hk55, hf⟩ := ob_some hf
      obtain ⟨v55, hc55, hf⟩ := ob_some hf
      refine h_callV hM [vi v46] dX0_maze_55 cs_SlimeNet_279_3 hk55 (m_X2_joins hc55) rfl rfl rfl rfl ?_
      refine g_if_eq hX dX0_maze_58 102 hf (by decide) (fun c58 hf => ?_) (fun c58 hf => ?_)
      · exact g_pick (w_f_X0_maze_102 hM hf hr) [] rfl
      · refine g_aload_n hX dX0_maze_61 (lg_at 2 rfl) ?_
        refine g_getR hX hf fs_SlimeNet_27_1 rfl dX0_maze_62 (fun v62 hf => ?_)
        refine g_iload_n hX dX0_maze_65 (lg_at 0 rfl) ?_
        obtain ⟨k66, hk66, hf⟩ := ob_some hf
        obtain ⟨v66, hc66, hf⟩ := ob_some hf
        refine h_callV hM [vi v46] dX0_maze_66 cs_SlimeNet_282_3 hk66 (m_X2_length hc66) rfl rfl rfl rfl ?_
        refine g_aload_n hX dX0_maze_69 (lg_at 2 rfl) ?_
        refine g_getR hX hf fs_SlimeNet_27_1 rfl dX0_maze_70 (fun v70 hf => ?_)
        refine g_iload_n hX dX0_maze_73 (lg_at 1 rfl) ?_
        refine g_aload_n hX dX0_maze_74 (lg_at 2 rfl) ?_
        refine g_getR hX hf fs_SlimeNet_27_1 rfl dX0_maze_75 (fun v75 hf => ?_)
        refine g_getR hX hf fs_SlimeNet_197_3 rfl dX0_maze_78 (fun v78 hf => ?_)
        refine g_iconst hX dX0_maze_81 (0 : Int32) (by decide) ?_
        refine g_iald hX hf dX0_maze_82 (fun v82 hf => ?_)
        refine g_aload_n hX dX0_maze_83 (lg_at 2 rfl) ?_
        refine g_getR hX hf fs_SlimeNet_27_1 rfl dX0_maze_84 (fun v84 hf => ?_)
        refine g_getR hX hf fs_SlimeNet_197_3 rfl dX0_maze_87 (fun v87 hf => ?_)
        refine g_iconst hX dX0_maze_90 (1 : Int32) (by decide) ?_
        refine g_iald hX hf dX0_maze_91 (fun v91 hf => ?_)
        obtain ⟨k92, hk92, hf⟩ := ob_some hf
        obtain ⟨⟨v92, A92⟩, hc92, hf⟩ := ob_some hf
        refine h_callV hM [vi (((1 : Int32) <<< (v22 &&& 31)) - (1 : Int32)), vi v82, vi v91] dX0_maze_92 cs_SlimeNet_308_3 hk92 (m_X2_way hc92) rfl rfl rfl rfl ?_
        dsimp only at hf
        refine g_icmp_ne hX dX0_maze_95 102 hf (by decide) (fun c95 hf => ?_) (fun c95 hf => ?_)
        · exact g_pick (w_f_X0_maze_102 hM hf hr) [] rfl
        · refine g_iconst hX dX0_maze_98 (1 : Int32) (by decide) ?_
          refine g_goto hX dX0_maze_99 103 (by decide) ?_
          exact g_pick (w_f_X0_maze_103 hM hf hr) [] rfl
    · refine g_iconst hX dX0_maze_40 (-1 : Int32) (by decide) ?_
      cases hf
      exact h_iret hM dX0_maze_41 hr rfl rfl
  · refine g_bipush hX dX0_maze_11 (-4 : Int32) (by decide) ?_
    cases hf
    exact h_iret hM dX0_maze_13 hr rfl rfl

theorem m_X0_maze {l : Launch} {this : Nat} {A : AH} {out : Int32 × AH} (h : f_X0_maze this A = some out) : MetF l yX0_maze (Cond.code yX0_maze cX0_maze 3 (some Jvm.ClassFile.FieldType.int)) rm_X0_maze [vr (some this)] A (r_X0_maze A out) :=
  metF_of rfl rfl (Nat.le_of_ble_eq_true rfl) fun X hX hl hR hnm hr h1 h2 hno => w_f_X0_maze (X := X) ⟨hX, hR, h1, h2, fun _ => ⟨hnm, hno⟩⟩ h hr

/-! SlimeNetModel.maze()I -/
def rm_X4_maze : Room := { frames := 3, cells := 0, slots := 0, locals := 72 }
def r_X4_maze (_A : AH) (o : Int32 × AH) : (Option AV × AH) ⊕ (Nat × AH) := .inl (some (vi o.1), o.2)
set_option maxRecDepth 100000 in
theorem w_f_X4_maze_73 {X : Ctx} (hM : MX X yX4_maze cX4_maze 2 "SlimeNetModel" (some Jvm.ClassFile.FieldType.int) rm_X4_maze []) {t0 : Int32} {A : AH} {out : Int32 × AH} (hf : f_X4_maze_73 t0 A = some out) (hr : c_res X = r_X4_maze A out) : G X 0 0 73 [] [vi t0] A := by
  have hX := hM.1
  unfold f_X4_maze_73 at hf
  cases hf
  exact h_iret hM dX4_maze_73 hr rfl rfl

set_option maxRecDepth 100000 in
theorem w_f_X4_maze_72 {X : Ctx} (hM : MX X yX4_maze cX4_maze 2 "SlimeNetModel" (some Jvm.ClassFile.FieldType.int) rm_X4_maze []) {A : AH} {out : Int32 × AH} (hf : f_X4_maze_72 A = some out) (hr : c_res X = r_X4_maze A out) : G X 0 0 72 [] [] A := by
  have hX := hM.1
  unfold f_X4_maze_72 at hf
  refine g_iconst hX dX4_maze_72 (0 : Int32) (by decide) ?_
  exact g_pick (w_f_X4_maze_73 hM hf hr) [] rfl

set_option maxRecDepth 100000 in
theorem w_f_X4_maze {X : Ctx} (hM : MX X yX4_maze cX4_maze 2 "SlimeNetModel" (some Jvm.ClassFile.FieldType.int) rm_X4_maze []) {this : Nat} {A : AH} {out : Int32 × AH} (hf : f_X4_maze this A = some out) (hr : c_res X = r_X4_maze A out) : G X 0 0 0 [(0, vr (some this))] [] A := by
  have hX := hM.1
  unfold f_X4_maze at hf
  refine g_aload_n hX dX4_maze_0 (lg_at 0 rfl) ?_
  refine g_getI hX hf fs_SlimeNetModel_300_5 rfl dX4_maze_1 (fun v1 hf => ?_)
  refine g_iconst hX dX4_maze_4 (2 : Int32) (by decide) ?_
  refine g_icmp_eq hX dX4_maze_5 11 hf (by decide) (fun c5 hf => ?_) (fun c5 hf => ?_)
  · refine g_aload_n hX dX4_maze_11 (lg_at 0 rfl) ?_
    refine g_iconst hX dX4_maze_12 (1 : Int32) (by decide) ?_
    refine g_aload_n hX dX4_maze_13 (lg_at 0 rfl) ?_
    refine g_getI hX hf fs_SlimeNetModel_297_5 rfl dX4_maze_14 (fun v14 hf => ?_)
    refine g_ishl hX dX4_maze_17 ?_
    refine g_iconst hX dX4_maze_18 (1 : Int32) (by decide) ?_
    refine g_isub hX dX4_maze_19 ?_
    refine g_aload_n hX dX4_maze_20 (lg_at 0 rfl) ?_
    refine g_getR hX hf fs_SlimeNetModel_197_5 rfl dX4_maze_21 (fun v21 hf => ?_)
    refine g_iconst hX dX4_maze_24 (0 : Int32) (by decide) ?_
    refine g_iald hX hf dX4_maze_25 (fun v25 hf => ?_)
    refine g_aload_n hX dX4_maze_26 (lg_at 0 rfl) ?_
    refine g_getR hX hf fs_SlimeNetModel_197_5 rfl dX4_maze_27 (fun v27 hf => ?_)
    refine g_iconst hX dX4_maze_30 (1 : Int32) (by decide) ?_
    refine g_iald hX hf dX4_maze_31 (fun v31 hf => ?_)
    obtain ⟨k32, hk32, hf⟩ := ob_some hf
    obtain ⟨⟨v32, A32⟩, hc32, hf⟩ := ob_some hf
    refine h_callV hM [vi (((1 : Int32) <<< (v14 &&& 31)) - (1 : Int32)), vi v25, vi v31] dX4_maze_32 cs_SlimeNetModel_415_5 hk32 (m_X4_way hc32) rfl rfl rfl rfl ?_
    dsimp only at hf
    refine g_istore_n hX dX4_maze_35 [(1, vi v32), (0, vr (some this))] (by decide) rfl ?_
    refine g_iload_n hX dX4_maze_36 (lg_at 0 rfl) ?_
    refine g_ldcw hX dX4_maze_37 (v := (1000000 : Int32)) (lw_LW q1516) ?_
    refine g_icmp_lt hX dX4_maze_40 45 hf (by decide) (fun c40 hf => ?_) (fun c40 hf => ?_)
    · refine g_aload_n hX dX4_maze_45 (lg_at 1 rfl) ?_
      refine g_aload_n hX dX4_maze_46 (lg_at 1 rfl) ?_
      obtain ⟨k47, hk47, hf⟩ := ob_some hf
      obtain ⟨v47, hc47, hf⟩ := ob_some hf
      refine h_callV hM [] dX4_maze_47 cs_SlimeNetModel_434_5 hk47 (m_X4_own hc47) rfl rfl rfl rfl ?_
      obtain ⟨k50, hk50, hf⟩ := ob_some hf
      obtain ⟨v50, hc50, hf⟩ := ob_some hf
      refine h_callV hM [vi v47] dX4_maze_50 cs_SlimeNetModel_411_5 hk50 (m_X4_joins hc50) rfl rfl rfl rfl ?_
      refine g_if_eq hX dX4_maze_53 72 hf (by decide) (fun c53 hf => ?_) (fun c53 hf => ?_)
      · exact g_pick (w_f_X4_maze_72 hM hf hr) [] rfl
      · refine g_aload_n hX dX4_maze_56 (lg_at 1 rfl) ?_
        refine g_aload_n hX dX4_maze_57 (lg_at 1 rfl) ?_
        obtain ⟨k58, hk58, hf⟩ := ob_some hf
        obtain ⟨v58, hc58, hf⟩ := ob_some hf
        refine h_callV hM [] dX4_maze_58 cs_SlimeNetModel_434_5 hk58 (m_X4_own hc58) rfl rfl rfl rfl ?_
        obtain ⟨k61, hk61, hf⟩ := ob_some hf
        obtain ⟨v61, hc61, hf⟩ := ob_some hf
        refine h_callV hM [vi v58] dX4_maze_61 cs_SlimeNetModel_419_5 hk61 (m_X4_lengthOf hc61) rfl rfl rfl rfl ?_
        refine g_iload_n hX dX4_maze_64 (lg_at 0 rfl) ?_
        refine g_icmp_ne hX dX4_maze_65 72 hf (by decide) (fun c65 hf => ?_) (fun c65 hf => ?_)
        · exact g_pick (w_f_X4_maze_72 hM hf hr) [] rfl
        · refine g_iconst hX dX4_maze_68 (1 : Int32) (by decide) ?_
          refine g_goto hX dX4_maze_69 73 (by decide) ?_
          exact g_pick (w_f_X4_maze_73 hM hf hr) [] rfl
    · refine g_iconst hX dX4_maze_43 (-1 : Int32) (by decide) ?_
      cases hf
      exact h_iret hM dX4_maze_44 hr rfl rfl
  · refine g_bipush hX dX4_maze_8 (-4 : Int32) (by decide) ?_
    cases hf
    exact h_iret hM dX4_maze_10 hr rfl rfl

theorem m_X4_maze {l : Launch} {this : Nat} {A : AH} {out : Int32 × AH} (h : f_X4_maze this A = some out) : MetF l yX4_maze (Cond.code yX4_maze cX4_maze 2 (some Jvm.ClassFile.FieldType.int)) rm_X4_maze [vr (some this)] A (r_X4_maze A out) :=
  metF_of rfl rfl (Nat.le_of_ble_eq_true rfl) fun X hX hl hR hnm hr h1 h2 hno => w_f_X4_maze (X := X) ⟨hX, hR, h1, h2, fun _ => ⟨hnm, hno⟩⟩ h hr

/-! SlimeNet.see(III)I -/
def rm_X0_see : Room := { frames := 3, cells := 0, slots := 0, locals := 67 }
def r_X0_see (_A : AH) (o : Int32 × AH) : (Option AV × AH) ⊕ (Nat × AH) := .inl (some (vi o.1), o.2)
set_option maxRecDepth 100000 in
theorem w_f_X0_see_32 {X : Ctx} (hM : MX X yX0_see cX0_see 4 "SlimeNet" (some Jvm.ClassFile.FieldType.int) rm_X0_see []) {A : AH} {out : Int32 × AH} (hf : f_X0_see_32 A = some out) (hr : c_res X = r_X0_see A out) : G X 0 0 32 [] [] A := by
  have hX := hM.1
  unfold f_X0_see_32 at hf
  refine g_bipush hX dX0_see_32 (-2 : Int32) (by decide) ?_
  cases hf
  exact h_iret hM dX0_see_34 hr rfl rfl

set_option maxRecDepth 100000 in
theorem w_f_X0_see {X : Ctx} (hM : MX X yX0_see cX0_see 4 "SlimeNet" (some Jvm.ClassFile.FieldType.int) rm_X0_see []) {this : Nat} {x1 : Int32} {x2 : Int32} {x3 : Int32} {A : AH} {out : Int32 × AH} (hf : f_X0_see this x1 x2 x3 A = some out) (hr : c_res X = r_X0_see A out) : G X 0 0 0 [(0, vr (some this)), (1, vi x1), (2, vi x2), (3, vi x3)] [] A := by
  have hX := hM.1
  unfold f_X0_see at hf
  refine g_iload_n hX dX0_see_0 (lg_at 1 rfl) ?_
  refine g_aload_n hX dX0_see_1 (lg_at 0 rfl) ?_
  refine g_getI hX hf fs_SlimeNet_133_1 rfl dX0_see_2 (fun v2 hf => ?_)
  refine g_sipush hX dX0_see_5 (999 : Int32) (by decide) ?_
  obtain ⟨v8, hc8, hf⟩ := ob_some hf
  refine h_callS hM [vi x1, vi v2, vi (999 : Int32)] dX0_see_8 cs_SlimeNet_153_s (m_X0_in hc8) rfl rfl rfl rfl ?_
  refine g_if_eq hX dX0_see_11 32 hf (by decide) (fun c11 hf => ?_) (fun c11 hf => ?_)
  · exact g_pick (w_f_X0_see_32 hM hf hr) [] rfl
  · refine g_iload_n hX dX0_see_14 (lg_at 2 rfl) ?_
    refine g_iconst hX dX0_see_15 (0 : Int32) (by decide) ?_
    refine g_bipush hX dX0_see_16 (40 : Int32) (by decide) ?_
    obtain ⟨v18, hc18, hf⟩ := ob_some hf
    refine h_callS hM [vi x2, vi (0 : Int32), vi (40 : Int32)] dX0_see_18 cs_SlimeNet_153_s (m_X0_in hc18) rfl rfl rfl rfl ?_
    refine g_if_eq hX dX0_see_21 32 hf (by decide) (fun c21 hf => ?_) (fun c21 hf => ?_)
    · exact g_pick (w_f_X0_see_32 hM hf hr) [] rfl
    · refine g_aload_n hX dX0_see_24 (lg_at 0 rfl) ?_
      refine g_iload_n hX dX0_see_25 (lg_at 3 rfl) ?_
      obtain ⟨k26, hk26, hf⟩ := ob_some hf
      obtain ⟨v26, hc26, hf⟩ := ob_some hf
      refine h_callV hM [vi x3] dX0_see_26 cs_SlimeNet_296_1 hk26 (m_X0_isNet hc26) rfl rfl rfl rfl ?_
      refine g_if_ne hX dX0_see_29 35 hf (by decide) (fun c29 hf => ?_) (fun c29 hf => ?_)
      · refine g_aload_n hX dX0_see_35 (lg_at 0 rfl) ?_
        refine g_getI hX hf fs_SlimeNet_127_1 rfl dX0_see_36 (fun v36 hf => ?_)
        refine g_bipush hX dX0_see_39 (16 : Int32) (by decide) ?_
        refine g_icmp_ne hX dX0_see_41 47 hf (by decide) (fun c41 hf => ?_) (fun c41 hf => ?_)
        · refine g_aload_n hX dX0_see_47 (lg_at 0 rfl) ?_
          refine g_iload_n hX dX0_see_48 (lg_at 1 rfl) ?_
          refine g_putI hX hf fs_SlimeNet_133_1 ⟨_, rfl, Or.inl rfl⟩ rfl dX0_see_49 (fun A49 hf => ?_)
          refine g_aload_n hX dX0_see_52 (lg_at 0 rfl) ?_
          refine g_getR hX hf fs_SlimeNet_65_1 rfl dX0_see_53 (fun v53 hf => ?_)
          refine g_aload_n hX dX0_see_56 (lg_at 0 rfl) ?_
          refine g_getI hX hf fs_SlimeNet_127_1 rfl dX0_see_57 (fun v57 hf => ?_)
          refine g_iload_n hX dX0_see_60 (lg_at 1 rfl) ?_
          refine g_iast hX hf dX0_see_61 (fun A61 hf => ?_)
          refine g_aload_n hX dX0_see_62 (lg_at 0 rfl) ?_
          refine g_getR hX hf fs_SlimeNet_68_1 rfl dX0_see_63 (fun v63 hf => ?_)
          refine g_aload_n hX dX0_see_66 (lg_at 0 rfl) ?_
          refine g_getI hX hf fs_SlimeNet_127_1 rfl dX0_see_67 (fun v67 hf => ?_)
          refine g_iload_n hX dX0_see_70 (lg_at 2 rfl) ?_
          refine g_iast hX hf dX0_see_71 (fun A71 hf => ?_)
          refine g_aload_n hX dX0_see_72 (lg_at 0 rfl) ?_
          refine g_getR hX hf fs_SlimeNet_71_1 rfl dX0_see_73 (fun v73 hf => ?_)
          refine g_aload_n hX dX0_see_76 (lg_at 0 rfl) ?_
          refine g_getI hX hf fs_SlimeNet_127_1 rfl dX0_see_77 (fun v77 hf => ?_)
          refine g_iload_n hX dX0_see_80 (lg_at 3 rfl) ?_
          refine g_iast hX hf dX0_see_81 (fun A81 hf => ?_)
          refine g_aload_n hX dX0_see_82 (lg_at 0 rfl) ?_
          refine g_dup hX dX0_see_83 rfl ?_
          refine g_getI hX hf fs_SlimeNet_127_1 rfl dX0_see_84 (fun v84 hf => ?_)
          refine g_iconst hX dX0_see_87 (1 : Int32) (by decide) ?_
          refine g_iadd hX dX0_see_88 ?_
          refine g_putI hX hf fs_SlimeNet_127_1 ⟨_, rfl, Or.inl rfl⟩ rfl dX0_see_89 (fun A89 hf => ?_)
          refine g_aload_n hX dX0_see_92 (lg_at 0 rfl) ?_
          refine g_getI hX hf fs_SlimeNet_127_1 rfl dX0_see_93 (fun v93 hf => ?_)
          refine g_iconst hX dX0_see_96 (1 : Int32) (by decide) ?_
          refine g_isub hX dX0_see_97 ?_
          cases hf
          exact h_iret hM dX0_see_98 hr rfl rfl
        · refine g_bipush hX dX0_see_44 (-3 : Int32) (by decide) ?_
          cases hf
          exact h_iret hM dX0_see_46 hr rfl rfl
      · exact g_pick (w_f_X0_see_32 hM hf hr) [] rfl

theorem m_X0_see {l : Launch} {this : Nat} {x1 : Int32} {x2 : Int32} {x3 : Int32} {A : AH} {out : Int32 × AH} (h : f_X0_see this x1 x2 x3 A = some out) : MetF l yX0_see (Cond.code yX0_see cX0_see 4 (some Jvm.ClassFile.FieldType.int)) rm_X0_see [vr (some this), vi x1, vi x2, vi x3] A (r_X0_see A out) :=
  metF_of rfl rfl (Nat.le_of_ble_eq_true rfl) fun X hX hl hR hnm hr h1 h2 hno => w_f_X0_see (X := X) ⟨hX, hR, h1, h2, fun _ => ⟨hnm, hno⟩⟩ h hr

/-! SlimeNetModel.isHour(I)Z -/
def rm_X4_isHour : Room := { frames := 2, cells := 0, slots := 0, locals := 49 }
def r_X4_isHour (A : AH) (o : Int32) : (Option AV × AH) ⊕ (Nat × AH) := .inl (some (vi o), A)
set_option maxRecDepth 100000 in
theorem w_f_X4_isHour {X : Ctx} (hM : MX X yX4_isHour cX4_isHour 1 "SlimeNetModel" (some Jvm.ClassFile.FieldType.boolean) rm_X4_isHour []) {x0 : Int32} {A : AH} {out : Int32} (hf : f_X4_isHour x0 = some out) (hr : c_res X = r_X4_isHour A out) : G X 0 0 0 [(0, vi x0)] [] A := by
  have hX := hM.1
  unfold f_X4_isHour at hf
  refine g_iload_n hX dX4_isHour_0 (lg_at 0 rfl) ?_
  refine g_i2l hX dX4_isHour_1 ?_
  refine g_lconst hX dX4_isHour_2 (0 : Int64) (by decide) ?_
  refine g_ldc2 hX dX4_isHour_3 (v := (40 : Int64)) (lw_LW q1542) ?_
  obtain ⟨v6, hc6, hf⟩ := ob_some hf
  refine h_callS hM [vl (Int32.toInt64 x0), vl (0 : Int64), vl (40 : Int64)] dX4_isHour_6 cs_SlimeNetModel_52_s (m_X4_in hc6) rfl rfl rfl rfl ?_
  obtain ⟨w9, hz9, hf⟩ := ob_some hf
  cases hf
  exact h_zret hM dX4_isHour_9 hr rfl (ckZ_nar hz9).2 rfl

theorem m_X4_isHour {l : Launch} {x0 : Int32} {A : AH} {out : Int32} (h : f_X4_isHour x0 = some out) : MetF l yX4_isHour (Cond.code yX4_isHour cX4_isHour 1 (some Jvm.ClassFile.FieldType.boolean)) rm_X4_isHour [vi x0] A (r_X4_isHour A out) :=
  metF_of rfl rfl (Nat.le_of_ble_eq_true rfl) fun X hX hl hR hnm hr h1 h2 hno => w_f_X4_isHour (X := X) ⟨hX, hR, h1, h2, fun _ => ⟨hnm, hno⟩⟩ h hr

/-! SlimeNetModel.see(III)I -/
def rm_X4_see : Room := { frames := 3, cells := 0, slots := 0, locals := 70 }
def r_X4_see (_A : AH) (o : Int32 × AH) : (Option AV × AH) ⊕ (Nat × AH) := .inl (some (vi o.1), o.2)
set_option maxRecDepth 100000 in
theorem w_f_X4_see_31 {X : Ctx} (hM : MX X yX4_see cX4_see 4 "SlimeNetModel" (some Jvm.ClassFile.FieldType.int) rm_X4_see []) {A : AH} {out : Int32 × AH} (hf : f_X4_see_31 A = some out) (hr : c_res X = r_X4_see A out) : G X 0 0 31 [] [] A := by
  have hX := hM.1
  unfold f_X4_see_31 at hf
  refine g_bipush hX dX4_see_31 (-2 : Int32) (by decide) ?_
  cases hf
  exact h_iret hM dX4_see_33 hr rfl rfl

set_option maxRecDepth 100000 in
theorem w_f_X4_see {X : Ctx} (hM : MX X yX4_see cX4_see 4 "SlimeNetModel" (some Jvm.ClassFile.FieldType.int) rm_X4_see []) {this : Nat} {x1 : Int32} {x2 : Int32} {x3 : Int32} {A : AH} {out : Int32 × AH} (hf : f_X4_see this x1 x2 x3 A = some out) (hr : c_res X = r_X4_see A out) : G X 0 0 0 [(0, vr (some this)), (1, vi x1), (2, vi x2), (3, vi x3)] [] A := by
  have hX := hM.1
  unfold f_X4_see at hf
  refine g_iload_n hX dX4_see_0 (lg_at 1 rfl) ?_
  refine g_i2l hX dX4_see_1 ?_
  refine g_aload_n hX dX4_see_2 (lg_at 0 rfl) ?_
  refine g_getI hX hf fs_SlimeNetModel_321_5 rfl dX4_see_3 (fun v3 hf => ?_)
  refine g_i2l hX dX4_see_6 ?_
  refine g_ldc2 hX dX4_see_7 (v := (999 : Int64)) (lw_LW q1538) ?_
  obtain ⟨v10, hc10, hf⟩ := ob_some hf
  refine h_callS hM [vl (Int32.toInt64 x1), vl (Int32.toInt64 v3), vl (999 : Int64)] dX4_see_10 cs_SlimeNetModel_52_s (m_X4_in hc10) rfl rfl rfl rfl ?_
  refine g_if_eq hX dX4_see_13 31 hf (by decide) (fun c13 hf => ?_) (fun c13 hf => ?_)
  · exact g_pick (w_f_X4_see_31 hM hf hr) [] rfl
  · refine g_iload_n hX dX4_see_16 (lg_at 2 rfl) ?_
    obtain ⟨v17, hc17, hf⟩ := ob_some hf
    refine h_callS hM [vi x2] dX4_see_17 cs_SlimeNetModel_441_s (m_X4_isHour hc17) rfl rfl rfl rfl ?_
    refine g_if_eq hX dX4_see_20 31 hf (by decide) (fun c20 hf => ?_) (fun c20 hf => ?_)
    · exact g_pick (w_f_X4_see_31 hM hf hr) [] rfl
    · refine g_aload_n hX dX4_see_23 (lg_at 0 rfl) ?_
      refine g_iload_n hX dX4_see_24 (lg_at 3 rfl) ?_
      obtain ⟨k25, hk25, hf⟩ := ob_some hf
      obtain ⟨v25, hc25, hf⟩ := ob_some hf
      refine h_callV hM [vi x3] dX4_see_25 cs_SlimeNetModel_425_5 hk25 (m_X4_isNet hc25) rfl rfl rfl rfl ?_
      refine g_if_ne hX dX4_see_28 34 hf (by decide) (fun c28 hf => ?_) (fun c28 hf => ?_)
      · refine g_aload_n hX dX4_see_34 (lg_at 0 rfl) ?_
        refine g_getI hX hf fs_SlimeNetModel_315_5 rfl dX4_see_35 (fun v35 hf => ?_)
        refine g_bipush hX dX4_see_38 (16 : Int32) (by decide) ?_
        refine g_icmp_ne hX dX4_see_40 46 hf (by decide) (fun c40 hf => ?_) (fun c40 hf => ?_)
        · refine g_aload_n hX dX4_see_46 (lg_at 0 rfl) ?_
          refine g_iload_n hX dX4_see_47 (lg_at 1 rfl) ?_
          refine g_putI hX hf fs_SlimeNetModel_321_5 ⟨_, rfl, Or.inl rfl⟩ rfl dX4_see_48 (fun A48 hf => ?_)
          refine g_aload_n hX dX4_see_51 (lg_at 0 rfl) ?_
          refine g_getR hX hf fs_SlimeNetModel_260_5 rfl dX4_see_52 (fun v52 hf => ?_)
          refine g_aload_n hX dX4_see_55 (lg_at 0 rfl) ?_
          refine g_getI hX hf fs_SlimeNetModel_315_5 rfl dX4_see_56 (fun v56 hf => ?_)
          refine g_iload_n hX dX4_see_59 (lg_at 2 rfl) ?_
          refine g_iast hX hf dX4_see_60 (fun A60 hf => ?_)
          refine g_aload_n hX dX4_see_61 (lg_at 0 rfl) ?_
          refine g_getR hX hf fs_SlimeNetModel_263_5 rfl dX4_see_62 (fun v62 hf => ?_)
          refine g_aload_n hX dX4_see_65 (lg_at 0 rfl) ?_
          refine g_getI hX hf fs_SlimeNetModel_315_5 rfl dX4_see_66 (fun v66 hf => ?_)
          refine g_iload_n hX dX4_see_69 (lg_at 3 rfl) ?_
          refine g_iast hX hf dX4_see_70 (fun A70 hf => ?_)
          refine g_aload_n hX dX4_see_71 (lg_at 0 rfl) ?_
          refine g_getR hX hf fs_SlimeNetModel_266_5 rfl dX4_see_72 (fun v72 hf => ?_)
          refine g_aload_n hX dX4_see_75 (lg_at 0 rfl) ?_
          refine g_getI hX hf fs_SlimeNetModel_315_5 rfl dX4_see_76 (fun v76 hf => ?_)
          refine g_iload_n hX dX4_see_79 (lg_at 1 rfl) ?_
          refine g_iast hX hf dX4_see_80 (fun A80 hf => ?_)
          refine g_aload_n hX dX4_see_81 (lg_at 0 rfl) ?_
          refine g_dup hX dX4_see_82 rfl ?_
          refine g_getI hX hf fs_SlimeNetModel_315_5 rfl dX4_see_83 (fun v83 hf => ?_)
          refine g_iconst hX dX4_see_86 (1 : Int32) (by decide) ?_
          refine g_iadd hX dX4_see_87 ?_
          refine g_putI hX hf fs_SlimeNetModel_315_5 ⟨_, rfl, Or.inl rfl⟩ rfl dX4_see_88 (fun A88 hf => ?_)
          refine g_aload_n hX dX4_see_91 (lg_at 0 rfl) ?_
          refine g_getI hX hf fs_SlimeNetModel_315_5 rfl dX4_see_92 (fun v92 hf => ?_)
          refine g_iconst hX dX4_see_95 (1 : Int32) (by decide) ?_
          refine g_isub hX dX4_see_96 ?_
          cases hf
          exact h_iret hM dX4_see_97 hr rfl rfl
        · refine g_bipush hX dX4_see_43 (-3 : Int32) (by decide) ?_
          cases hf
          exact h_iret hM dX4_see_45 hr rfl rfl
      · exact g_pick (w_f_X4_see_31 hM hf hr) [] rfl

theorem m_X4_see {l : Launch} {this : Nat} {x1 : Int32} {x2 : Int32} {x3 : Int32} {A : AH} {out : Int32 × AH} (h : f_X4_see this x1 x2 x3 A = some out) : MetF l yX4_see (Cond.code yX4_see cX4_see 4 (some Jvm.ClassFile.FieldType.int)) rm_X4_see [vr (some this), vi x1, vi x2, vi x3] A (r_X4_see A out) :=
  metF_of rfl rfl (Nat.le_of_ble_eq_true rfl) fun X hX hl hR hnm hr h1 h2 hno => w_f_X4_see (X := X) ⟨hX, hR, h1, h2, fun _ => ⟨hnm, hno⟩⟩ h hr

/-! SlimeNet.right(III)I -/
def rm_X0_right : Room := { frames := 3, cells := 0, slots := 0, locals := 67 }
def r_X0_right (_A : AH) (o : Int32 × AH) : (Option AV × AH) ⊕ (Nat × AH) := .inl (some (vi o.1), o.2)
def k_X0_right_102 (X : Ctx) (this : Nat) (x2 : Int32) (A : AH) : ((Int32 × Int32) ⊕ (Int32)) → Prop
  | .inl (x4, x5) => G X 0 0 102 [(0, vr (some this)), (2, vi x2), (4, vi x4), (5, vi x5)] [] A
  | .inr x4 => G X 0 0 138 [(4, vi x4)] [] A

set_option maxRecDepth 100000 in
theorem w_f_X0_right_36 {X : Ctx} (hM : MX X yX0_right cX0_right 6 "SlimeNet" (some Jvm.ClassFile.FieldType.int) rm_X0_right []) {A : AH} {out : Int32 × AH} (hf : f_X0_right_36 A = some out) (hr : c_res X = r_X0_right A out) : G X 0 0 36 [] [] A := by
  have hX := hM.1
  unfold f_X0_right_36 at hf
  refine g_bipush hX dX0_right_36 (-2 : Int32) (by decide) ?_
  cases hf
  exact h_iret hM dX0_right_38 hr rfl rfl

set_option maxRecDepth 100000 in
theorem w_f_X0_right_129 {X : Ctx} (hM : MX X yX0_right cX0_right 6 "SlimeNet" (some Jvm.ClassFile.FieldType.int) rm_X0_right []) {this : Nat} {x2 : Int32} {x5 : Int32} {t0 : Int32} {t1 : Int32} {A : AH} {out : (Int32 × Int32) ⊕ (Int32)} (hf : f_X0_right_129 this x2 x5 t0 t1 A = some out) (K : k_X0_right_102 X this x2 A out) : G X 0 0 129 [(0, vr (some this)), (2, vi x2), (5, vi x5)] [vi t0, vi t1] A := by
  have hX := hM.1
  unfold f_X0_right_129 at hf
  refine g_iadd hX dX0_right_129 ?_
  refine g_istore hX dX0_right_130 [(4, vi (t1 + t0)), (0, vr (some this)), (2, vi x2), (5, vi x5)] (by decide) rfl ?_
  refine g_iinc hX dX0_right_132 (1 : Int32) (x5 + (1 : Int32)) [(5, vi (x5 + (1 : Int32))), (4, vi (t1 + t0)), (0, vr (some this)), (2, vi x2)] (by decide) rfl (lg_at 3 rfl) (by decide) rfl ?_
  refine g_goto hX dX0_right_135 102 (by decide) ?_
  cases hf
  exact g_pick (show G X _ _ _ _ _ _ from K) [2, 3, 1, 0] rfl

set_option maxRecDepth 100000 in
theorem w_s_X0_right_102 {X : Ctx} (hM : MX X yX0_right cX0_right 6 "SlimeNet" (some Jvm.ClassFile.FieldType.int) rm_X0_right []) {this : Nat} {x2 : Int32} {A : AH} {st : Int32 × Int32} {out : (Int32 × Int32) ⊕ (Int32)} (hf : s_X0_right_102 this x2 A st = some out) (K : k_X0_right_102 X this x2 A out) : k_X0_right_102 X this x2 A (.inl st) := by
  have hX := hM.1
  obtain ⟨x4, x5⟩ := st
  unfold s_X0_right_102 at hf
  dsimp only at hf
  show G X 0 0 102 [(0, vr (some this)), (2, vi x2), (4, vi x4), (5, vi x5)] [] A
  refine g_iload hX dX0_right_102 (lg_at 3 rfl) ?_
  refine g_aload_n hX dX0_right_104 (lg_at 0 rfl) ?_
  refine g_getI hX hf fs_SlimeNet_130_1 rfl dX0_right_105 (fun v105 hf => ?_)
  refine g_icmp_ge hX dX0_right_108 138 hf (by decide) (fun c108 hf => ?_) (fun c108 hf => ?_)
  · cases hf
    exact g_pick (show G X _ _ _ _ _ _ from K) [2] rfl
  · refine g_iload hX dX0_right_111 (lg_at 2 rfl) ?_
    refine g_aload_n hX dX0_right_113 (lg_at 0 rfl) ?_
    refine g_getR hX hf fs_SlimeNet_77_1 rfl dX0_right_114 (fun v114 hf => ?_)
    refine g_iload hX dX0_right_117 (lg_at 3 rfl) ?_
    refine g_iald hX hf dX0_right_119 (fun v119 hf => ?_)
    refine g_iload_n hX dX0_right_120 (lg_at 1 rfl) ?_
    refine g_icmp_ne hX dX0_right_121 128 hf (by decide) (fun c121 hf => ?_) (fun c121 hf => ?_)
    · refine g_iconst hX dX0_right_128 (0 : Int32) (by decide) ?_
      exact g_pick (w_f_X0_right_129 hM hf K) [0, 1, 3] rfl
    · refine g_iconst hX dX0_right_124 (1 : Int32) (by decide) ?_
      refine g_goto hX dX0_right_125 129 (by decide) ?_
      exact g_pick (w_f_X0_right_129 hM hf K) [0, 1, 3] rfl

set_option maxRecDepth 100000 in
theorem w_l_X0_right_102 {X : Ctx} (hM : MX X yX0_right cX0_right 6 "SlimeNet" (some Jvm.ClassFile.FieldType.int) rm_X0_right []) {this : Nat} {x2 : Int32} {x4 : Int32} {x5 : Int32} {A : AH} {out : Int32 × AH} (hf : l_X0_right_102 this x2 x4 x5 A = some out) (hr : c_res X = r_X0_right A out) : G X 0 0 102 [(0, vr (some this)), (2, vi x2), (4, vi x4), (5, vi x5)] [] A := by
  have hX := hM.1
  unfold l_X0_right_102 at hf
  obtain ⟨e, hw, hf⟩ := ob_some hf
  refine (whl_ind (k_X0_right_102 X this x2 A) (fun st o hs K => w_s_X0_right_102 hM hs K) hw ?_ : k_X0_right_102 X this x2 A (.inl (x4, x5)))
  revert hf hw; generalize e = x4; intro hw hf
  dsimp only at hf
  show G X 0 0 138 [(4, vi x4)] [] A
  refine g_iload hX dX0_right_138 (lg_at 0 rfl) ?_
  cases hf
  exact h_iret hM dX0_right_140 hr rfl rfl

set_option maxRecDepth 100000 in
theorem w_f_X0_right {X : Ctx} (hM : MX X yX0_right cX0_right 6 "SlimeNet" (some Jvm.ClassFile.FieldType.int) rm_X0_right []) {this : Nat} {x1 : Int32} {x2 : Int32} {x3 : Int32} {A : AH} {out : Int32 × AH} (hf : f_X0_right this x1 x2 x3 A = some out) (hr : c_res X = r_X0_right A out) : G X 0 0 0 [(0, vr (some this)), (1, vi x1), (2, vi x2), (3, vi x3)] [] A := by
  have hX := hM.1
  unfold f_X0_right at hf
  refine g_iload_n hX dX0_right_0 (lg_at 1 rfl) ?_
  refine g_aload_n hX dX0_right_1 (lg_at 0 rfl) ?_
  refine g_getI hX hf fs_SlimeNet_133_1 rfl dX0_right_2 (fun v2 hf => ?_)
  refine g_sipush hX dX0_right_5 (999 : Int32) (by decide) ?_
  obtain ⟨v8, hc8, hf⟩ := ob_some hf
  refine h_callS hM [vi x1, vi v2, vi (999 : Int32)] dX0_right_8 cs_SlimeNet_153_s (m_X0_in hc8) rfl rfl rfl rfl ?_
  refine g_if_eq hX dX0_right_11 36 hf (by decide) (fun c11 hf => ?_) (fun c11 hf => ?_)
  · exact g_pick (w_f_X0_right_36 hM hf hr) [] rfl
  · refine g_iload_n hX dX0_right_14 (lg_at 2 rfl) ?_
    refine g_iconst hX dX0_right_15 (0 : Int32) (by decide) ?_
    refine g_aload_n hX dX0_right_16 (lg_at 0 rfl) ?_
    refine g_getI hX hf fs_SlimeNet_127_1 rfl dX0_right_17 (fun v17 hf => ?_)
    refine g_iconst hX dX0_right_20 (1 : Int32) (by decide) ?_
    refine g_isub hX dX0_right_21 ?_
    obtain ⟨v22, hc22, hf⟩ := ob_some hf
    refine h_callS hM [vi x2, vi (0 : Int32), vi (v17 - (1 : Int32))] dX0_right_22 cs_SlimeNet_153_s (m_X0_in hc22) rfl rfl rfl rfl ?_
    refine g_if_eq hX dX0_right_25 36 hf (by decide) (fun c25 hf => ?_) (fun c25 hf => ?_)
    · exact g_pick (w_f_X0_right_36 hM hf hr) [] rfl
    · refine g_aload_n hX dX0_right_28 (lg_at 0 rfl) ?_
      refine g_iload_n hX dX0_right_29 (lg_at 3 rfl) ?_
      obtain ⟨k30, hk30, hf⟩ := ob_some hf
      obtain ⟨v30, hc30, hf⟩ := ob_some hf
      refine h_callV hM [vi x3] dX0_right_30 cs_SlimeNet_296_1 hk30 (m_X0_isNet hc30) rfl rfl rfl rfl ?_
      refine g_if_ne hX dX0_right_33 39 hf (by decide) (fun c33 hf => ?_) (fun c33 hf => ?_)
      · refine g_aload_n hX dX0_right_39 (lg_at 0 rfl) ?_
        refine g_getI hX hf fs_SlimeNet_130_1 rfl dX0_right_40 (fun v40 hf => ?_)
        refine g_bipush hX dX0_right_43 (20 : Int32) (by decide) ?_
        refine g_icmp_ne hX dX0_right_45 51 hf (by decide) (fun c45 hf => ?_) (fun c45 hf => ?_)
        · refine g_aload_n hX dX0_right_51 (lg_at 0 rfl) ?_
          refine g_iload_n hX dX0_right_52 (lg_at 1 rfl) ?_
          refine g_putI hX hf fs_SlimeNet_133_1 ⟨_, rfl, Or.inl rfl⟩ rfl dX0_right_53 (fun A53 hf => ?_)
          refine g_aload_n hX dX0_right_56 (lg_at 0 rfl) ?_
          refine g_getR hX hf fs_SlimeNet_74_1 rfl dX0_right_57 (fun v57 hf => ?_)
          refine g_aload_n hX dX0_right_60 (lg_at 0 rfl) ?_
          refine g_getI hX hf fs_SlimeNet_130_1 rfl dX0_right_61 (fun v61 hf => ?_)
          refine g_iload_n hX dX0_right_64 (lg_at 1 rfl) ?_
          refine g_iast hX hf dX0_right_65 (fun A65 hf => ?_)
          refine g_aload_n hX dX0_right_66 (lg_at 0 rfl) ?_
          refine g_getR hX hf fs_SlimeNet_77_1 rfl dX0_right_67 (fun v67 hf => ?_)
          refine g_aload_n hX dX0_right_70 (lg_at 0 rfl) ?_
          refine g_getI hX hf fs_SlimeNet_130_1 rfl dX0_right_71 (fun v71 hf => ?_)
          refine g_iload_n hX dX0_right_74 (lg_at 2 rfl) ?_
          refine g_iast hX hf dX0_right_75 (fun A75 hf => ?_)
          refine g_aload_n hX dX0_right_76 (lg_at 0 rfl) ?_
          refine g_getR hX hf fs_SlimeNet_80_1 rfl dX0_right_77 (fun v77 hf => ?_)
          refine g_aload_n hX dX0_right_80 (lg_at 0 rfl) ?_
          refine g_getI hX hf fs_SlimeNet_130_1 rfl dX0_right_81 (fun v81 hf => ?_)
          refine g_iload_n hX dX0_right_84 (lg_at 3 rfl) ?_
          refine g_iast hX hf dX0_right_85 (fun A85 hf => ?_)
          refine g_aload_n hX dX0_right_86 (lg_at 0 rfl) ?_
          refine g_dup hX dX0_right_87 rfl ?_
          refine g_getI hX hf fs_SlimeNet_130_1 rfl dX0_right_88 (fun v88 hf => ?_)
          refine g_iconst hX dX0_right_91 (1 : Int32) (by decide) ?_
          refine g_iadd hX dX0_right_92 ?_
          refine g_putI hX hf fs_SlimeNet_130_1 ⟨_, rfl, Or.inl rfl⟩ rfl dX0_right_93 (fun A93 hf => ?_)
          refine g_iconst hX dX0_right_96 (0 : Int32) (by decide) ?_
          refine g_istore hX dX0_right_97 [(4, vi (0 : Int32)), (0, vr (some this)), (1, vi x1), (2, vi x2), (3, vi x3)] (by decide) rfl ?_
          refine g_iconst hX dX0_right_99 (0 : Int32) (by decide) ?_
          refine g_istore hX dX0_right_100 [(5, vi (0 : Int32)), (4, vi (0 : Int32)), (0, vr (some this)), (1, vi x1), (2, vi x2), (3, vi x3)] (by decide) rfl ?_
          exact g_pick (w_l_X0_right_102 hM hf hr) [2, 4, 1, 0] rfl
        · refine g_bipush hX dX0_right_48 (-3 : Int32) (by decide) ?_
          cases hf
          exact h_iret hM dX0_right_50 hr rfl rfl
      · exact g_pick (w_f_X0_right_36 hM hf hr) [] rfl

theorem m_X0_right {l : Launch} {this : Nat} {x1 : Int32} {x2 : Int32} {x3 : Int32} {A : AH} {out : Int32 × AH} (h : f_X0_right this x1 x2 x3 A = some out) : MetF l yX0_right (Cond.code yX0_right cX0_right 6 (some Jvm.ClassFile.FieldType.int)) rm_X0_right [vr (some this), vi x1, vi x2, vi x3] A (r_X0_right A out) :=
  metF_of rfl rfl (Nat.le_of_ble_eq_true rfl) fun X hX hl hR hnm hr h1 h2 hno => w_f_X0_right (X := X) ⟨hX, hR, h1, h2, fun _ => ⟨hnm, hno⟩⟩ h hr

/-! SlimeNetModel.right(III)I -/
def rm_X4_right : Room := { frames := 3, cells := 0, slots := 0, locals := 70 }
def r_X4_right (_A : AH) (o : Int32 × AH) : (Option AV × AH) ⊕ (Nat × AH) := .inl (some (vi o.1), o.2)
def k_X4_right_106 (X : Ctx) (this : Nat) (x2 : Int32) (A : AH) : ((Int32 × Int32) ⊕ (Int32)) → Prop
  | .inl (x4, x5) => G X 0 0 106 [(0, vr (some this)), (2, vi x2), (4, vi x4), (5, vi x5)] [] A
  | .inr x4 => G X 0 0 142 [(4, vi x4)] [] A

set_option maxRecDepth 100000 in
theorem w_f_X4_right_40 {X : Ctx} (hM : MX X yX4_right cX4_right 6 "SlimeNetModel" (some Jvm.ClassFile.FieldType.int) rm_X4_right []) {A : AH} {out : Int32 × AH} (hf : f_X4_right_40 A = some out) (hr : c_res X = r_X4_right A out) : G X 0 0 40 [] [] A := by
  have hX := hM.1
  unfold f_X4_right_40 at hf
  refine g_bipush hX dX4_right_40 (-2 : Int32) (by decide) ?_
  cases hf
  exact h_iret hM dX4_right_42 hr rfl rfl

set_option maxRecDepth 100000 in
theorem w_f_X4_right_133 {X : Ctx} (hM : MX X yX4_right cX4_right 6 "SlimeNetModel" (some Jvm.ClassFile.FieldType.int) rm_X4_right []) {this : Nat} {x2 : Int32} {x5 : Int32} {t0 : Int32} {t1 : Int32} {A : AH} {out : (Int32 × Int32) ⊕ (Int32)} (hf : f_X4_right_133 this x2 x5 t0 t1 A = some out) (K : k_X4_right_106 X this x2 A out) : G X 0 0 133 [(0, vr (some this)), (2, vi x2), (5, vi x5)] [vi t0, vi t1] A := by
  have hX := hM.1
  unfold f_X4_right_133 at hf
  refine g_iadd hX dX4_right_133 ?_
  refine g_istore hX dX4_right_134 [(4, vi (t1 + t0)), (0, vr (some this)), (2, vi x2), (5, vi x5)] (by decide) rfl ?_
  refine g_iinc hX dX4_right_136 (1 : Int32) (x5 + (1 : Int32)) [(5, vi (x5 + (1 : Int32))), (4, vi (t1 + t0)), (0, vr (some this)), (2, vi x2)] (by decide) rfl (lg_at 3 rfl) (by decide) rfl ?_
  refine g_goto hX dX4_right_139 106 (by decide) ?_
  cases hf
  exact g_pick (show G X _ _ _ _ _ _ from K) [2, 3, 1, 0] rfl

set_option maxRecDepth 100000 in
theorem w_s_X4_right_106 {X : Ctx} (hM : MX X yX4_right cX4_right 6 "SlimeNetModel" (some Jvm.ClassFile.FieldType.int) rm_X4_right []) {this : Nat} {x2 : Int32} {A : AH} {st : Int32 × Int32} {out : (Int32 × Int32) ⊕ (Int32)} (hf : s_X4_right_106 this x2 A st = some out) (K : k_X4_right_106 X this x2 A out) : k_X4_right_106 X this x2 A (.inl st) := by
  have hX := hM.1
  obtain ⟨x4, x5⟩ := st
  unfold s_X4_right_106 at hf
  dsimp only at hf
  show G X 0 0 106 [(0, vr (some this)), (2, vi x2), (4, vi x4), (5, vi x5)] [] A
  refine g_iload hX dX4_right_106 (lg_at 3 rfl) ?_
  refine g_aload_n hX dX4_right_108 (lg_at 0 rfl) ?_
  refine g_getI hX hf fs_SlimeNetModel_318_5 rfl dX4_right_109 (fun v109 hf => ?_)
  refine g_icmp_ge hX dX4_right_112 142 hf (by decide) (fun c112 hf => ?_) (fun c112 hf => ?_)
  · cases hf
    exact g_pick (show G X _ _ _ _ _ _ from K) [2] rfl
  · refine g_iload hX dX4_right_115 (lg_at 2 rfl) ?_
    refine g_aload_n hX dX4_right_117 (lg_at 0 rfl) ?_
    refine g_getR hX hf fs_SlimeNetModel_269_5 rfl dX4_right_118 (fun v118 hf => ?_)
    refine g_iload hX dX4_right_121 (lg_at 3 rfl) ?_
    refine g_iald hX hf dX4_right_123 (fun v123 hf => ?_)
    refine g_iload_n hX dX4_right_124 (lg_at 1 rfl) ?_
    refine g_icmp_ne hX dX4_right_125 132 hf (by decide) (fun c125 hf => ?_) (fun c125 hf => ?_)
    · refine g_iconst hX dX4_right_132 (0 : Int32) (by decide) ?_
      exact g_pick (w_f_X4_right_133 hM hf K) [0, 1, 3] rfl
    · refine g_iconst hX dX4_right_128 (1 : Int32) (by decide) ?_
      refine g_goto hX dX4_right_129 133 (by decide) ?_
      exact g_pick (w_f_X4_right_133 hM hf K) [0, 1, 3] rfl

set_option maxRecDepth 100000 in
theorem w_l_X4_right_106 {X : Ctx} (hM : MX X yX4_right cX4_right 6 "SlimeNetModel" (some Jvm.ClassFile.FieldType.int) rm_X4_right []) {this : Nat} {x2 : Int32} {x4 : Int32} {x5 : Int32} {A : AH} {out : Int32 × AH} (hf : l_X4_right_106 this x2 x4 x5 A = some out) (hr : c_res X = r_X4_right A out) : G X 0 0 106 [(0, vr (some this)), (2, vi x2), (4, vi x4), (5, vi x5)] [] A := by
  have hX := hM.1
  unfold l_X4_right_106 at hf
  obtain ⟨e, hw, hf⟩ := ob_some hf
  refine (whl_ind (k_X4_right_106 X this x2 A) (fun st o hs K => w_s_X4_right_106 hM hs K) hw ?_ : k_X4_right_106 X this x2 A (.inl (x4, x5)))
  revert hf hw; generalize e = x4; intro hw hf
  dsimp only at hf
  show G X 0 0 142 [(4, vi x4)] [] A
  refine g_iload hX dX4_right_142 (lg_at 0 rfl) ?_
  cases hf
  exact h_iret hM dX4_right_144 hr rfl rfl

set_option maxRecDepth 100000 in
theorem w_f_X4_right {X : Ctx} (hM : MX X yX4_right cX4_right 6 "SlimeNetModel" (some Jvm.ClassFile.FieldType.int) rm_X4_right []) {this : Nat} {x1 : Int32} {x2 : Int32} {x3 : Int32} {A : AH} {out : Int32 × AH} (hf : f_X4_right this x1 x2 x3 A = some out) (hr : c_res X = r_X4_right A out) : G X 0 0 0 [(0, vr (some this)), (1, vi x1), (2, vi x2), (3, vi x3)] [] A := by
  have hX := hM.1
  unfold f_X4_right at hf
  refine g_iload_n hX dX4_right_0 (lg_at 1 rfl) ?_
  refine g_i2l hX dX4_right_1 ?_
  refine g_aload_n hX dX4_right_2 (lg_at 0 rfl) ?_
  refine g_getI hX hf fs_SlimeNetModel_321_5 rfl dX4_right_3 (fun v3 hf => ?_)
  refine g_i2l hX dX4_right_6 ?_
  refine g_ldc2 hX dX4_right_7 (v := (999 : Int64)) (lw_LW q1538) ?_
  obtain ⟨v10, hc10, hf⟩ := ob_some hf
  refine h_callS hM [vl (Int32.toInt64 x1), vl (Int32.toInt64 v3), vl (999 : Int64)] dX4_right_10 cs_SlimeNetModel_52_s (m_X4_in hc10) rfl rfl rfl rfl ?_
  refine g_if_eq hX dX4_right_13 40 hf (by decide) (fun c13 hf => ?_) (fun c13 hf => ?_)
  · exact g_pick (w_f_X4_right_40 hM hf hr) [] rfl
  · refine g_iload_n hX dX4_right_16 (lg_at 2 rfl) ?_
    refine g_i2l hX dX4_right_17 ?_
    refine g_lconst hX dX4_right_18 (0 : Int64) (by decide) ?_
    refine g_aload_n hX dX4_right_19 (lg_at 0 rfl) ?_
    refine g_getI hX hf fs_SlimeNetModel_315_5 rfl dX4_right_20 (fun v20 hf => ?_)
    refine g_i2l hX dX4_right_23 ?_
    refine g_lconst hX dX4_right_24 (1 : Int64) (by decide) ?_
    refine g_lsub hX dX4_right_25 ?_
    obtain ⟨v26, hc26, hf⟩ := ob_some hf
    refine h_callS hM [vl (Int32.toInt64 x2), vl (0 : Int64), vl ((Int32.toInt64 v20) - (1 : Int64))] dX4_right_26 cs_SlimeNetModel_52_s (m_X4_in hc26) rfl rfl rfl rfl ?_
    refine g_if_eq hX dX4_right_29 40 hf (by decide) (fun c29 hf => ?_) (fun c29 hf => ?_)
    · exact g_pick (w_f_X4_right_40 hM hf hr) [] rfl
    · refine g_aload_n hX dX4_right_32 (lg_at 0 rfl) ?_
      refine g_iload_n hX dX4_right_33 (lg_at 3 rfl) ?_
      obtain ⟨k34, hk34, hf⟩ := ob_some hf
      obtain ⟨v34, hc34, hf⟩ := ob_some hf
      refine h_callV hM [vi x3] dX4_right_34 cs_SlimeNetModel_425_5 hk34 (m_X4_isNet hc34) rfl rfl rfl rfl ?_
      refine g_if_ne hX dX4_right_37 43 hf (by decide) (fun c37 hf => ?_) (fun c37 hf => ?_)
      · refine g_aload_n hX dX4_right_43 (lg_at 0 rfl) ?_
        refine g_getI hX hf fs_SlimeNetModel_318_5 rfl dX4_right_44 (fun v44 hf => ?_)
        refine g_bipush hX dX4_right_47 (20 : Int32) (by decide) ?_
        refine g_icmp_ne hX dX4_right_49 55 hf (by decide) (fun c49 hf => ?_) (fun c49 hf => ?_)
        · refine g_aload_n hX dX4_right_55 (lg_at 0 rfl) ?_
          refine g_iload_n hX dX4_right_56 (lg_at 1 rfl) ?_
          refine g_putI hX hf fs_SlimeNetModel_321_5 ⟨_, rfl, Or.inl rfl⟩ rfl dX4_right_57 (fun A57 hf => ?_)
          refine g_aload_n hX dX4_right_60 (lg_at 0 rfl) ?_
          refine g_getR hX hf fs_SlimeNetModel_269_5 rfl dX4_right_61 (fun v61 hf => ?_)
          refine g_aload_n hX dX4_right_64 (lg_at 0 rfl) ?_
          refine g_getI hX hf fs_SlimeNetModel_318_5 rfl dX4_right_65 (fun v65 hf => ?_)
          refine g_iload_n hX dX4_right_68 (lg_at 2 rfl) ?_
          refine g_iast hX hf dX4_right_69 (fun A69 hf => ?_)
          refine g_aload_n hX dX4_right_70 (lg_at 0 rfl) ?_
          refine g_getR hX hf fs_SlimeNetModel_272_5 rfl dX4_right_71 (fun v71 hf => ?_)
          refine g_aload_n hX dX4_right_74 (lg_at 0 rfl) ?_
          refine g_getI hX hf fs_SlimeNetModel_318_5 rfl dX4_right_75 (fun v75 hf => ?_)
          refine g_iload_n hX dX4_right_78 (lg_at 3 rfl) ?_
          refine g_iast hX hf dX4_right_79 (fun A79 hf => ?_)
          refine g_aload_n hX dX4_right_80 (lg_at 0 rfl) ?_
          refine g_getR hX hf fs_SlimeNetModel_275_5 rfl dX4_right_81 (fun v81 hf => ?_)
          refine g_aload_n hX dX4_right_84 (lg_at 0 rfl) ?_
          refine g_getI hX hf fs_SlimeNetModel_318_5 rfl dX4_right_85 (fun v85 hf => ?_)
          refine g_iload_n hX dX4_right_88 (lg_at 1 rfl) ?_
          refine g_iast hX hf dX4_right_89 (fun A89 hf => ?_)
          refine g_aload_n hX dX4_right_90 (lg_at 0 rfl) ?_
          refine g_dup hX dX4_right_91 rfl ?_
          refine g_getI hX hf fs_SlimeNetModel_318_5 rfl dX4_right_92 (fun v92 hf => ?_)
          refine g_iconst hX dX4_right_95 (1 : Int32) (by decide) ?_
          refine g_iadd hX dX4_right_96 ?_
          refine g_putI hX hf fs_SlimeNetModel_318_5 ⟨_, rfl, Or.inl rfl⟩ rfl dX4_right_97 (fun A97 hf => ?_)
          refine g_iconst hX dX4_right_100 (0 : Int32) (by decide) ?_
          refine g_istore hX dX4_right_101 [(4, vi (0 : Int32)), (0, vr (some this)), (1, vi x1), (2, vi x2), (3, vi x3)] (by decide) rfl ?_
          refine g_iconst hX dX4_right_103 (0 : Int32) (by decide) ?_
          refine g_istore hX dX4_right_104 [(5, vi (0 : Int32)), (4, vi (0 : Int32)), (0, vr (some this)), (1, vi x1), (2, vi x2), (3, vi x3)] (by decide) rfl ?_
          exact g_pick (w_l_X4_right_106 hM hf hr) [2, 4, 1, 0] rfl
        · refine g_bipush hX dX4_right_52 (-3 : Int32) (by decide) ?_
          cases hf
          exact h_iret hM dX4_right_54 hr rfl rfl
      · exact g_pick (w_f_X4_right_40 hM hf hr) [] rfl

theorem m_X4_right {l : Launch} {this : Nat} {x1 : Int32} {x2 : Int32} {x3 : Int32} {A : AH} {out : Int32 × AH} (h : f_X4_right this x1 x2 x3 A = some out) : MetF l yX4_right (Cond.code yX4_right cX4_right 6 (some Jvm.ClassFile.FieldType.int)) rm_X4_right [vr (some this), vi x1, vi x2, vi x3] A (r_X4_right A out) :=
  metF_of rfl rfl (Nat.le_of_ble_eq_true rfl) fun X hX hl hR hnm hr h1 h2 hno => w_f_X4_right (X := X) ⟨hX, hR, h1, h2, fun _ => ⟨hnm, hno⟩⟩ h hr

/-! SlimeNet.know(I)V -/
def rm_X0_know : Room := { frames := 2, cells := 0, slots := 0, locals := 47 }
def r_X0_know (_A : AH) (o : AH) : (Option AV × AH) ⊕ (Nat × AH) := .inl (none, o)
def k_X0_know_10 (X : Ctx) (this : Nat) (x1 : Int32) : ((Int32 × AH) ⊕ (AH)) → Prop
  | .inl (x2, A) => G X 0 0 10 [(0, vr (some this)), (1, vi x1), (2, vi x2)] [] A
  | .inr A => G X 0 0 135 [] [] A

def k_X0_know_41 (X : Ctx) (this : Nat) (x1 : Int32) (x2 : Int32) (A : AH) : ((Int32 × Int32) ⊕ (Int32)) → Prop
  | .inl (x3, x4) => G X 0 0 41 [(0, vr (some this)), (1, vi x1), (2, vi x2), (3, vi x3), (4, vi x4)] [] A
  | .inr x3 => G X 0 0 86 [(0, vr (some this)), (1, vi x1), (2, vi x2), (3, vi x3)] [] A

set_option maxRecDepth 100000 in
theorem w_f_X0_know_80 {X : Ctx} (hM : MX X yX0_know cX0_know 5 "SlimeNet" none rm_X0_know []) {this : Nat} {x1 : Int32} {x2 : Int32} {x3 : Int32} {x4 : Int32} {A : AH} {out : (Int32 × Int32) ⊕ (Int32)} (hf : f_X0_know_80 this x1 x2 x3 x4 A = some out) (K : k_X0_know_41 X this x1 x2 A out) : G X 0 0 80 [(0, vr (some this)), (1, vi x1), (2, vi x2), (3, vi x3), (4, vi x4)] [] A := by
  have hX := hM.1
  unfold f_X0_know_80 at hf
  refine g_iinc hX dX0_know_80 (1 : Int32) (x4 + (1 : Int32)) [(4, vi (x4 + (1 : Int32))), (0, vr (some this)), (1, vi x1), (2, vi x2), (3, vi x3)] (by decide) rfl (lg_at 4 rfl) (by decide) rfl ?_
  refine g_goto hX dX0_know_83 41 (by decide) ?_
  cases hf
  exact g_pick (show G X _ _ _ _ _ _ from K) [1, 2, 3, 4, 0] rfl

set_option maxRecDepth 100000 in
theorem w_f_X0_know_129 {X : Ctx} (hM : MX X yX0_know cX0_know 5 "SlimeNet" none rm_X0_know []) {this : Nat} {x1 : Int32} {x2 : Int32} {A : AH} {out : (Int32 × AH) ⊕ (AH)} (hf : f_X0_know_129 this x1 x2 A = some out) (K : k_X0_know_10 X this x1 out) : G X 0 0 129 [(0, vr (some this)), (1, vi x1), (2, vi x2)] [] A := by
  have hX := hM.1
  unfold f_X0_know_129 at hf
  refine g_iinc hX dX0_know_129 (1 : Int32) (x2 + (1 : Int32)) [(2, vi (x2 + (1 : Int32))), (0, vr (some this)), (1, vi x1)] (by decide) rfl (lg_at 2 rfl) (by decide) rfl ?_
  refine g_goto hX dX0_know_132 10 (by decide) ?_
  cases hf
  exact g_pick (show G X _ _ _ _ _ _ from K) [1, 2, 0] rfl

set_option maxRecDepth 100000 in
theorem w_f_X0_know_128 {X : Ctx} (hM : MX X yX0_know cX0_know 5 "SlimeNet" none rm_X0_know []) {this : Nat} {x1 : Int32} {x2 : Int32} {t0 : Int32} {t1 : Int32} {t2 : Option Nat} {A : AH} {out : (Int32 × AH) ⊕ (AH)} (hf : f_X0_know_128 this x1 x2 t0 t1 t2 A = some out) (K : k_X0_know_10 X this x1 out) : G X 0 0 128 [(0, vr (some this)), (1, vi x1), (2, vi x2)] [vi t0, vi t1, vr t2] A := by
  have hX := hM.1
  unfold f_X0_know_128 at hf
  refine g_iast hX hf dX0_know_128 (fun A128 hf => ?_)
  exact g_pick (w_f_X0_know_129 hM hf K) [0, 1, 2] rfl

set_option maxRecDepth 100000 in
theorem w_f_X0_know_122 {X : Ctx} (hM : MX X yX0_know cX0_know 5 "SlimeNet" none rm_X0_know []) {this : Nat} {x1 : Int32} {x2 : Int32} {x3 : Int32} {t0 : Int32} {t1 : Option Nat} {A : AH} {out : (Int32 × AH) ⊕ (AH)} (hf : f_X0_know_122 this x1 x2 x3 t0 t1 A = some out) (K : k_X0_know_10 X this x1 out) : G X 0 0 122 [(0, vr (some this)), (1, vi x1), (2, vi x2), (3, vi x3)] [vi t0, vr t1] A := by
  have hX := hM.1
  unfold f_X0_know_122 at hf
  refine g_iload_n hX dX0_know_122 (lg_at 3 rfl) ?_
  refine g_goto hX dX0_know_123 128 (by decide) ?_
  exact g_pick (w_f_X0_know_128 hM hf K) [0, 1, 2] rfl

set_option maxRecDepth 100000 in
theorem w_s_X0_know_41 {X : Ctx} (hM : MX X yX0_know cX0_know 5 "SlimeNet" none rm_X0_know []) {this : Nat} {x1 : Int32} {x2 : Int32} {A : AH} {st : Int32 × Int32} {out : (Int32 × Int32) ⊕ (Int32)} (hf : s_X0_know_41 this x1 x2 A st = some out) (K : k_X0_know_41 X this x1 x2 A out) : k_X0_know_41 X this x1 x2 A (.inl st) := by
  have hX := hM.1
  obtain ⟨x3, x4⟩ := st
  unfold s_X0_know_41 at hf
  dsimp only at hf
  show G X 0 0 41 [(0, vr (some this)), (1, vi x1), (2, vi x2), (3, vi x3), (4, vi x4)] [] A
  refine g_iload hX dX0_know_41 (lg_at 4 rfl) ?_
  refine g_aload_n hX dX0_know_43 (lg_at 0 rfl) ?_
  refine g_getI hX hf fs_SlimeNet_130_1 rfl dX0_know_44 (fun v44 hf => ?_)
  refine g_icmp_ge hX dX0_know_47 86 hf (by decide) (fun c47 hf => ?_) (fun c47 hf => ?_)
  · cases hf
    exact g_pick (show G X _ _ _ _ _ _ from K) [0, 1, 2, 3] rfl
  · refine g_aload_n hX dX0_know_50 (lg_at 0 rfl) ?_
    refine g_getR hX hf fs_SlimeNet_77_1 rfl dX0_know_51 (fun v51 hf => ?_)
    refine g_iload hX dX0_know_54 (lg_at 4 rfl) ?_
    refine g_iald hX hf dX0_know_56 (fun v56 hf => ?_)
    refine g_iload_n hX dX0_know_57 (lg_at 2 rfl) ?_
    refine g_icmp_ne hX dX0_know_58 80 hf (by decide) (fun c58 hf => ?_) (fun c58 hf => ?_)
    · exact g_pick (w_f_X0_know_80 hM hf K) [0, 1, 2, 3, 4] rfl
    · refine g_aload_n hX dX0_know_61 (lg_at 0 rfl) ?_
      refine g_getR hX hf fs_SlimeNet_74_1 rfl dX0_know_62 (fun v62 hf => ?_)
      refine g_iload hX dX0_know_65 (lg_at 4 rfl) ?_
      refine g_iald hX hf dX0_know_67 (fun v67 hf => ?_)
      refine g_iload_n hX dX0_know_68 (lg_at 1 rfl) ?_
      refine g_icmp_gt hX dX0_know_69 80 hf (by decide) (fun c69 hf => ?_) (fun c69 hf => ?_)
      · exact g_pick (w_f_X0_know_80 hM hf K) [0, 1, 2, 3, 4] rfl
      · refine g_aload_n hX dX0_know_72 (lg_at 0 rfl) ?_
        refine g_getR hX hf fs_SlimeNet_80_1 rfl dX0_know_73 (fun v73 hf => ?_)
        refine g_iload hX dX0_know_76 (lg_at 4 rfl) ?_
        refine g_iald hX hf dX0_know_78 (fun v78 hf => ?_)
        refine g_istore_n hX dX0_know_79 [(3, vi v78), (0, vr (some this)), (1, vi x1), (2, vi x2), (4, vi x4)] (by decide) rfl ?_
        exact g_pick (w_f_X0_know_80 hM hf K) [1, 2, 3, 0, 4] rfl

set_option maxRecDepth 100000 in
theorem w_l_X0_know_41 {X : Ctx} (hM : MX X yX0_know cX0_know 5 "SlimeNet" none rm_X0_know []) {this : Nat} {x1 : Int32} {x2 : Int32} {x3 : Int32} {x4 : Int32} {A : AH} {out : (Int32 × AH) ⊕ (AH)} (hf : l_X0_know_41 this x1 x2 x3 x4 A = some out) (K : k_X0_know_10 X this x1 out) : G X 0 0 41 [(0, vr (some this)), (1, vi x1), (2, vi x2), (3, vi x3), (4, vi x4)] [] A := by
  have hX := hM.1
  unfold l_X0_know_41 at hf
  obtain ⟨e, hw, hf⟩ := ob_some hf
  refine (whl_ind (k_X0_know_41 X this x1 x2 A) (fun st o hs K => w_s_X0_know_41 hM hs K) hw ?_ : k_X0_know_41 X this x1 x2 A (.inl (x3, x4)))
  revert hf hw; generalize e = x3; intro hw hf
  dsimp only at hf
  show G X 0 0 86 [(0, vr (some this)), (1, vi x1), (2, vi x2), (3, vi x3)] [] A
  refine g_aload_n hX dX0_know_86 (lg_at 0 rfl) ?_
  refine g_getR hX hf fs_SlimeNet_68_1 rfl dX0_know_87 (fun v87 hf => ?_)
  refine g_iload_n hX dX0_know_90 (lg_at 2 rfl) ?_
  refine g_iald hX hf dX0_know_91 (fun v91 hf => ?_)
  refine g_istore hX dX0_know_92 [(4, vi v91), (0, vr (some this)), (1, vi x1), (2, vi x2), (3, vi x3)] (by decide) rfl ?_
  refine g_aload_n hX dX0_know_94 (lg_at 1 rfl) ?_
  refine g_getR hX hf fs_SlimeNet_83_1 rfl dX0_know_95 (fun v95 hf => ?_)
  refine g_iload hX dX0_know_98 (lg_at 0 rfl) ?_
  refine g_aload_n hX dX0_know_100 (lg_at 1 rfl) ?_
  refine g_getR hX hf fs_SlimeNet_83_1 rfl dX0_know_101 (fun v101 hf => ?_)
  refine g_iload hX dX0_know_104 (lg_at 0 rfl) ?_
  refine g_iald hX hf dX0_know_106 (fun v106 hf => ?_)
  refine g_iconst hX dX0_know_107 (-1 : Int32) (by decide) ?_
  refine g_icmp_eq hX dX0_know_108 122 hf (by decide) (fun c108 hf => ?_) (fun c108 hf => ?_)
  · exact g_pick (w_f_X0_know_122 hM hf K) [1, 2, 3, 4] rfl
  · refine g_aload_n hX dX0_know_111 (lg_at 1 rfl) ?_
    refine g_getR hX hf fs_SlimeNet_83_1 rfl dX0_know_112 (fun v112 hf => ?_)
    refine g_iload hX dX0_know_115 (lg_at 0 rfl) ?_
    refine g_iald hX hf dX0_know_117 (fun v117 hf => ?_)
    refine g_iload_n hX dX0_know_118 (lg_at 4 rfl) ?_
    refine g_icmp_ne hX dX0_know_119 126 hf (by decide) (fun c119 hf => ?_) (fun c119 hf => ?_)
    · refine g_bipush hX dX0_know_126 (-2 : Int32) (by decide) ?_
      exact g_pick (w_f_X0_know_128 hM hf K) [1, 2, 3] rfl
    · exact g_pick (w_f_X0_know_122 hM hf K) [1, 2, 3, 4] rfl

set_option maxRecDepth 100000 in
theorem w_s_X0_know_10 {X : Ctx} (hM : MX X yX0_know cX0_know 5 "SlimeNet" none rm_X0_know []) {this : Nat} {x1 : Int32} {st : Int32 × AH} {out : (Int32 × AH) ⊕ (AH)} (hf : s_X0_know_10 this x1 st = some out) (K : k_X0_know_10 X this x1 out) : k_X0_know_10 X this x1 (.inl st) := by
  have hX := hM.1
  obtain ⟨x2, A⟩ := st
  unfold s_X0_know_10 at hf
  dsimp only at hf
  show G X 0 0 10 [(0, vr (some this)), (1, vi x1), (2, vi x2)] [] A
  refine g_iload_n hX dX0_know_10 (lg_at 2 rfl) ?_
  refine g_aload_n hX dX0_know_11 (lg_at 0 rfl) ?_
  refine g_getI hX hf fs_SlimeNet_127_1 rfl dX0_know_12 (fun v12 hf => ?_)
  refine g_icmp_ge hX dX0_know_15 135 hf (by decide) (fun c15 hf => ?_) (fun c15 hf => ?_)
  · cases hf
    exact g_pick (show G X _ _ _ _ _ _ from K) [] rfl
  · refine g_aload_n hX dX0_know_18 (lg_at 0 rfl) ?_
    refine g_getR hX hf fs_SlimeNet_65_1 rfl dX0_know_19 (fun v19 hf => ?_)
    refine g_iload_n hX dX0_know_22 (lg_at 2 rfl) ?_
    refine g_iald hX hf dX0_know_23 (fun v23 hf => ?_)
    refine g_iload_n hX dX0_know_24 (lg_at 1 rfl) ?_
    refine g_icmp_le hX dX0_know_25 31 hf (by decide) (fun c25 hf => ?_) (fun c25 hf => ?_)
    · refine g_aload_n hX dX0_know_31 (lg_at 0 rfl) ?_
      refine g_getR hX hf fs_SlimeNet_71_1 rfl dX0_know_32 (fun v32 hf => ?_)
      refine g_iload_n hX dX0_know_35 (lg_at 2 rfl) ?_
      refine g_iald hX hf dX0_know_36 (fun v36 hf => ?_)
      refine g_istore_n hX dX0_know_37 [(3, vi v36), (0, vr (some this)), (1, vi x1), (2, vi x2)] (by decide) rfl ?_
      refine g_iconst hX dX0_know_38 (0 : Int32) (by decide) ?_
      refine g_istore hX dX0_know_39 [(4, vi (0 : Int32)), (3, vi v36), (0, vr (some this)), (1, vi x1), (2, vi x2)] (by decide) rfl ?_
      exact g_pick (w_l_X0_know_41 hM hf K) [2, 3, 4, 1, 0] rfl
    · refine g_goto hX dX0_know_28 129 (by decide) ?_
      exact g_pick (w_f_X0_know_129 hM hf K) [0, 1, 2] rfl

set_option maxRecDepth 100000 in
theorem w_l_X0_know_10 {X : Ctx} (hM : MX X yX0_know cX0_know 5 "SlimeNet" none rm_X0_know []) {this : Nat} {x1 : Int32} {x2 : Int32} {A : AH} {out : AH} (hf : l_X0_know_10 this x1 x2 A = some out) (hr : c_res X = r_X0_know A out) : G X 0 0 10 [(0, vr (some this)), (1, vi x1), (2, vi x2)] [] A := by
  have hX := hM.1
  unfold l_X0_know_10 at hf
  obtain ⟨e, hw, hf⟩ := ob_some hf
  refine (whl_ind (k_X0_know_10 X this x1) (fun st o hs K => w_s_X0_know_10 hM hs K) hw ?_ : k_X0_know_10 X this x1 (.inl (x2, A)))
  revert hf hw; generalize e = A; intro hw hf
  dsimp only at hf
  show G X 0 0 135 [] [] A
  cases hf
  exact h_vret hM dX0_know_135 hr rfl rfl

set_option maxRecDepth 100000 in
theorem w_f_X0_know {X : Ctx} (hM : MX X yX0_know cX0_know 5 "SlimeNet" none rm_X0_know []) {this : Nat} {x1 : Int32} {A : AH} {out : AH} (hf : f_X0_know this x1 A = some out) (hr : c_res X = r_X0_know A out) : G X 0 0 0 [(0, vr (some this)), (1, vi x1)] [] A := by
  have hX := hM.1
  unfold f_X0_know at hf
  refine g_aload_n hX dX0_know_0 (lg_at 0 rfl) ?_
  refine g_getR hX hf fs_SlimeNet_83_1 rfl dX0_know_1 (fun v1 hf => ?_)
  refine g_iconst hX dX0_know_4 (-1 : Int32) (by decide) ?_
  obtain ⟨A5, hc5, hf⟩ := ob_some hf
  refine h_callS hM [vr v1, vi (-1 : Int32)] dX0_know_5 cs_SlimeNet_257_s (m_J12_fill_3 hc5) rfl rfl rfl rfl ?_
  refine g_iconst hX dX0_know_8 (0 : Int32) (by decide) ?_
  refine g_istore_n hX dX0_know_9 [(2, vi (0 : Int32)), (0, vr (some this)), (1, vi x1)] (by decide) rfl ?_
  exact g_pick (w_l_X0_know_10 hM hf hr) [1, 2, 0] rfl

theorem m_X0_know {l : Launch} {this : Nat} {x1 : Int32} {A : AH} {out : AH} (h : f_X0_know this x1 A = some out) : MetF l yX0_know (Cond.code yX0_know cX0_know 5 none) rm_X0_know [vr (some this), vi x1] A (r_X0_know A out) :=
  metF_of rfl rfl (Nat.le_of_ble_eq_true rfl) fun X hX hl hR hnm hr h1 h2 hno => w_f_X0_know (X := X) ⟨hX, hR, h1, h2, fun _ => ⟨hnm, hno⟩⟩ h hr

/-! SlimeNet.findFits(II)V -/
def rm_X0_findFits : Room := { frames := 14, cells := 0, slots := 0, locals := 1127 }
def r_X0_findFits (_A : AH) (o : AH) : (Option AV × AH) ⊕ (Nat × AH) := .inl (none, o)
def k_X0_findFits_10 (X : Ctx) (this : Nat) (A : AH) : ((Int32 × Int32) ⊕ (Int32)) → Prop
  | .inl (x3, x4) => G X 0 0 10 [(0, vr (some this)), (3, vi x3), (4, vi x4)] [] A
  | .inr x3 => G X 0 0 41 [(0, vr (some this)), (3, vi x3)] [] A

def k_X0_findFits_49 (X : Ctx) (this : Nat) (x3 : Int32) : ((Int32 × AH) ⊕ (AH)) → Prop
  | .inl (x4, A) => G X 0 0 49 [(0, vr (some this)), (3, vi x3), (4, vi x4)] [] A
  | .inr A => G X 0 0 213 [] [] A

def k_X0_findFits_98 (X : Ctx) (this : Nat) (x3 : Int32) (x4 : Int32) : ((Int32 × Int32 × AH) ⊕ (Int32 × AH)) → Prop
  | .inl (x5, x6, A) => G X 0 0 98 [(0, vr (some this)), (3, vi x3), (4, vi x4), (5, vi x5), (6, vi x6)] [] A
  | .inr (x5, A) => G X 0 0 178 [(0, vr (some this)), (3, vi x3), (4, vi x4), (5, vi x5)] [] A

set_option maxRecDepth 100000 in
theorem w_f_X0_findFits_35 {X : Ctx} (hM : MX X yX0_findFits cX0_findFits 8 "SlimeNet" none rm_X0_findFits []) {this : Nat} {x3 : Int32} {x4 : Int32} {A : AH} {out : (Int32 × Int32) ⊕ (Int32)} (hf : f_X0_findFits_35 this x3 x4 A = some out) (K : k_X0_findFits_10 X this A out) : G X 0 0 35 [(0, vr (some this)), (3, vi x3), (4, vi x4)] [] A := by
  have hX := hM.1
  unfold f_X0_findFits_35 at hf
  refine g_iinc hX dX0_findFits_35 (1 : Int32) (x4 + (1 : Int32)) [(4, vi (x4 + (1 : Int32))), (0, vr (some this)), (3, vi x3)] (by decide) rfl (lg_at 2 rfl) (by decide) rfl ?_
  refine g_goto hX dX0_findFits_38 10 (by decide) ?_
  cases hf
  exact g_pick (show G X _ _ _ _ _ _ from K) [1, 2, 0] rfl

set_option maxRecDepth 100000 in
theorem w_f_X0_findFits_163 {X : Ctx} (hM : MX X yX0_findFits cX0_findFits 8 "SlimeNet" none rm_X0_findFits []) {this : Nat} {x3 : Int32} {x4 : Int32} {x6 : Int32} {t0 : Int32} {A : AH} {out : (Int32 × Int32 × AH) ⊕ (Int32 × AH)} (hf : f_X0_findFits_163 this x3 x4 x6 t0 A = some out) (K : k_X0_findFits_98 X this x3 x4 out) : G X 0 0 163 [(0, vr (some this)), (3, vi x3), (4, vi x4), (6, vi x6)] [vi t0] A := by
  have hX := hM.1
  unfold f_X0_findFits_163 at hf
  refine g_istore hX dX0_findFits_163 [(5, vi t0), (0, vr (some this)), (3, vi x3), (4, vi x4), (6, vi x6)] (by decide) rfl ?_
  refine g_aload_n hX dX0_findFits_165 (lg_at 1 rfl) ?_
  refine g_getR hX hf fs_SlimeNet_38_1 rfl dX0_findFits_166 (fun v166 hf => ?_)
  obtain ⟨k169, hk169, hf⟩ := ob_some hf
  obtain ⟨A169, hc169, hf⟩ := ob_some hf
  refine h_callV hM [] dX0_findFits_169 cs_SlimeNet_231_4 hk169 (m_X3_live hc169) rfl rfl rfl rfl ?_
  refine g_iinc hX dX0_findFits_172 (1 : Int32) (x6 + (1 : Int32)) [(6, vi (x6 + (1 : Int32))), (5, vi t0), (0, vr (some this)), (3, vi x3), (4, vi x4)] (by decide) rfl (lg_at 4 rfl) (by decide) rfl ?_
  refine g_goto hX dX0_findFits_175 98 (by decide) ?_
  cases hf
  exact g_pick (show G X _ _ _ _ _ _ from K) [2, 3, 4, 1, 0] rfl

set_option maxRecDepth 100000 in
theorem w_f_X0_findFits_158 {X : Ctx} (hM : MX X yX0_findFits cX0_findFits 8 "SlimeNet" none rm_X0_findFits []) {this : Nat} {x3 : Int32} {x4 : Int32} {x6 : Int32} {A : AH} {out : (Int32 × Int32 × AH) ⊕ (Int32 × AH)} (hf : f_X0_findFits_158 this x3 x4 x6 A = some out) (K : k_X0_findFits_98 X this x3 x4 out) : G X 0 0 158 [(0, vr (some this)), (3, vi x3), (4, vi x4), (6, vi x6)] [] A := by
  have hX := hM.1
  unfold f_X0_findFits_158 at hf
  refine g_iconst hX dX0_findFits_158 (1 : Int32) (by decide) ?_
  refine g_goto hX dX0_findFits_159 163 (by decide) ?_
  exact g_pick (w_f_X0_findFits_163 hM hf K) [0, 1, 2, 3] rfl

set_option maxRecDepth 100000 in
theorem w_f_X0_findFits_207 {X : Ctx} (hM : MX X yX0_findFits cX0_findFits 8 "SlimeNet" none rm_X0_findFits []) {this : Nat} {x3 : Int32} {x4 : Int32} {A : AH} {out : (Int32 × AH) ⊕ (AH)} (hf : f_X0_findFits_207 this x3 x4 A = some out) (K : k_X0_findFits_49 X this x3 out) : G X 0 0 207 [(0, vr (some this)), (3, vi x3), (4, vi x4)] [] A := by
  have hX := hM.1
  unfold f_X0_findFits_207 at hf
  refine g_iinc hX dX0_findFits_207 (1 : Int32) (x4 + (1 : Int32)) [(4, vi (x4 + (1 : Int32))), (0, vr (some this)), (3, vi x3)] (by decide) rfl (lg_at 2 rfl) (by decide) rfl ?_
  refine g_goto hX dX0_findFits_210 49 (by decide) ?_
  cases hf
  exact g_pick (show G X _ _ _ _ _ _ from K) [1, 2, 0] rfl

set_option maxRecDepth 100000 in
theorem w_f_X0_findFits_178 {X : Ctx} (hM : MX X yX0_findFits cX0_findFits 8 "SlimeNet" none rm_X0_findFits []) {this : Nat} {x3 : Int32} {x4 : Int32} {x5 : Int32} {A : AH} {out : (Int32 × AH) ⊕ (AH)} (hf : f_X0_findFits_178 this x3 x4 x5 A = some out) (K : k_X0_findFits_49 X this x3 out) : G X 0 0 178 [(0, vr (some this)), (3, vi x3), (4, vi x4), (5, vi x5)] [] A := by
  have hX := hM.1
  unfold f_X0_findFits_178 at hf
  refine g_iload hX dX0_findFits_178 (lg_at 3 rfl) ?_
  refine g_if_ne hX dX0_findFits_180 186 hf (by decide) (fun c180 hf => ?_) (fun c180 hf => ?_)
  · refine g_aload_n hX dX0_findFits_186 (lg_at 0 rfl) ?_
    refine g_getR hX hf fs_SlimeNet_89_1 rfl dX0_findFits_187 (fun v187 hf => ?_)
    refine g_aload_n hX dX0_findFits_190 (lg_at 0 rfl) ?_
    refine g_getI hX hf fs_SlimeNet_319_1 rfl dX0_findFits_191 (fun v191 hf => ?_)
    refine g_iload hX dX0_findFits_194 (lg_at 2 rfl) ?_
    refine g_iast hX hf dX0_findFits_196 (fun A196 hf => ?_)
    refine g_aload_n hX dX0_findFits_197 (lg_at 0 rfl) ?_
    refine g_dup hX dX0_findFits_198 rfl ?_
    refine g_getI hX hf fs_SlimeNet_319_1 rfl dX0_findFits_199 (fun v199 hf => ?_)
    refine g_iconst hX dX0_findFits_202 (1 : Int32) (by decide) ?_
    refine g_iadd hX dX0_findFits_203 ?_
    refine g_putI hX hf fs_SlimeNet_319_1 ⟨_, rfl, Or.inl rfl⟩ rfl dX0_findFits_204 (fun A204 hf => ?_)
    exact g_pick (w_f_X0_findFits_207 hM hf K) [0, 1, 2] rfl
  · refine g_goto hX dX0_findFits_183 207 (by decide) ?_
    exact g_pick (w_f_X0_findFits_207 hM hf K) [0, 1, 2] rfl

set_option maxRecDepth 100000 in
theorem w_s_X0_findFits_98 {X : Ctx} (hM : MX X yX0_findFits cX0_findFits 8 "SlimeNet" none rm_X0_findFits []) {this : Nat} {x3 : Int32} {x4 : Int32} {st : Int32 × Int32 × AH} {out : (Int32 × Int32 × AH) ⊕ (Int32 × AH)} (hf : s_X0_findFits_98 this x3 x4 st = some out) (K : k_X0_findFits_98 X this x3 x4 out) : k_X0_findFits_98 X this x3 x4 (.inl st) := by
  have hX := hM.1
  obtain ⟨x5, x6, A⟩ := st
  unfold s_X0_findFits_98 at hf
  dsimp only at hf
  show G X 0 0 98 [(0, vr (some this)), (3, vi x3), (4, vi x4), (5, vi x5), (6, vi x6)] [] A
  refine g_iload hX dX0_findFits_98 (lg_at 4 rfl) ?_
  refine g_iload_n hX dX0_findFits_100 (lg_at 1 rfl) ?_
  refine g_icmp_gt hX dX0_findFits_101 178 hf (by decide) (fun c101 hf => ?_) (fun c101 hf => ?_)
  · cases hf
    exact g_pick (show G X _ _ _ _ _ _ from K) [0, 1, 2, 3] rfl
  · refine g_iload hX dX0_findFits_104 (lg_at 3 rfl) ?_
    refine g_if_eq hX dX0_findFits_106 178 hf (by decide) (fun c106 hf => ?_) (fun c106 hf => ?_)
    · cases hf
      exact g_pick (show G X _ _ _ _ _ _ from K) [0, 1, 2, 3] rfl
    · refine g_aload_n hX dX0_findFits_109 (lg_at 0 rfl) ?_
      refine g_getR hX hf fs_SlimeNet_38_1 rfl dX0_findFits_110 (fun v110 hf => ?_)
      obtain ⟨k113, hk113, hf⟩ := ob_some hf
      obtain ⟨v113, hc113, hf⟩ := ob_some hf
      refine h_callV hM [] dX0_findFits_113 cs_SlimeNet_267_4 hk113 (m_X3_own hc113) rfl rfl rfl rfl ?_
      refine g_istore hX dX0_findFits_116 [(7, vi v113), (0, vr (some this)), (3, vi x3), (4, vi x4), (5, vi x5), (6, vi x6)] (by decide) rfl ?_
      refine g_aload_n hX dX0_findFits_118 (lg_at 1 rfl) ?_
      refine g_getR hX hf fs_SlimeNet_86_1 rfl dX0_findFits_119 (fun v119 hf => ?_)
      refine g_bipush hX dX0_findFits_122 (41 : Int32) (by decide) ?_
      refine g_aload_n hX dX0_findFits_124 (lg_at 1 rfl) ?_
      refine g_getI hX hf fs_SlimeNet_319_1 rfl dX0_findFits_125 (fun v125 hf => ?_)
      refine g_imul hX dX0_findFits_128 ?_
      refine g_iload hX dX0_findFits_129 (lg_at 5 rfl) ?_
      refine g_iadd hX dX0_findFits_131 ?_
      refine g_iload hX dX0_findFits_132 (lg_at 0 rfl) ?_
      refine g_iast hX hf dX0_findFits_134 (fun A134 hf => ?_)
      refine g_aload_n hX dX0_findFits_135 (lg_at 1 rfl) ?_
      refine g_getR hX hf fs_SlimeNet_83_1 rfl dX0_findFits_136 (fun v136 hf => ?_)
      refine g_iload hX dX0_findFits_139 (lg_at 5 rfl) ?_
      refine g_iald hX hf dX0_findFits_141 (fun v141 hf => ?_)
      refine g_iconst hX dX0_findFits_142 (-1 : Int32) (by decide) ?_
      refine g_icmp_eq hX dX0_findFits_143 158 hf (by decide) (fun c143 hf => ?_) (fun c143 hf => ?_)
      · exact g_pick (w_f_X0_findFits_158 hM hf K) [1, 2, 3, 5] rfl
      · refine g_aload_n hX dX0_findFits_146 (lg_at 1 rfl) ?_
        refine g_getR hX hf fs_SlimeNet_83_1 rfl dX0_findFits_147 (fun v147 hf => ?_)
        refine g_iload hX dX0_findFits_150 (lg_at 5 rfl) ?_
        refine g_iald hX hf dX0_findFits_152 (fun v152 hf => ?_)
        refine g_iload hX dX0_findFits_153 (lg_at 0 rfl) ?_
        refine g_icmp_ne hX dX0_findFits_155 162 hf (by decide) (fun c155 hf => ?_) (fun c155 hf => ?_)
        · refine g_iconst hX dX0_findFits_162 (0 : Int32) (by decide) ?_
          exact g_pick (w_f_X0_findFits_163 hM hf K) [1, 2, 3, 5] rfl
        · exact g_pick (w_f_X0_findFits_158 hM hf K) [1, 2, 3, 5] rfl

set_option maxRecDepth 100000 in
theorem w_l_X0_findFits_98 {X : Ctx} (hM : MX X yX0_findFits cX0_findFits 8 "SlimeNet" none rm_X0_findFits []) {this : Nat} {x3 : Int32} {x4 : Int32} {x5 : Int32} {x6 : Int32} {A : AH} {out : (Int32 × AH) ⊕ (AH)} (hf : l_X0_findFits_98 this x3 x4 x5 x6 A = some out) (K : k_X0_findFits_49 X this x3 out) : G X 0 0 98 [(0, vr (some this)), (3, vi x3), (4, vi x4), (5, vi x5), (6, vi x6)] [] A := by
  have hX := hM.1
  unfold l_X0_findFits_98 at hf
  obtain ⟨e, hw, hf⟩ := ob_some hf
  refine (whl_ind (k_X0_findFits_98 X this x3 x4) (fun st o hs K => w_s_X0_findFits_98 hM hs K) hw ?_ : k_X0_findFits_98 X this x3 x4 (.inl (x5, x6, A)))
  obtain ⟨x5, A⟩ := e
  dsimp only at hf
  show G X 0 0 178 [(0, vr (some this)), (3, vi x3), (4, vi x4), (5, vi x5)] [] A
  exact g_pick (w_f_X0_findFits_178 hM hf K) [0, 1, 2, 3] rfl

set_option maxRecDepth 100000 in
theorem w_s_X0_findFits_49 {X : Ctx} (hM : MX X yX0_findFits cX0_findFits 8 "SlimeNet" none rm_X0_findFits []) {this : Nat} {x3 : Int32} {st : Int32 × AH} {out : (Int32 × AH) ⊕ (AH)} (hf : s_X0_findFits_49 this x3 st = some out) (K : k_X0_findFits_49 X this x3 out) : k_X0_findFits_49 X this x3 (.inl st) := by
  have hX := hM.1
  obtain ⟨x4, A⟩ := st
  unfold s_X0_findFits_49 at hf
  dsimp only at hf
  show G X 0 0 49 [(0, vr (some this)), (3, vi x3), (4, vi x4)] [] A
  refine g_iload hX dX0_findFits_49 (lg_at 2 rfl) ?_
  refine g_sipush hX dX0_findFits_51 (441 : Int32) (by decide) ?_
  refine g_icmp_ge hX dX0_findFits_54 213 hf (by decide) (fun c54 hf => ?_) (fun c54 hf => ?_)
  · cases hf
    exact g_pick (show G X _ _ _ _ _ _ from K) [] rfl
  · refine g_aload_n hX dX0_findFits_57 (lg_at 0 rfl) ?_
    refine g_getR hX hf fs_SlimeNet_38_1 rfl dX0_findFits_58 (fun v58 hf => ?_)
    refine g_aload_n hX dX0_findFits_61 (lg_at 0 rfl) ?_
    refine g_getR hX hf fs_SlimeNet_27_1 rfl dX0_findFits_62 (fun v62 hf => ?_)
    obtain ⟨k65, hk65, hf⟩ := ob_some hf
    obtain ⟨A65, hc65, hf⟩ := ob_some hf
    refine h_callV hM [vr v62] dX0_findFits_65 cs_SlimeNet_92_4 hk65 (m_X3_begin hc65) rfl rfl rfl rfl ?_
    refine g_aload_n hX dX0_findFits_68 (lg_at 0 rfl) ?_
    refine g_getR hX hf fs_SlimeNet_38_1 rfl dX0_findFits_69 (fun v69 hf => ?_)
    refine g_iload hX dX0_findFits_72 (lg_at 2 rfl) ?_
    refine g_bipush hX dX0_findFits_74 (21 : Int32) (by decide) ?_
    refine g_idiv hX dX0_findFits_76 hf (fun v76 _ hf => ?_)
    refine g_putI hX hf fs_SlimeNet_163_4 ⟨_, rfl, Or.inl rfl⟩ rfl dX0_findFits_77 (fun A77 hf => ?_)
    refine g_aload_n hX dX0_findFits_80 (lg_at 0 rfl) ?_
    refine g_getR hX hf fs_SlimeNet_38_1 rfl dX0_findFits_81 (fun v81 hf => ?_)
    refine g_iload hX dX0_findFits_84 (lg_at 2 rfl) ?_
    refine g_bipush hX dX0_findFits_86 (21 : Int32) (by decide) ?_
    refine g_irem hX dX0_findFits_88 hf (fun v88 _ hf => ?_)
    refine g_putI hX hf fs_SlimeNet_166_4 ⟨_, rfl, Or.inl rfl⟩ rfl dX0_findFits_89 (fun A89 hf => ?_)
    refine g_iconst hX dX0_findFits_92 (1 : Int32) (by decide) ?_
    refine g_istore hX dX0_findFits_93 [(5, vi (1 : Int32)), (0, vr (some this)), (3, vi x3), (4, vi x4)] (by decide) rfl ?_
    refine g_iconst hX dX0_findFits_95 (0 : Int32) (by decide) ?_
    refine g_istore hX dX0_findFits_96 [(6, vi (0 : Int32)), (5, vi (1 : Int32)), (0, vr (some this)), (3, vi x3), (4, vi x4)] (by decide) rfl ?_
    exact g_pick (w_l_X0_findFits_98 hM hf K) [2, 3, 4, 1, 0] rfl

set_option maxRecDepth 100000 in
theorem w_l_X0_findFits_49 {X : Ctx} (hM : MX X yX0_findFits cX0_findFits 8 "SlimeNet" none rm_X0_findFits []) {this : Nat} {x3 : Int32} {x4 : Int32} {A : AH} {out : AH} (hf : l_X0_findFits_49 this x3 x4 A = some out) (hr : c_res X = r_X0_findFits A out) : G X 0 0 49 [(0, vr (some this)), (3, vi x3), (4, vi x4)] [] A := by
  have hX := hM.1
  unfold l_X0_findFits_49 at hf
  obtain ⟨e, hw, hf⟩ := ob_some hf
  refine (whl_ind (k_X0_findFits_49 X this x3) (fun st o hs K => w_s_X0_findFits_49 hM hs K) hw ?_ : k_X0_findFits_49 X this x3 (.inl (x4, A)))
  revert hf hw; generalize e = A; intro hw hf
  dsimp only at hf
  show G X 0 0 213 [] [] A
  cases hf
  exact h_vret hM dX0_findFits_213 hr rfl rfl

set_option maxRecDepth 100000 in
theorem w_s_X0_findFits_10 {X : Ctx} (hM : MX X yX0_findFits cX0_findFits 8 "SlimeNet" none rm_X0_findFits []) {this : Nat} {A : AH} {st : Int32 × Int32} {out : (Int32 × Int32) ⊕ (Int32)} (hf : s_X0_findFits_10 this A st = some out) (K : k_X0_findFits_10 X this A out) : k_X0_findFits_10 X this A (.inl st) := by
  have hX := hM.1
  obtain ⟨x3, x4⟩ := st
  unfold s_X0_findFits_10 at hf
  dsimp only at hf
  show G X 0 0 10 [(0, vr (some this)), (3, vi x3), (4, vi x4)] [] A
  refine g_iload hX dX0_findFits_10 (lg_at 2 rfl) ?_
  refine g_bipush hX dX0_findFits_12 (40 : Int32) (by decide) ?_
  refine g_icmp_gt hX dX0_findFits_14 41 hf (by decide) (fun c14 hf => ?_) (fun c14 hf => ?_)
  · cases hf
    exact g_pick (show G X _ _ _ _ _ _ from K) [0, 1] rfl
  · refine g_aload_n hX dX0_findFits_17 (lg_at 0 rfl) ?_
    refine g_getR hX hf fs_SlimeNet_83_1 rfl dX0_findFits_18 (fun v18 hf => ?_)
    refine g_iload hX dX0_findFits_21 (lg_at 2 rfl) ?_
    refine g_iald hX hf dX0_findFits_23 (fun v23 hf => ?_)
    refine g_iconst hX dX0_findFits_24 (-1 : Int32) (by decide) ?_
    refine g_icmp_eq hX dX0_findFits_25 35 hf (by decide) (fun c25 hf => ?_) (fun c25 hf => ?_)
    · exact g_pick (w_f_X0_findFits_35 hM hf K) [0, 1, 2] rfl
    · refine g_iload_n hX dX0_findFits_28 (lg_at 1 rfl) ?_
      refine g_iload hX dX0_findFits_29 (lg_at 2 rfl) ?_
      refine g_mmax hM dX0_findFits_31 (lw_LW q1011) (lw_LW q689) (lw_LW q80) (lw_LW q690) rfl rfl ?_
      refine g_istore_n hX dX0_findFits_34 [(3, vi (mxI x3 x4)), (0, vr (some this)), (4, vi x4)] (by decide) rfl ?_
      exact g_pick (w_f_X0_findFits_35 hM hf K) [1, 0, 2] rfl

set_option maxRecDepth 100000 in
theorem w_l_X0_findFits_10 {X : Ctx} (hM : MX X yX0_findFits cX0_findFits 8 "SlimeNet" none rm_X0_findFits []) {this : Nat} {x3 : Int32} {x4 : Int32} {A : AH} {out : AH} (hf : l_X0_findFits_10 this x3 x4 A = some out) (hr : c_res X = r_X0_findFits A out) : G X 0 0 10 [(0, vr (some this)), (3, vi x3), (4, vi x4)] [] A := by
  have hX := hM.1
  unfold l_X0_findFits_10 at hf
  obtain ⟨e, hw, hf⟩ := ob_some hf
  refine (whl_ind (k_X0_findFits_10 X this A) (fun st o hs K => w_s_X0_findFits_10 hM hs K) hw ?_ : k_X0_findFits_10 X this A (.inl (x3, x4)))
  revert hf hw; generalize e = x3; intro hw hf
  dsimp only at hf
  show G X 0 0 41 [(0, vr (some this)), (3, vi x3)] [] A
  refine g_aload_n hX dX0_findFits_41 (lg_at 0 rfl) ?_
  refine g_iconst hX dX0_findFits_42 (0 : Int32) (by decide) ?_
  refine g_putI hX hf fs_SlimeNet_319_1 ⟨_, rfl, Or.inl rfl⟩ rfl dX0_findFits_43 (fun A43 hf => ?_)
  refine g_iconst hX dX0_findFits_46 (0 : Int32) (by decide) ?_
  refine g_istore hX dX0_findFits_47 [(4, vi (0 : Int32)), (0, vr (some this)), (3, vi x3)] (by decide) rfl ?_
  exact g_pick (w_l_X0_findFits_49 hM hf hr) [1, 2, 0] rfl

set_option maxRecDepth 100000 in
theorem w_f_X0_findFits {X : Ctx} (hM : MX X yX0_findFits cX0_findFits 8 "SlimeNet" none rm_X0_findFits []) {this : Nat} {x1 : Int32} {x2 : Int32} {A : AH} {out : AH} (hf : f_X0_findFits this x1 x2 A = some out) (hr : c_res X = r_X0_findFits A out) : G X 0 0 0 [(0, vr (some this)), (1, vi x1), (2, vi x2)] [] A := by
  have hX := hM.1
  unfold f_X0_findFits at hf
  refine g_aload_n hX dX0_findFits_0 (lg_at 0 rfl) ?_
  refine g_iload_n hX dX0_findFits_1 (lg_at 1 rfl) ?_
  obtain ⟨k2, hk2, hf⟩ := ob_some hf
  obtain ⟨A2, hc2, hf⟩ := ob_some hf
  refine h_callV hM [vi x1] dX0_findFits_2 cs_SlimeNet_312_1 hk2 (m_X0_know hc2) rfl rfl rfl rfl ?_
  refine g_iload_n hX dX0_findFits_5 (lg_at 2 rfl) ?_
  refine g_istore_n hX dX0_findFits_6 [(3, vi x2), (0, vr (some this)), (1, vi x1), (2, vi x2)] (by decide) rfl ?_
  refine g_iconst hX dX0_findFits_7 (0 : Int32) (by decide) ?_
  refine g_istore hX dX0_findFits_8 [(4, vi (0 : Int32)), (3, vi x2), (0, vr (some this)), (1, vi x1), (2, vi x2)] (by decide) rfl ?_
  exact g_pick (w_l_X0_findFits_10 hM hf hr) [2, 1, 0] rfl

theorem m_X0_findFits {l : Launch} {this : Nat} {x1 : Int32} {x2 : Int32} {A : AH} {out : AH} (h : f_X0_findFits this x1 x2 A = some out) : MetF l yX0_findFits (Cond.code yX0_findFits cX0_findFits 8 none) rm_X0_findFits [vr (some this), vi x1, vi x2] A (r_X0_findFits A out) :=
  metF_of rfl rfl (Nat.le_of_ble_eq_true rfl) fun X hX hl hR hnm hr h1 h2 hno => w_f_X0_findFits (X := X) ⟨hX, hR, h1, h2, fun _ => ⟨hnm, hno⟩⟩ h hr

/-! SlimeNet.fit(II)I -/
def rm_X0_fit : Room := { frames := 15, cells := 0, slots := 0, locals := 1154 }
def r_X0_fit (_A : AH) (o : Int32 × AH) : (Option AV × AH) ⊕ (Nat × AH) := .inl (some (vi o.1), o.2)
set_option maxRecDepth 100000 in
theorem w_f_X0_fit_20 {X : Ctx} (hM : MX X yX0_fit cX0_fit 3 "SlimeNet" (some Jvm.ClassFile.FieldType.int) rm_X0_fit []) {A : AH} {out : Int32 × AH} (hf : f_X0_fit_20 A = some out) (hr : c_res X = r_X0_fit A out) : G X 0 0 20 [] [] A := by
  have hX := hM.1
  unfold f_X0_fit_20 at hf
  refine g_bipush hX dX0_fit_20 (-2 : Int32) (by decide) ?_
  cases hf
  exact h_iret hM dX0_fit_22 hr rfl rfl

set_option maxRecDepth 100000 in
theorem w_f_X0_fit_57 {X : Ctx} (hM : MX X yX0_fit cX0_fit 3 "SlimeNet" (some Jvm.ClassFile.FieldType.int) rm_X0_fit []) {t0 : Int32} {A : AH} {out : Int32 × AH} (hf : f_X0_fit_57 t0 A = some out) (hr : c_res X = r_X0_fit A out) : G X 0 0 57 [] [vi t0] A := by
  have hX := hM.1
  unfold f_X0_fit_57 at hf
  cases hf
  exact h_iret hM dX0_fit_57 hr rfl rfl

set_option maxRecDepth 100000 in
theorem w_f_X0_fit {X : Ctx} (hM : MX X yX0_fit cX0_fit 3 "SlimeNet" (some Jvm.ClassFile.FieldType.int) rm_X0_fit []) {this : Nat} {x1 : Int32} {x2 : Int32} {A : AH} {out : Int32 × AH} (hf : f_X0_fit this x1 x2 A = some out) (hr : c_res X = r_X0_fit A out) : G X 0 0 0 [(0, vr (some this)), (1, vi x1), (2, vi x2)] [] A := by
  have hX := hM.1
  unfold f_X0_fit at hf
  refine g_iload_n hX dX0_fit_0 (lg_at 1 rfl) ?_
  refine g_iconst hX dX0_fit_1 (0 : Int32) (by decide) ?_
  refine g_sipush hX dX0_fit_2 (999 : Int32) (by decide) ?_
  obtain ⟨v5, hc5, hf⟩ := ob_some hf
  refine h_callS hM [vi x1, vi (0 : Int32), vi (999 : Int32)] dX0_fit_5 cs_SlimeNet_153_s (m_X0_in hc5) rfl rfl rfl rfl ?_
  refine g_if_eq hX dX0_fit_8 20 hf (by decide) (fun c8 hf => ?_) (fun c8 hf => ?_)
  · exact g_pick (w_f_X0_fit_20 hM hf hr) [] rfl
  · refine g_iload_n hX dX0_fit_11 (lg_at 2 rfl) ?_
    refine g_iconst hX dX0_fit_12 (0 : Int32) (by decide) ?_
    refine g_iconst hX dX0_fit_13 (1 : Int32) (by decide) ?_
    obtain ⟨v14, hc14, hf⟩ := ob_some hf
    refine h_callS hM [vi x2, vi (0 : Int32), vi (1 : Int32)] dX0_fit_14 cs_SlimeNet_153_s (m_X0_in hc14) rfl rfl rfl rfl ?_
    refine g_if_ne hX dX0_fit_17 23 hf (by decide) (fun c17 hf => ?_) (fun c17 hf => ?_)
    · refine g_aload_n hX dX0_fit_23 (lg_at 0 rfl) ?_
      refine g_iload_n hX dX0_fit_24 (lg_at 1 rfl) ?_
      refine g_iconst hX dX0_fit_25 (0 : Int32) (by decide) ?_
      obtain ⟨k26, hk26, hf⟩ := ob_some hf
      obtain ⟨A26, hc26, hf⟩ := ob_some hf
      refine h_callV hM [vi x1, vi (0 : Int32)] dX0_fit_26 cs_SlimeNet_322_1 hk26 (m_X0_findFits hc26) rfl rfl rfl rfl ?_
      refine g_iload_n hX dX0_fit_29 (lg_at 2 rfl) ?_
      refine g_if_ne hX dX0_fit_30 40 hf (by decide) (fun c30 hf => ?_) (fun c30 hf => ?_)
      · refine g_aload_n hX dX0_fit_40 (lg_at 0 rfl) ?_
        refine g_getI hX hf fs_SlimeNet_319_1 rfl dX0_fit_41 (fun v41 hf => ?_)
        refine g_if_ne hX dX0_fit_44 51 hf (by decide) (fun c44 hf => ?_) (fun c44 hf => ?_)
        · refine g_aload_n hX dX0_fit_51 (lg_at 0 rfl) ?_
          refine g_getR hX hf fs_SlimeNet_89_1 rfl dX0_fit_52 (fun v52 hf => ?_)
          refine g_iconst hX dX0_fit_55 (0 : Int32) (by decide) ?_
          refine g_iald hX hf dX0_fit_56 (fun v56 hf => ?_)
          exact g_pick (w_f_X0_fit_57 hM hf hr) [] rfl
        · refine g_iconst hX dX0_fit_47 (-1 : Int32) (by decide) ?_
          refine g_goto hX dX0_fit_48 57 (by decide) ?_
          exact g_pick (w_f_X0_fit_57 hM hf hr) [] rfl
      · refine g_aload_n hX dX0_fit_33 (lg_at 0 rfl) ?_
        refine g_getI hX hf fs_SlimeNet_319_1 rfl dX0_fit_34 (fun v34 hf => ?_)
        refine g_goto hX dX0_fit_37 57 (by decide) ?_
        exact g_pick (w_f_X0_fit_57 hM hf hr) [] rfl
    · exact g_pick (w_f_X0_fit_20 hM hf hr) [] rfl

theorem m_X0_fit {l : Launch} {this : Nat} {x1 : Int32} {x2 : Int32} {A : AH} {out : Int32 × AH} (h : f_X0_fit this x1 x2 A = some out) : MetF l yX0_fit (Cond.code yX0_fit cX0_fit 3 (some Jvm.ClassFile.FieldType.int)) rm_X0_fit [vr (some this), vi x1, vi x2] A (r_X0_fit A out) :=
  metF_of rfl rfl (Nat.le_of_ble_eq_true rfl) fun X hX hl hR hnm hr h1 h2 hno => w_f_X0_fit (X := X) ⟨hX, hR, h1, h2, fun _ => ⟨hnm, hno⟩⟩ h hr

/-! SlimeNetModel.isStep(I)Z -/
def rm_X4_isStep : Room := { frames := 2, cells := 0, slots := 0, locals := 49 }
def r_X4_isStep (A : AH) (o : Int32) : (Option AV × AH) ⊕ (Nat × AH) := .inl (some (vi o), A)
set_option maxRecDepth 100000 in
theorem w_f_X4_isStep {X : Ctx} (hM : MX X yX4_isStep cX4_isStep 1 "SlimeNetModel" (some Jvm.ClassFile.FieldType.boolean) rm_X4_isStep []) {x0 : Int32} {A : AH} {out : Int32} (hf : f_X4_isStep x0 = some out) (hr : c_res X = r_X4_isStep A out) : G X 0 0 0 [(0, vi x0)] [] A := by
  have hX := hM.1
  unfold f_X4_isStep at hf
  refine g_iload_n hX dX4_isStep_0 (lg_at 0 rfl) ?_
  refine g_i2l hX dX4_isStep_1 ?_
  refine g_lconst hX dX4_isStep_2 (0 : Int64) (by decide) ?_
  refine g_ldc2 hX dX4_isStep_3 (v := (999 : Int64)) (lw_LW q1538) ?_
  obtain ⟨v6, hc6, hf⟩ := ob_some hf
  refine h_callS hM [vl (Int32.toInt64 x0), vl (0 : Int64), vl (999 : Int64)] dX4_isStep_6 cs_SlimeNetModel_52_s (m_X4_in hc6) rfl rfl rfl rfl ?_
  obtain ⟨w9, hz9, hf⟩ := ob_some hf
  cases hf
  exact h_zret hM dX4_isStep_9 hr rfl (ckZ_nar hz9).2 rfl

theorem m_X4_isStep {l : Launch} {x0 : Int32} {A : AH} {out : Int32} (h : f_X4_isStep x0 = some out) : MetF l yX4_isStep (Cond.code yX4_isStep cX4_isStep 1 (some Jvm.ClassFile.FieldType.boolean)) rm_X4_isStep [vi x0] A (r_X4_isStep A out) :=
  metF_of rfl rfl (Nat.le_of_ble_eq_true rfl) fun X hX hl hR hnm hr h1 h2 hno => w_f_X4_isStep (X := X) ⟨hX, hR, h1, h2, fun _ => ⟨hnm, hno⟩⟩ h hr

