/-! SlimeNetLaw.law([I)Z -/
def rm_L_law : Room := { frames := 8192, cells := 601024, slots := 7293034, locals := 100000 }
def r_L_law (_A : AH) (o : Int32 × AH) : (Option AV × AH) ⊕ (Nat × AH) := .inl (some (vi o.1), o.2)
def k_L_law_18 (X : Ctx) (cs ss : Nat) (x0 : Option Nat) (x1 : Option Nat) (x2 : Option Nat) : ((Int32 × AH) ⊕ ((AH) ⊕ (AH) ⊕ (AH) ⊕ (AH) ⊕ (AH) ⊕ (AH) ⊕ (AH) ⊕ (AH) ⊕ (AH) ⊕ (AH) ⊕ (AH) ⊕ (AH) ⊕ (AH) ⊕ (AH) ⊕ (AH) ⊕ (AH) ⊕ (AH) ⊕ (AH) ⊕ (AH) ⊕ (AH) ⊕ (AH) ⊕ (AH) ⊕ (AH) ⊕ (AH) ⊕ (AH) ⊕ (AH) ⊕ (AH) ⊕ (AH) ⊕ (AH) ⊕ (AH) ⊕ (AH))) → Prop
  | .inl (x3, A) => G X cs ss 18 [(0, vr x0), (1, vr x1), (2, vr x2), (3, vi x3)] [] A
  | .inr (.inl A) => G X cs ss 229 [] [] A
  | .inr (.inr (.inl A)) => G X cs ss 252 [] [] A
  | .inr (.inr (.inr (.inl A))) => G X cs ss 265 [] [] A
  | .inr (.inr (.inr (.inr (.inl A)))) => G X cs ss 288 [] [] A
  | .inr (.inr (.inr (.inr (.inr (.inl A))))) => G X cs ss 311 [] [] A
  | .inr (.inr (.inr (.inr (.inr (.inr (.inl A)))))) => G X cs ss 334 [] [] A
  | .inr (.inr (.inr (.inr (.inr (.inr (.inr (.inl A))))))) => G X cs ss 357 [] [] A
  | .inr (.inr (.inr (.inr (.inr (.inr (.inr (.inr (.inl A)))))))) => G X cs ss 390 [] [] A
  | .inr (.inr (.inr (.inr (.inr (.inr (.inr (.inr (.inr (.inl A))))))))) => G X cs ss 423 [] [] A
  | .inr (.inr (.inr (.inr (.inr (.inr (.inr (.inr (.inr (.inr (.inl A)))))))))) => G X cs ss 447 [] [] A
  | .inr (.inr (.inr (.inr (.inr (.inr (.inr (.inr (.inr (.inr (.inr (.inl A))))))))))) => G X cs ss 471 [] [] A
  | .inr (.inr (.inr (.inr (.inr (.inr (.inr (.inr (.inr (.inr (.inr (.inr (.inl A)))))))))))) => G X cs ss 494 [] [] A
  | .inr (.inr (.inr (.inr (.inr (.inr (.inr (.inr (.inr (.inr (.inr (.inr (.inr (.inl A))))))))))))) => G X cs ss 507 [] [] A
  | .inr (.inr (.inr (.inr (.inr (.inr (.inr (.inr (.inr (.inr (.inr (.inr (.inr (.inr (.inl A)))))))))))))) => G X cs ss 520 [] [] A
  | .inr (.inr (.inr (.inr (.inr (.inr (.inr (.inr (.inr (.inr (.inr (.inr (.inr (.inr (.inr (.inl A))))))))))))))) => G X cs ss 543 [] [] A
  | .inr (.inr (.inr (.inr (.inr (.inr (.inr (.inr (.inr (.inr (.inr (.inr (.inr (.inr (.inr (.inr (.inl A)))))))))))))))) => G X cs ss 566 [] [] A
  | .inr (.inr (.inr (.inr (.inr (.inr (.inr (.inr (.inr (.inr (.inr (.inr (.inr (.inr (.inr (.inr (.inr (.inl A))))))))))))))))) => G X cs ss 589 [] [] A
  | .inr (.inr (.inr (.inr (.inr (.inr (.inr (.inr (.inr (.inr (.inr (.inr (.inr (.inr (.inr (.inr (.inr (.inr (.inl A)))))))))))))))))) => G X cs ss 622 [] [] A
  | .inr (.inr (.inr (.inr (.inr (.inr (.inr (.inr (.inr (.inr (.inr (.inr (.inr (.inr (.inr (.inr (.inr (.inr (.inr (.inl A))))))))))))))))))) => G X cs ss 645 [] [] A
  | .inr (.inr (.inr (.inr (.inr (.inr (.inr (.inr (.inr (.inr (.inr (.inr (.inr (.inr (.inr (.inr (.inr (.inr (.inr (.inr (.inl A)))))))))))))))))))) => G X cs ss 658 [] [] A
  | .inr (.inr (.inr (.inr (.inr (.inr (.inr (.inr (.inr (.inr (.inr (.inr (.inr (.inr (.inr (.inr (.inr (.inr (.inr (.inr (.inr (.inl A))))))))))))))))))))) => G X cs ss 691 [] [] A
  | .inr (.inr (.inr (.inr (.inr (.inr (.inr (.inr (.inr (.inr (.inr (.inr (.inr (.inr (.inr (.inr (.inr (.inr (.inr (.inr (.inr (.inr (.inl A)))))))))))))))))))))) => G X cs ss 704 [] [] A
  | .inr (.inr (.inr (.inr (.inr (.inr (.inr (.inr (.inr (.inr (.inr (.inr (.inr (.inr (.inr (.inr (.inr (.inr (.inr (.inr (.inr (.inr (.inr (.inl A))))))))))))))))))))))) => G X cs ss 727 [] [] A
  | .inr (.inr (.inr (.inr (.inr (.inr (.inr (.inr (.inr (.inr (.inr (.inr (.inr (.inr (.inr (.inr (.inr (.inr (.inr (.inr (.inr (.inr (.inr (.inr (.inl A)))))))))))))))))))))))) => G X cs ss 740 [] [] A
  | .inr (.inr (.inr (.inr (.inr (.inr (.inr (.inr (.inr (.inr (.inr (.inr (.inr (.inr (.inr (.inr (.inr (.inr (.inr (.inr (.inr (.inr (.inr (.inr (.inr (.inl A))))))))))))))))))))))))) => G X cs ss 783 [] [] A
  | .inr (.inr (.inr (.inr (.inr (.inr (.inr (.inr (.inr (.inr (.inr (.inr (.inr (.inr (.inr (.inr (.inr (.inr (.inr (.inr (.inr (.inr (.inr (.inr (.inr (.inr (.inl A)))))))))))))))))))))))))) => G X cs ss 826 [] [] A
  | .inr (.inr (.inr (.inr (.inr (.inr (.inr (.inr (.inr (.inr (.inr (.inr (.inr (.inr (.inr (.inr (.inr (.inr (.inr (.inr (.inr (.inr (.inr (.inr (.inr (.inr (.inr (.inl A))))))))))))))))))))))))))) => G X cs ss 859 [] [] A
  | .inr (.inr (.inr (.inr (.inr (.inr (.inr (.inr (.inr (.inr (.inr (.inr (.inr (.inr (.inr (.inr (.inr (.inr (.inr (.inr (.inr (.inr (.inr (.inr (.inr (.inr (.inr (.inr (.inl A)))))))))))))))))))))))))))) => G X cs ss 902 [] [] A
  | .inr (.inr (.inr (.inr (.inr (.inr (.inr (.inr (.inr (.inr (.inr (.inr (.inr (.inr (.inr (.inr (.inr (.inr (.inr (.inr (.inr (.inr (.inr (.inr (.inr (.inr (.inr (.inr (.inr (.inl A))))))))))))))))))))))))))))) => G X cs ss 915 [] [] A
  | .inr (.inr (.inr (.inr (.inr (.inr (.inr (.inr (.inr (.inr (.inr (.inr (.inr (.inr (.inr (.inr (.inr (.inr (.inr (.inr (.inr (.inr (.inr (.inr (.inr (.inr (.inr (.inr (.inr (.inr (.inl A)))))))))))))))))))))))))))))) => G X cs ss 938 [] [] A
  | .inr (.inr (.inr (.inr (.inr (.inr (.inr (.inr (.inr (.inr (.inr (.inr (.inr (.inr (.inr (.inr (.inr (.inr (.inr (.inr (.inr (.inr (.inr (.inr (.inr (.inr (.inr (.inr (.inr (.inr (.inr A)))))))))))))))))))))))))))))) => G X cs ss 946 [] [] A

set_option maxRecDepth 100000 in
theorem w_f_L_law_940 {X : Ctx} (hM : MX X yL_law cL_law 4 "SlimeNetLaw" (some Jvm.ClassFile.FieldType.boolean) rm_L_law []) {cs ss : Nat} (hcs : cs + 710 ≤ rm_L_law.cells) (hss : ss + 5321 ≤ rm_L_law.slots) {x0 : Option Nat} {x1 : Option Nat} {x2 : Option Nat} {x3 : Int32} {A : AH} {out : (Int32 × AH) ⊕ ((AH) ⊕ (AH) ⊕ (AH) ⊕ (AH) ⊕ (AH) ⊕ (AH) ⊕ (AH) ⊕ (AH) ⊕ (AH) ⊕ (AH) ⊕ (AH) ⊕ (AH) ⊕ (AH) ⊕ (AH) ⊕ (AH) ⊕ (AH) ⊕ (AH) ⊕ (AH) ⊕ (AH) ⊕ (AH) ⊕ (AH) ⊕ (AH) ⊕ (AH) ⊕ (AH) ⊕ (AH) ⊕ (AH) ⊕ (AH) ⊕ (AH) ⊕ (AH) ⊕ (AH) ⊕ (AH))} (hf : f_L_law_940 x0 x1 x2 x3 A = some out) (K : k_L_law_18 X (cs + 710) (ss + 5321) x0 x1 x2 out) : G X (cs + 710) (ss + 5321) 940 [(0, vr x0), (1, vr x1), (2, vr x2), (3, vi x3)] [] A := by
  have hX := hM.1
  unfold f_L_law_940 at hf
  refine g_iinc hX dL_law_940 (6 : Int32) (x3 + (6 : Int32)) [(3, vi (x3 + (6 : Int32))), (0, vr x0), (1, vr x1), (2, vr x2)] (by decide) rfl (lg_at 3 rfl) (by decide) rfl ?_
  refine g_goto hX dL_law_943 18 (by decide) ?_
  cases hf
  exact g_pick (show G X _ _ _ _ _ _ from K) [1, 2, 3, 0] rfl

theorem k_L_law_18_mono {X : Ctx} {cs ss cs2 ss2 : Nat} {x0 : Option Nat} {x1 : Option Nat} {x2 : Option Nat} {e : (AH) ⊕ (AH) ⊕ (AH) ⊕ (AH) ⊕ (AH) ⊕ (AH) ⊕ (AH) ⊕ (AH) ⊕ (AH) ⊕ (AH) ⊕ (AH) ⊕ (AH) ⊕ (AH) ⊕ (AH) ⊕ (AH) ⊕ (AH) ⊕ (AH) ⊕ (AH) ⊕ (AH) ⊕ (AH) ⊕ (AH) ⊕ (AH) ⊕ (AH) ⊕ (AH) ⊕ (AH) ⊕ (AH) ⊕ (AH) ⊕ (AH) ⊕ (AH) ⊕ (AH) ⊕ (AH)} (h1 : cs ≤ cs2) (h2 : ss ≤ ss2) : k_L_law_18 X cs2 ss2 x0 x1 x2 (.inr e) → k_L_law_18 X cs ss x0 x1 x2 (.inr e) := by
  rcases e with A | A | A | A | A | A | A | A | A | A | A | A | A | A | A | A | A | A | A | A | A | A | A | A | A | A | A | A | A | A | A
  · intro h; exact g_wide h h1 h2
  · intro h; exact g_wide h h1 h2
  · intro h; exact g_wide h h1 h2
  · intro h; exact g_wide h h1 h2
  · intro h; exact g_wide h h1 h2
  · intro h; exact g_wide h h1 h2
  · intro h; exact g_wide h h1 h2
  · intro h; exact g_wide h h1 h2
  · intro h; exact g_wide h h1 h2
  · intro h; exact g_wide h h1 h2
  · intro h; exact g_wide h h1 h2
  · intro h; exact g_wide h h1 h2
  · intro h; exact g_wide h h1 h2
  · intro h; exact g_wide h h1 h2
  · intro h; exact g_wide h h1 h2
  · intro h; exact g_wide h h1 h2
  · intro h; exact g_wide h h1 h2
  · intro h; exact g_wide h h1 h2
  · intro h; exact g_wide h h1 h2
  · intro h; exact g_wide h h1 h2
  · intro h; exact g_wide h h1 h2
  · intro h; exact g_wide h h1 h2
  · intro h; exact g_wide h h1 h2
  · intro h; exact g_wide h h1 h2
  · intro h; exact g_wide h h1 h2
  · intro h; exact g_wide h h1 h2
  · intro h; exact g_wide h h1 h2
  · intro h; exact g_wide h h1 h2
  · intro h; exact g_wide h h1 h2
  · intro h; exact g_wide h h1 h2
  · intro h; exact g_wide h h1 h2

set_option maxRecDepth 100000 in
theorem w_s_L_law_18 {X : Ctx} (hM : MX X yL_law cL_law 4 "SlimeNetLaw" (some Jvm.ClassFile.FieldType.boolean) rm_L_law []) {cs ss : Nat} (hcs : cs + 710 ≤ rm_L_law.cells) (hss : ss + 5321 ≤ rm_L_law.slots) {x0 : Option Nat} {x1 : Option Nat} {x2 : Option Nat} {st : Int32 × AH} {out : (Int32 × AH) ⊕ ((AH) ⊕ (AH) ⊕ (AH) ⊕ (AH) ⊕ (AH) ⊕ (AH) ⊕ (AH) ⊕ (AH) ⊕ (AH) ⊕ (AH) ⊕ (AH) ⊕ (AH) ⊕ (AH) ⊕ (AH) ⊕ (AH) ⊕ (AH) ⊕ (AH) ⊕ (AH) ⊕ (AH) ⊕ (AH) ⊕ (AH) ⊕ (AH) ⊕ (AH) ⊕ (AH) ⊕ (AH) ⊕ (AH) ⊕ (AH) ⊕ (AH) ⊕ (AH) ⊕ (AH) ⊕ (AH))} (hf : s_L_law_18 x0 x1 x2 st = some out) (K : k_L_law_18 X (cs + 710) (ss + 5321) x0 x1 x2 out) : k_L_law_18 X cs ss x0 x1 x2 (.inl st) := by
  have hX := hM.1
  obtain ⟨x3, A⟩ := st
  unfold s_L_law_18 at hf
  dsimp only at hf
  show G X cs ss 18 [(0, vr x0), (1, vr x1), (2, vr x2), (3, vi x3)] [] A
  refine g_iload_n hX dL_law_18 (lg_at 3 rfl) ?_
  refine g_aload_n hX dL_law_19 (lg_at 0 rfl) ?_
  refine g_alen hX 10 rfl hf dL_law_20 (fun v20 hf => ?_)
  refine g_bipush hX dL_law_21 (6 : Int32) (by decide) ?_
  refine g_isub hX dL_law_23 ?_
  refine g_icmp_gt hX dL_law_24 946 hf (by decide) (fun c24 hf => ?_) (fun c24 hf => ?_)
  · cases hf
    exact g_wide (g_pick (show G X _ _ _ _ _ _ from K) [] rfl) (by first | omega | (simp only [rm_X0_alike, rm_X0_chance, rm_X0_count, rm_X0_end, rm_X0_fault, rm_X0_feed, rm_X0_fit, rm_X0_flow, rm_X0_good, rm_X0_hours, rm_X0_init, rm_X0_keep, rm_X0_law, rm_X0_learnt, rm_X0_look, rm_X0_maze, rm_X0_net, rm_X0_own, rm_X0_plate, rm_X0_rest, rm_X0_right, rm_X0_ring, rm_X0_see, rm_X0_set, rm_X0_shortest, rm_X0_surely, rm_X0_take, rm_X0_tell, rm_X0_told, rm_X0_under, rm_X0_width, rm_X4_alike, rm_X4_chance, rm_X4_count, rm_X4_end, rm_X4_fault, rm_X4_feed, rm_X4_fit, rm_X4_flow, rm_X4_good, rm_X4_hours, rm_X4_init, rm_X4_keep, rm_X4_law, rm_X4_learnt, rm_X4_look, rm_X4_maze, rm_X4_net, rm_X4_own, rm_X4_plate, rm_X4_rest, rm_X4_right, rm_X4_ring, rm_X4_see, rm_X4_set, rm_X4_shortest, rm_X4_surely, rm_X4_take, rm_X4_tell, rm_X4_told, rm_X4_under, rm_X4_width]; omega)) (by first | omega | (simp only [rm_X0_alike, rm_X0_chance, rm_X0_count, rm_X0_end, rm_X0_fault, rm_X0_feed, rm_X0_fit, rm_X0_flow, rm_X0_good, rm_X0_hours, rm_X0_init, rm_X0_keep, rm_X0_law, rm_X0_learnt, rm_X0_look, rm_X0_maze, rm_X0_net, rm_X0_own, rm_X0_plate, rm_X0_rest, rm_X0_right, rm_X0_ring, rm_X0_see, rm_X0_set, rm_X0_shortest, rm_X0_surely, rm_X0_take, rm_X0_tell, rm_X0_told, rm_X0_under, rm_X0_width, rm_X4_alike, rm_X4_chance, rm_X4_count, rm_X4_end, rm_X4_fault, rm_X4_feed, rm_X4_fit, rm_X4_flow, rm_X4_good, rm_X4_hours, rm_X4_init, rm_X4_keep, rm_X4_law, rm_X4_learnt, rm_X4_look, rm_X4_maze, rm_X4_net, rm_X4_own, rm_X4_plate, rm_X4_rest, rm_X4_right, rm_X4_ring, rm_X4_see, rm_X4_set, rm_X4_shortest, rm_X4_surely, rm_X4_take, rm_X4_tell, rm_X4_told, rm_X4_under, rm_X4_width]; omega))
  · refine g_aload_n hX dL_law_27 (lg_at 0 rfl) ?_
    refine g_iload_n hX dL_law_28 (lg_at 3 rfl) ?_
    refine g_iald hX hf dL_law_29 (fun v29 hf => ?_)
    refine g_bipush hX dL_law_30 (31 : Int32) (by decide) ?_
    refine g_iand hX dL_law_32 ?_
    by_cases hd : Int32.toInt (v29 &&& (31 : Int32)) < 0 ∨ 29 < Int32.toInt (v29 &&& (31 : Int32))
    · rw [if_pos hd] at hf
      refine g_tblO hX dL_law_33 940 hd (by decide) ?_
      exact g_wide (g_pick (w_f_L_law_940 hM hcs hss hf K) [0, 1, 2, 3] rfl) (by first | omega | (simp only [rm_X0_alike, rm_X0_chance, rm_X0_count, rm_X0_end, rm_X0_fault, rm_X0_feed, rm_X0_fit, rm_X0_flow, rm_X0_good, rm_X0_hours, rm_X0_init, rm_X0_keep, rm_X0_law, rm_X0_learnt, rm_X0_look, rm_X0_maze, rm_X0_net, rm_X0_own, rm_X0_plate, rm_X0_rest, rm_X0_right, rm_X0_ring, rm_X0_see, rm_X0_set, rm_X0_shortest, rm_X0_surely, rm_X0_take, rm_X0_tell, rm_X0_told, rm_X0_under, rm_X0_width, rm_X4_alike, rm_X4_chance, rm_X4_count, rm_X4_end, rm_X4_fault, rm_X4_feed, rm_X4_fit, rm_X4_flow, rm_X4_good, rm_X4_hours, rm_X4_init, rm_X4_keep, rm_X4_law, rm_X4_learnt, rm_X4_look, rm_X4_maze, rm_X4_net, rm_X4_own, rm_X4_plate, rm_X4_rest, rm_X4_right, rm_X4_ring, rm_X4_see, rm_X4_set, rm_X4_shortest, rm_X4_surely, rm_X4_take, rm_X4_tell, rm_X4_told, rm_X4_under, rm_X4_width]; omega)) (by first | omega | (simp only [rm_X0_alike, rm_X0_chance, rm_X0_count, rm_X0_end, rm_X0_fault, rm_X0_feed, rm_X0_fit, rm_X0_flow, rm_X0_good, rm_X0_hours, rm_X0_init, rm_X0_keep, rm_X0_law, rm_X0_learnt, rm_X0_look, rm_X0_maze, rm_X0_net, rm_X0_own, rm_X0_plate, rm_X0_rest, rm_X0_right, rm_X0_ring, rm_X0_see, rm_X0_set, rm_X0_shortest, rm_X0_surely, rm_X0_take, rm_X0_tell, rm_X0_told, rm_X0_under, rm_X0_width, rm_X4_alike, rm_X4_chance, rm_X4_count, rm_X4_end, rm_X4_fault, rm_X4_feed, rm_X4_fit, rm_X4_flow, rm_X4_good, rm_X4_hours, rm_X4_init, rm_X4_keep, rm_X4_law, rm_X4_learnt, rm_X4_look, rm_X4_maze, rm_X4_net, rm_X4_own, rm_X4_plate, rm_X4_rest, rm_X4_right, rm_X4_ring, rm_X4_see, rm_X4_set, rm_X4_shortest, rm_X4_surely, rm_X4_take, rm_X4_tell, rm_X4_told, rm_X4_under, rm_X4_width]; omega))
    rw [if_neg hd] at hf
    by_cases hc0 : (v29 &&& (31 : Int32)) = (0 : Int32)
    · rw [if_pos hc0] at hf
      refine g_tblI hX dL_law_33 (0 : Int32) 0 (135) 168 (by decide) (by decide) rfl (by decide) hc0 ?_
      refine g_aload_n hX dL_law_168 (lg_at 1 rfl) ?_
      refine g_aload_n hX dL_law_169 (lg_at 0 rfl) ?_
      refine g_iload_n hX dL_law_170 (lg_at 3 rfl) ?_
      refine g_iconst hX dL_law_171 (1 : Int32) (by decide) ?_
      refine g_iadd hX dL_law_172 ?_
      refine g_iald hX hf dL_law_173 (fun v173 hf => ?_)
      refine g_aload_n hX dL_law_174 (lg_at 0 rfl) ?_
      refine g_iload_n hX dL_law_175 (lg_at 3 rfl) ?_
      refine g_iconst hX dL_law_176 (2 : Int32) (by decide) ?_
      refine g_iadd hX dL_law_177 ?_
      refine g_iald hX hf dL_law_178 (fun v178 hf => ?_)
      refine g_aload_n hX dL_law_179 (lg_at 0 rfl) ?_
      refine g_iload_n hX dL_law_180 (lg_at 3 rfl) ?_
      refine g_iconst hX dL_law_181 (3 : Int32) (by decide) ?_
      refine g_iadd hX dL_law_182 ?_
      refine g_iald hX hf dL_law_183 (fun v183 hf => ?_)
      refine g_aload_n hX dL_law_184 (lg_at 0 rfl) ?_
      refine g_iload_n hX dL_law_185 (lg_at 3 rfl) ?_
      refine g_iconst hX dL_law_186 (4 : Int32) (by decide) ?_
      refine g_iadd hX dL_law_187 ?_
      refine g_iald hX hf dL_law_188 (fun v188 hf => ?_)
      refine g_aload_n hX dL_law_189 (lg_at 0 rfl) ?_
      refine g_iload_n hX dL_law_190 (lg_at 3 rfl) ?_
      refine g_iconst hX dL_law_191 (5 : Int32) (by decide) ?_
      refine g_iadd hX dL_law_192 ?_
      refine g_iald hX hf dL_law_193 (fun v193 hf => ?_)
      obtain ⟨k194, hk194, hf⟩ := ob_some hf
      obtain ⟨⟨v194, A194⟩, hc194, hf⟩ := ob_some hf
      refine h_callV hM [vi v173, vi v178, vi v183, vi v188, vi v193] dL_law_194 cs_SlimeNetLaw_13_1 hk194 (m_X0_feed hc194) (by simp only [roomOK, rm_L_law, rm_X0_alike, rm_X0_chance, rm_X0_count, rm_X0_end, rm_X0_fault, rm_X0_feed, rm_X0_fit, rm_X0_flow, rm_X0_good, rm_X0_hours, rm_X0_init, rm_X0_keep, rm_X0_law, rm_X0_learnt, rm_X0_look, rm_X0_maze, rm_X0_net, rm_X0_own, rm_X0_plate, rm_X0_rest, rm_X0_right, rm_X0_ring, rm_X0_see, rm_X0_set, rm_X0_shortest, rm_X0_surely, rm_X0_take, rm_X0_tell, rm_X0_told, rm_X0_under, rm_X0_width, rm_X4_alike, rm_X4_chance, rm_X4_count, rm_X4_end, rm_X4_fault, rm_X4_feed, rm_X4_fit, rm_X4_flow, rm_X4_good, rm_X4_hours, rm_X4_init, rm_X4_keep, rm_X4_law, rm_X4_learnt, rm_X4_look, rm_X4_maze, rm_X4_net, rm_X4_own, rm_X4_plate, rm_X4_rest, rm_X4_right, rm_X4_ring, rm_X4_see, rm_X4_set, rm_X4_shortest, rm_X4_surely, rm_X4_take, rm_X4_tell, rm_X4_told, rm_X4_under, rm_X4_width, Bool.and_eq_true, Nat.ble_eq] at hcs hss ⊢; omega) rfl rfl rfl ?_
      dsimp only at hf
      refine g_aload_n hX dL_law_197 (lg_at 2 rfl) ?_
      refine g_aload_n hX dL_law_198 (lg_at 0 rfl) ?_
      refine g_iload_n hX dL_law_199 (lg_at 3 rfl) ?_
      refine g_iconst hX dL_law_200 (1 : Int32) (by decide) ?_
      refine g_iadd hX dL_law_201 ?_
      refine g_iald hX hf dL_law_202 (fun v202 hf => ?_)
      refine g_aload_n hX dL_law_203 (lg_at 0 rfl) ?_
      refine g_iload_n hX dL_law_204 (lg_at 3 rfl) ?_
      refine g_iconst hX dL_law_205 (2 : Int32) (by decide) ?_
      refine g_iadd hX dL_law_206 ?_
      refine g_iald hX hf dL_law_207 (fun v207 hf => ?_)
      refine g_aload_n hX dL_law_208 (lg_at 0 rfl) ?_
      refine g_iload_n hX dL_law_209 (lg_at 3 rfl) ?_
      refine g_iconst hX dL_law_210 (3 : Int32) (by decide) ?_
      refine g_iadd hX dL_law_211 ?_
      refine g_iald hX hf dL_law_212 (fun v212 hf => ?_)
      refine g_aload_n hX dL_law_213 (lg_at 0 rfl) ?_
      refine g_iload_n hX dL_law_214 (lg_at 3 rfl) ?_
      refine g_iconst hX dL_law_215 (4 : Int32) (by decide) ?_
      refine g_iadd hX dL_law_216 ?_
      refine g_iald hX hf dL_law_217 (fun v217 hf => ?_)
      refine g_aload_n hX dL_law_218 (lg_at 0 rfl) ?_
      refine g_iload_n hX dL_law_219 (lg_at 3 rfl) ?_
      refine g_iconst hX dL_law_220 (5 : Int32) (by decide) ?_
      refine g_iadd hX dL_law_221 ?_
      refine g_iald hX hf dL_law_222 (fun v222 hf => ?_)
      obtain ⟨k223, hk223, hf⟩ := ob_some hf
      obtain ⟨⟨v223, A223⟩, hc223, hf⟩ := ob_some hf
      refine h_callV hM [vi v202, vi v207, vi v212, vi v217, vi v222] dL_law_223 cs_SlimeNetLaw_17_5 hk223 (m_X4_feed hc223) (by simp only [roomOK, rm_L_law, rm_X0_alike, rm_X0_chance, rm_X0_count, rm_X0_end, rm_X0_fault, rm_X0_feed, rm_X0_fit, rm_X0_flow, rm_X0_good, rm_X0_hours, rm_X0_init, rm_X0_keep, rm_X0_law, rm_X0_learnt, rm_X0_look, rm_X0_maze, rm_X0_net, rm_X0_own, rm_X0_plate, rm_X0_rest, rm_X0_right, rm_X0_ring, rm_X0_see, rm_X0_set, rm_X0_shortest, rm_X0_surely, rm_X0_take, rm_X0_tell, rm_X0_told, rm_X0_under, rm_X0_width, rm_X4_alike, rm_X4_chance, rm_X4_count, rm_X4_end, rm_X4_fault, rm_X4_feed, rm_X4_fit, rm_X4_flow, rm_X4_good, rm_X4_hours, rm_X4_init, rm_X4_keep, rm_X4_law, rm_X4_learnt, rm_X4_look, rm_X4_maze, rm_X4_net, rm_X4_own, rm_X4_plate, rm_X4_rest, rm_X4_right, rm_X4_ring, rm_X4_see, rm_X4_set, rm_X4_shortest, rm_X4_surely, rm_X4_take, rm_X4_tell, rm_X4_told, rm_X4_under, rm_X4_width, Bool.and_eq_true, Nat.ble_eq] at hcs hss ⊢; omega) rfl rfl rfl ?_
      dsimp only at hf
      refine g_icmp_eq hX dL_law_226 940 hf (by decide) (fun c226 hf => ?_) (fun c226 hf => ?_)
      · exact g_wide (g_pick (w_f_L_law_940 hM hcs hss hf K) [0, 1, 2, 3] rfl) (by first | omega | (simp only [rm_X0_alike, rm_X0_chance, rm_X0_count, rm_X0_end, rm_X0_fault, rm_X0_feed, rm_X0_fit, rm_X0_flow, rm_X0_good, rm_X0_hours, rm_X0_init, rm_X0_keep, rm_X0_law, rm_X0_learnt, rm_X0_look, rm_X0_maze, rm_X0_net, rm_X0_own, rm_X0_plate, rm_X0_rest, rm_X0_right, rm_X0_ring, rm_X0_see, rm_X0_set, rm_X0_shortest, rm_X0_surely, rm_X0_take, rm_X0_tell, rm_X0_told, rm_X0_under, rm_X0_width, rm_X4_alike, rm_X4_chance, rm_X4_count, rm_X4_end, rm_X4_fault, rm_X4_feed, rm_X4_fit, rm_X4_flow, rm_X4_good, rm_X4_hours, rm_X4_init, rm_X4_keep, rm_X4_law, rm_X4_learnt, rm_X4_look, rm_X4_maze, rm_X4_net, rm_X4_own, rm_X4_plate, rm_X4_rest, rm_X4_right, rm_X4_ring, rm_X4_see, rm_X4_set, rm_X4_shortest, rm_X4_surely, rm_X4_take, rm_X4_tell, rm_X4_told, rm_X4_under, rm_X4_width]; omega)) (by first | omega | (simp only [rm_X0_alike, rm_X0_chance, rm_X0_count, rm_X0_end, rm_X0_fault, rm_X0_feed, rm_X0_fit, rm_X0_flow, rm_X0_good, rm_X0_hours, rm_X0_init, rm_X0_keep, rm_X0_law, rm_X0_learnt, rm_X0_look, rm_X0_maze, rm_X0_net, rm_X0_own, rm_X0_plate, rm_X0_rest, rm_X0_right, rm_X0_ring, rm_X0_see, rm_X0_set, rm_X0_shortest, rm_X0_surely, rm_X0_take, rm_X0_tell, rm_X0_told, rm_X0_under, rm_X0_width, rm_X4_alike, rm_X4_chance, rm_X4_count, rm_X4_end, rm_X4_fault, rm_X4_feed, rm_X4_fit, rm_X4_flow, rm_X4_good, rm_X4_hours, rm_X4_init, rm_X4_keep, rm_X4_law, rm_X4_learnt, rm_X4_look, rm_X4_maze, rm_X4_net, rm_X4_own, rm_X4_plate, rm_X4_rest, rm_X4_right, rm_X4_ring, rm_X4_see, rm_X4_set, rm_X4_shortest, rm_X4_surely, rm_X4_take, rm_X4_tell, rm_X4_told, rm_X4_under, rm_X4_width]; omega))
      · cases hf
        exact g_wide (g_pick (show G X _ _ _ _ _ _ from K) [] rfl) (by first | omega | (simp only [rm_X0_alike, rm_X0_chance, rm_X0_count, rm_X0_end, rm_X0_fault, rm_X0_feed, rm_X0_fit, rm_X0_flow, rm_X0_good, rm_X0_hours, rm_X0_init, rm_X0_keep, rm_X0_law, rm_X0_learnt, rm_X0_look, rm_X0_maze, rm_X0_net, rm_X0_own, rm_X0_plate, rm_X0_rest, rm_X0_right, rm_X0_ring, rm_X0_see, rm_X0_set, rm_X0_shortest, rm_X0_surely, rm_X0_take, rm_X0_tell, rm_X0_told, rm_X0_under, rm_X0_width, rm_X4_alike, rm_X4_chance, rm_X4_count, rm_X4_end, rm_X4_fault, rm_X4_feed, rm_X4_fit, rm_X4_flow, rm_X4_good, rm_X4_hours, rm_X4_init, rm_X4_keep, rm_X4_law, rm_X4_learnt, rm_X4_look, rm_X4_maze, rm_X4_net, rm_X4_own, rm_X4_plate, rm_X4_rest, rm_X4_right, rm_X4_ring, rm_X4_see, rm_X4_set, rm_X4_shortest, rm_X4_surely, rm_X4_take, rm_X4_tell, rm_X4_told, rm_X4_under, rm_X4_width]; omega)) (by first | omega | (simp only [rm_X0_alike, rm_X0_chance, rm_X0_count, rm_X0_end, rm_X0_fault, rm_X0_feed, rm_X0_fit, rm_X0_flow, rm_X0_good, rm_X0_hours, rm_X0_init, rm_X0_keep, rm_X0_law, rm_X0_learnt, rm_X0_look, rm_X0_maze, rm_X0_net, rm_X0_own, rm_X0_plate, rm_X0_rest, rm_X0_right, rm_X0_ring, rm_X0_see, rm_X0_set, rm_X0_shortest, rm_X0_surely, rm_X0_take, rm_X0_tell, rm_X0_told, rm_X0_under, rm_X0_width, rm_X4_alike, rm_X4_chance, rm_X4_count, rm_X4_end, rm_X4_fault, rm_X4_feed, rm_X4_fit, rm_X4_flow, rm_X4_good, rm_X4_hours, rm_X4_init, rm_X4_keep, rm_X4_law, rm_X4_learnt, rm_X4_look, rm_X4_maze, rm_X4_net, rm_X4_own, rm_X4_plate, rm_X4_rest, rm_X4_right, rm_X4_ring, rm_X4_see, rm_X4_set, rm_X4_shortest, rm_X4_surely, rm_X4_take, rm_X4_tell, rm_X4_told, rm_X4_under, rm_X4_width]; omega))
    rw [if_neg hc0] at hf
    by_cases hc1 : (v29 &&& (31 : Int32)) = (1 : Int32)
    · rw [if_pos hc1] at hf
      refine g_tblI hX dL_law_33 (1 : Int32) 1 (198) 231 (by decide) (by decide) rfl (by decide) hc1 ?_
      refine g_aload_n hX dL_law_231 (lg_at 1 rfl) ?_
      refine g_aload_n hX dL_law_232 (lg_at 0 rfl) ?_
      refine g_iload_n hX dL_law_233 (lg_at 3 rfl) ?_
      refine g_iconst hX dL_law_234 (1 : Int32) (by decide) ?_
      refine g_iadd hX dL_law_235 ?_
      refine g_iald hX hf dL_law_236 (fun v236 hf => ?_)
      obtain ⟨k237, hk237, hf⟩ := ob_some hf
      obtain ⟨⟨v237, A237⟩, hc237, hf⟩ := ob_some hf
      refine h_callV hM [vi v236] dL_law_237 cs_SlimeNetLaw_18_1 hk237 (m_X0_end hc237) (by simp only [roomOK, rm_L_law, rm_X0_alike, rm_X0_chance, rm_X0_count, rm_X0_end, rm_X0_fault, rm_X0_feed, rm_X0_fit, rm_X0_flow, rm_X0_good, rm_X0_hours, rm_X0_init, rm_X0_keep, rm_X0_law, rm_X0_learnt, rm_X0_look, rm_X0_maze, rm_X0_net, rm_X0_own, rm_X0_plate, rm_X0_rest, rm_X0_right, rm_X0_ring, rm_X0_see, rm_X0_set, rm_X0_shortest, rm_X0_surely, rm_X0_take, rm_X0_tell, rm_X0_told, rm_X0_under, rm_X0_width, rm_X4_alike, rm_X4_chance, rm_X4_count, rm_X4_end, rm_X4_fault, rm_X4_feed, rm_X4_fit, rm_X4_flow, rm_X4_good, rm_X4_hours, rm_X4_init, rm_X4_keep, rm_X4_law, rm_X4_learnt, rm_X4_look, rm_X4_maze, rm_X4_net, rm_X4_own, rm_X4_plate, rm_X4_rest, rm_X4_right, rm_X4_ring, rm_X4_see, rm_X4_set, rm_X4_shortest, rm_X4_surely, rm_X4_take, rm_X4_tell, rm_X4_told, rm_X4_under, rm_X4_width, Bool.and_eq_true, Nat.ble_eq] at hcs hss ⊢; omega) rfl rfl rfl ?_
      dsimp only at hf
      refine g_aload_n hX dL_law_240 (lg_at 2 rfl) ?_
      refine g_aload_n hX dL_law_241 (lg_at 0 rfl) ?_
      refine g_iload_n hX dL_law_242 (lg_at 3 rfl) ?_
      refine g_iconst hX dL_law_243 (1 : Int32) (by decide) ?_
      refine g_iadd hX dL_law_244 ?_
      refine g_iald hX hf dL_law_245 (fun v245 hf => ?_)
      obtain ⟨k246, hk246, hf⟩ := ob_some hf
      obtain ⟨⟨v246, A246⟩, hc246, hf⟩ := ob_some hf
      refine h_callV hM [vi v245] dL_law_246 cs_SlimeNetLaw_22_5 hk246 (m_X4_end hc246) (by simp only [roomOK, rm_L_law, rm_X0_alike, rm_X0_chance, rm_X0_count, rm_X0_end, rm_X0_fault, rm_X0_feed, rm_X0_fit, rm_X0_flow, rm_X0_good, rm_X0_hours, rm_X0_init, rm_X0_keep, rm_X0_law, rm_X0_learnt, rm_X0_look, rm_X0_maze, rm_X0_net, rm_X0_own, rm_X0_plate, rm_X0_rest, rm_X0_right, rm_X0_ring, rm_X0_see, rm_X0_set, rm_X0_shortest, rm_X0_surely, rm_X0_take, rm_X0_tell, rm_X0_told, rm_X0_under, rm_X0_width, rm_X4_alike, rm_X4_chance, rm_X4_count, rm_X4_end, rm_X4_fault, rm_X4_feed, rm_X4_fit, rm_X4_flow, rm_X4_good, rm_X4_hours, rm_X4_init, rm_X4_keep, rm_X4_law, rm_X4_learnt, rm_X4_look, rm_X4_maze, rm_X4_net, rm_X4_own, rm_X4_plate, rm_X4_rest, rm_X4_right, rm_X4_ring, rm_X4_see, rm_X4_set, rm_X4_shortest, rm_X4_surely, rm_X4_take, rm_X4_tell, rm_X4_told, rm_X4_under, rm_X4_width, Bool.and_eq_true, Nat.ble_eq] at hcs hss ⊢; omega) rfl rfl rfl ?_
      dsimp only at hf
      refine g_icmp_eq hX dL_law_249 940 hf (by decide) (fun c249 hf => ?_) (fun c249 hf => ?_)
      · exact g_wide (g_pick (w_f_L_law_940 hM hcs hss hf K) [0, 1, 2, 3] rfl) (by first | omega | (simp only [rm_X0_alike, rm_X0_chance, rm_X0_count, rm_X0_end, rm_X0_fault, rm_X0_feed, rm_X0_fit, rm_X0_flow, rm_X0_good, rm_X0_hours, rm_X0_init, rm_X0_keep, rm_X0_law, rm_X0_learnt, rm_X0_look, rm_X0_maze, rm_X0_net, rm_X0_own, rm_X0_plate, rm_X0_rest, rm_X0_right, rm_X0_ring, rm_X0_see, rm_X0_set, rm_X0_shortest, rm_X0_surely, rm_X0_take, rm_X0_tell, rm_X0_told, rm_X0_under, rm_X0_width, rm_X4_alike, rm_X4_chance, rm_X4_count, rm_X4_end, rm_X4_fault, rm_X4_feed, rm_X4_fit, rm_X4_flow, rm_X4_good, rm_X4_hours, rm_X4_init, rm_X4_keep, rm_X4_law, rm_X4_learnt, rm_X4_look, rm_X4_maze, rm_X4_net, rm_X4_own, rm_X4_plate, rm_X4_rest, rm_X4_right, rm_X4_ring, rm_X4_see, rm_X4_set, rm_X4_shortest, rm_X4_surely, rm_X4_take, rm_X4_tell, rm_X4_told, rm_X4_under, rm_X4_width]; omega)) (by first | omega | (simp only [rm_X0_alike, rm_X0_chance, rm_X0_count, rm_X0_end, rm_X0_fault, rm_X0_feed, rm_X0_fit, rm_X0_flow, rm_X0_good, rm_X0_hours, rm_X0_init, rm_X0_keep, rm_X0_law, rm_X0_learnt, rm_X0_look, rm_X0_maze, rm_X0_net, rm_X0_own, rm_X0_plate, rm_X0_rest, rm_X0_right, rm_X0_ring, rm_X0_see, rm_X0_set, rm_X0_shortest, rm_X0_surely, rm_X0_take, rm_X0_tell, rm_X0_told, rm_X0_under, rm_X0_width, rm_X4_alike, rm_X4_chance, rm_X4_count, rm_X4_end, rm_X4_fault, rm_X4_feed, rm_X4_fit, rm_X4_flow, rm_X4_good, rm_X4_hours, rm_X4_init, rm_X4_keep, rm_X4_law, rm_X4_learnt, rm_X4_look, rm_X4_maze, rm_X4_net, rm_X4_own, rm_X4_plate, rm_X4_rest, rm_X4_right, rm_X4_ring, rm_X4_see, rm_X4_set, rm_X4_shortest, rm_X4_surely, rm_X4_take, rm_X4_tell, rm_X4_told, rm_X4_under, rm_X4_width]; omega))
      · cases hf
        exact g_wide (g_pick (show G X _ _ _ _ _ _ from K) [] rfl) (by first | omega | (simp only [rm_X0_alike, rm_X0_chance, rm_X0_count, rm_X0_end, rm_X0_fault, rm_X0_feed, rm_X0_fit, rm_X0_flow, rm_X0_good, rm_X0_hours, rm_X0_init, rm_X0_keep, rm_X0_law, rm_X0_learnt, rm_X0_look, rm_X0_maze, rm_X0_net, rm_X0_own, rm_X0_plate, rm_X0_rest, rm_X0_right, rm_X0_ring, rm_X0_see, rm_X0_set, rm_X0_shortest, rm_X0_surely, rm_X0_take, rm_X0_tell, rm_X0_told, rm_X0_under, rm_X0_width, rm_X4_alike, rm_X4_chance, rm_X4_count, rm_X4_end, rm_X4_fault, rm_X4_feed, rm_X4_fit, rm_X4_flow, rm_X4_good, rm_X4_hours, rm_X4_init, rm_X4_keep, rm_X4_law, rm_X4_learnt, rm_X4_look, rm_X4_maze, rm_X4_net, rm_X4_own, rm_X4_plate, rm_X4_rest, rm_X4_right, rm_X4_ring, rm_X4_see, rm_X4_set, rm_X4_shortest, rm_X4_surely, rm_X4_take, rm_X4_tell, rm_X4_told, rm_X4_under, rm_X4_width]; omega)) (by first | omega | (simp only [rm_X0_alike, rm_X0_chance, rm_X0_count, rm_X0_end, rm_X0_fault, rm_X0_feed, rm_X0_fit, rm_X0_flow, rm_X0_good, rm_X0_hours, rm_X0_init, rm_X0_keep, rm_X0_law, rm_X0_learnt, rm_X0_look, rm_X0_maze, rm_X0_net, rm_X0_own, rm_X0_plate, rm_X0_rest, rm_X0_right, rm_X0_ring, rm_X0_see, rm_X0_set, rm_X0_shortest, rm_X0_surely, rm_X0_take, rm_X0_tell, rm_X0_told, rm_X0_under, rm_X0_width, rm_X4_alike, rm_X4_chance, rm_X4_count, rm_X4_end, rm_X4_fault, rm_X4_feed, rm_X4_fit, rm_X4_flow, rm_X4_good, rm_X4_hours, rm_X4_init, rm_X4_keep, rm_X4_law, rm_X4_learnt, rm_X4_look, rm_X4_maze, rm_X4_net, rm_X4_own, rm_X4_plate, rm_X4_rest, rm_X4_right, rm_X4_ring, rm_X4_see, rm_X4_set, rm_X4_shortest, rm_X4_surely, rm_X4_take, rm_X4_tell, rm_X4_told, rm_X4_under, rm_X4_width]; omega))
    rw [if_neg hc1] at hf
    by_cases hc2 : (v29 &&& (31 : Int32)) = (2 : Int32)
    · rw [if_pos hc2] at hf
      refine g_tblI hX dL_law_33 (2 : Int32) 2 (221) 254 (by decide) (by decide) rfl (by decide) hc2 ?_
      refine g_aload_n hX dL_law_254 (lg_at 1 rfl) ?_
      obtain ⟨k255, hk255, hf⟩ := ob_some hf
      obtain ⟨⟨v255, A255⟩, hc255, hf⟩ := ob_some hf
      refine h_callVW hM [] dL_law_255 cs_SlimeNetLaw_23_1 hk255 (m_X0_plate hc255) (by simp only [roomOK, rm_L_law, rm_X0_alike, rm_X0_chance, rm_X0_count, rm_X0_end, rm_X0_fault, rm_X0_feed, rm_X0_fit, rm_X0_flow, rm_X0_good, rm_X0_hours, rm_X0_init, rm_X0_keep, rm_X0_law, rm_X0_learnt, rm_X0_look, rm_X0_maze, rm_X0_net, rm_X0_own, rm_X0_plate, rm_X0_rest, rm_X0_right, rm_X0_ring, rm_X0_see, rm_X0_set, rm_X0_shortest, rm_X0_surely, rm_X0_take, rm_X0_tell, rm_X0_told, rm_X0_under, rm_X0_width, rm_X4_alike, rm_X4_chance, rm_X4_count, rm_X4_end, rm_X4_fault, rm_X4_feed, rm_X4_fit, rm_X4_flow, rm_X4_good, rm_X4_hours, rm_X4_init, rm_X4_keep, rm_X4_law, rm_X4_learnt, rm_X4_look, rm_X4_maze, rm_X4_net, rm_X4_own, rm_X4_plate, rm_X4_rest, rm_X4_right, rm_X4_ring, rm_X4_see, rm_X4_set, rm_X4_shortest, rm_X4_surely, rm_X4_take, rm_X4_tell, rm_X4_told, rm_X4_under, rm_X4_width, Bool.and_eq_true, Nat.ble_eq] at hcs hss ⊢; omega) rfl rfl rfl ?_
      dsimp only at hf
      refine g_aload_n hX dL_law_258 (lg_at 2 rfl) ?_
      obtain ⟨k259, hk259, hf⟩ := ob_some hf
      obtain ⟨⟨v259, A259⟩, hc259, hf⟩ := ob_some hf
      refine h_callV hM [] dL_law_259 cs_SlimeNetLaw_27_5 hk259 (m_X4_plate hc259) (by simp only [roomOK, rm_L_law, rm_X0_alike, rm_X0_chance, rm_X0_count, rm_X0_end, rm_X0_fault, rm_X0_feed, rm_X0_fit, rm_X0_flow, rm_X0_good, rm_X0_hours, rm_X0_init, rm_X0_keep, rm_X0_law, rm_X0_learnt, rm_X0_look, rm_X0_maze, rm_X0_net, rm_X0_own, rm_X0_plate, rm_X0_rest, rm_X0_right, rm_X0_ring, rm_X0_see, rm_X0_set, rm_X0_shortest, rm_X0_surely, rm_X0_take, rm_X0_tell, rm_X0_told, rm_X0_under, rm_X0_width, rm_X4_alike, rm_X4_chance, rm_X4_count, rm_X4_end, rm_X4_fault, rm_X4_feed, rm_X4_fit, rm_X4_flow, rm_X4_good, rm_X4_hours, rm_X4_init, rm_X4_keep, rm_X4_law, rm_X4_learnt, rm_X4_look, rm_X4_maze, rm_X4_net, rm_X4_own, rm_X4_plate, rm_X4_rest, rm_X4_right, rm_X4_ring, rm_X4_see, rm_X4_set, rm_X4_shortest, rm_X4_surely, rm_X4_take, rm_X4_tell, rm_X4_told, rm_X4_under, rm_X4_width, Bool.and_eq_true, Nat.ble_eq] at hcs hss ⊢; omega) rfl rfl rfl ?_
      dsimp only at hf
      refine g_icmp_eq hX dL_law_262 940 hf (by decide) (fun c262 hf => ?_) (fun c262 hf => ?_)
      · exact g_pick (w_f_L_law_940 hM hcs hss hf K) [0, 1, 2, 3] rfl
      · cases hf
        exact g_pick (show G X _ _ _ _ _ _ from K) [] rfl
    rw [if_neg hc2] at hf
    by_cases hc3 : (v29 &&& (31 : Int32)) = (3 : Int32)
    · rw [if_pos hc3] at hf
      refine g_tblI hX dL_law_33 (3 : Int32) 3 (234) 267 (by decide) (by decide) rfl (by decide) hc3 ?_
      refine g_aload_n hX dL_law_267 (lg_at 1 rfl) ?_
      refine g_aload_n hX dL_law_268 (lg_at 0 rfl) ?_
      refine g_iload_n hX dL_law_269 (lg_at 3 rfl) ?_
      refine g_iconst hX dL_law_270 (1 : Int32) (by decide) ?_
      refine g_iadd hX dL_law_271 ?_
      refine g_iald hX hf dL_law_272 (fun v272 hf => ?_)
      obtain ⟨k273, hk273, hf⟩ := ob_some hf
      obtain ⟨v273, hc273, hf⟩ := ob_some hf
      refine h_callV hM [vi v272] dL_law_273 cs_SlimeNetLaw_28_1 hk273 (m_X0_fault hc273) (by simp only [roomOK, rm_L_law, rm_X0_alike, rm_X0_chance, rm_X0_count, rm_X0_end, rm_X0_fault, rm_X0_feed, rm_X0_fit, rm_X0_flow, rm_X0_good, rm_X0_hours, rm_X0_init, rm_X0_keep, rm_X0_law, rm_X0_learnt, rm_X0_look, rm_X0_maze, rm_X0_net, rm_X0_own, rm_X0_plate, rm_X0_rest, rm_X0_right, rm_X0_ring, rm_X0_see, rm_X0_set, rm_X0_shortest, rm_X0_surely, rm_X0_take, rm_X0_tell, rm_X0_told, rm_X0_under, rm_X0_width, rm_X4_alike, rm_X4_chance, rm_X4_count, rm_X4_end, rm_X4_fault, rm_X4_feed, rm_X4_fit, rm_X4_flow, rm_X4_good, rm_X4_hours, rm_X4_init, rm_X4_keep, rm_X4_law, rm_X4_learnt, rm_X4_look, rm_X4_maze, rm_X4_net, rm_X4_own, rm_X4_plate, rm_X4_rest, rm_X4_right, rm_X4_ring, rm_X4_see, rm_X4_set, rm_X4_shortest, rm_X4_surely, rm_X4_take, rm_X4_tell, rm_X4_told, rm_X4_under, rm_X4_width, Bool.and_eq_true, Nat.ble_eq] at hcs hss ⊢; omega) rfl rfl rfl ?_
      refine g_aload_n hX dL_law_276 (lg_at 2 rfl) ?_
      refine g_aload_n hX dL_law_277 (lg_at 0 rfl) ?_
      refine g_iload_n hX dL_law_278 (lg_at 3 rfl) ?_
      refine g_iconst hX dL_law_279 (1 : Int32) (by decide) ?_
      refine g_iadd hX dL_law_280 ?_
      refine g_iald hX hf dL_law_281 (fun v281 hf => ?_)
      obtain ⟨k282, hk282, hf⟩ := ob_some hf
      obtain ⟨v282, hc282, hf⟩ := ob_some hf
      refine h_callV hM [vi v281] dL_law_282 cs_SlimeNetLaw_31_5 hk282 (m_X4_fault hc282) (by simp only [roomOK, rm_L_law, rm_X0_alike, rm_X0_chance, rm_X0_count, rm_X0_end, rm_X0_fault, rm_X0_feed, rm_X0_fit, rm_X0_flow, rm_X0_good, rm_X0_hours, rm_X0_init, rm_X0_keep, rm_X0_law, rm_X0_learnt, rm_X0_look, rm_X0_maze, rm_X0_net, rm_X0_own, rm_X0_plate, rm_X0_rest, rm_X0_right, rm_X0_ring, rm_X0_see, rm_X0_set, rm_X0_shortest, rm_X0_surely, rm_X0_take, rm_X0_tell, rm_X0_told, rm_X0_under, rm_X0_width, rm_X4_alike, rm_X4_chance, rm_X4_count, rm_X4_end, rm_X4_fault, rm_X4_feed, rm_X4_fit, rm_X4_flow, rm_X4_good, rm_X4_hours, rm_X4_init, rm_X4_keep, rm_X4_law, rm_X4_learnt, rm_X4_look, rm_X4_maze, rm_X4_net, rm_X4_own, rm_X4_plate, rm_X4_rest, rm_X4_right, rm_X4_ring, rm_X4_see, rm_X4_set, rm_X4_shortest, rm_X4_surely, rm_X4_take, rm_X4_tell, rm_X4_told, rm_X4_under, rm_X4_width, Bool.and_eq_true, Nat.ble_eq] at hcs hss ⊢; omega) rfl rfl rfl ?_
      refine g_icmp_eq hX dL_law_285 940 hf (by decide) (fun c285 hf => ?_) (fun c285 hf => ?_)
      · exact g_wide (g_pick (w_f_L_law_940 hM hcs hss hf K) [0, 1, 2, 3] rfl) (by first | omega | (simp only [rm_X0_alike, rm_X0_chance, rm_X0_count, rm_X0_end, rm_X0_fault, rm_X0_feed, rm_X0_fit, rm_X0_flow, rm_X0_good, rm_X0_hours, rm_X0_init, rm_X0_keep, rm_X0_law, rm_X0_learnt, rm_X0_look, rm_X0_maze, rm_X0_net, rm_X0_own, rm_X0_plate, rm_X0_rest, rm_X0_right, rm_X0_ring, rm_X0_see, rm_X0_set, rm_X0_shortest, rm_X0_surely, rm_X0_take, rm_X0_tell, rm_X0_told, rm_X0_under, rm_X0_width, rm_X4_alike, rm_X4_chance, rm_X4_count, rm_X4_end, rm_X4_fault, rm_X4_feed, rm_X4_fit, rm_X4_flow, rm_X4_good, rm_X4_hours, rm_X4_init, rm_X4_keep, rm_X4_law, rm_X4_learnt, rm_X4_look, rm_X4_maze, rm_X4_net, rm_X4_own, rm_X4_plate, rm_X4_rest, rm_X4_right, rm_X4_ring, rm_X4_see, rm_X4_set, rm_X4_shortest, rm_X4_surely, rm_X4_take, rm_X4_tell, rm_X4_told, rm_X4_under, rm_X4_width]; omega)) (by first | omega | (simp only [rm_X0_alike, rm_X0_chance, rm_X0_count, rm_X0_end, rm_X0_fault, rm_X0_feed, rm_X0_fit, rm_X0_flow, rm_X0_good, rm_X0_hours, rm_X0_init, rm_X0_keep, rm_X0_law, rm_X0_learnt, rm_X0_look, rm_X0_maze, rm_X0_net, rm_X0_own, rm_X0_plate, rm_X0_rest, rm_X0_right, rm_X0_ring, rm_X0_see, rm_X0_set, rm_X0_shortest, rm_X0_surely, rm_X0_take, rm_X0_tell, rm_X0_told, rm_X0_under, rm_X0_width, rm_X4_alike, rm_X4_chance, rm_X4_count, rm_X4_end, rm_X4_fault, rm_X4_feed, rm_X4_fit, rm_X4_flow, rm_X4_good, rm_X4_hours, rm_X4_init, rm_X4_keep, rm_X4_law, rm_X4_learnt, rm_X4_look, rm_X4_maze, rm_X4_net, rm_X4_own, rm_X4_plate, rm_X4_rest, rm_X4_right, rm_X4_ring, rm_X4_see, rm_X4_set, rm_X4_shortest, rm_X4_surely, rm_X4_take, rm_X4_tell, rm_X4_told, rm_X4_under, rm_X4_width]; omega))
      · cases hf
        exact g_wide (g_pick (show G X _ _ _ _ _ _ from K) [] rfl) (by first | omega | (simp only [rm_X0_alike, rm_X0_chance, rm_X0_count, rm_X0_end, rm_X0_fault, rm_X0_feed, rm_X0_fit, rm_X0_flow, rm_X0_good, rm_X0_hours, rm_X0_init, rm_X0_keep, rm_X0_law, rm_X0_learnt, rm_X0_look, rm_X0_maze, rm_X0_net, rm_X0_own, rm_X0_plate, rm_X0_rest, rm_X0_right, rm_X0_ring, rm_X0_see, rm_X0_set, rm_X0_shortest, rm_X0_surely, rm_X0_take, rm_X0_tell, rm_X0_told, rm_X0_under, rm_X0_width, rm_X4_alike, rm_X4_chance, rm_X4_count, rm_X4_end, rm_X4_fault, rm_X4_feed, rm_X4_fit, rm_X4_flow, rm_X4_good, rm_X4_hours, rm_X4_init, rm_X4_keep, rm_X4_law, rm_X4_learnt, rm_X4_look, rm_X4_maze, rm_X4_net, rm_X4_own, rm_X4_plate, rm_X4_rest, rm_X4_right, rm_X4_ring, rm_X4_see, rm_X4_set, rm_X4_shortest, rm_X4_surely, rm_X4_take, rm_X4_tell, rm_X4_told, rm_X4_under, rm_X4_width]; omega)) (by first | omega | (simp only [rm_X0_alike, rm_X0_chance, rm_X0_count, rm_X0_end, rm_X0_fault, rm_X0_feed, rm_X0_fit, rm_X0_flow, rm_X0_good, rm_X0_hours, rm_X0_init, rm_X0_keep, rm_X0_law, rm_X0_learnt, rm_X0_look, rm_X0_maze, rm_X0_net, rm_X0_own, rm_X0_plate, rm_X0_rest, rm_X0_right, rm_X0_ring, rm_X0_see, rm_X0_set, rm_X0_shortest, rm_X0_surely, rm_X0_take, rm_X0_tell, rm_X0_told, rm_X0_under, rm_X0_width, rm_X4_alike, rm_X4_chance, rm_X4_count, rm_X4_end, rm_X4_fault, rm_X4_feed, rm_X4_fit, rm_X4_flow, rm_X4_good, rm_X4_hours, rm_X4_init, rm_X4_keep, rm_X4_law, rm_X4_learnt, rm_X4_look, rm_X4_maze, rm_X4_net, rm_X4_own, rm_X4_plate, rm_X4_rest, rm_X4_right, rm_X4_ring, rm_X4_see, rm_X4_set, rm_X4_shortest, rm_X4_surely, rm_X4_take, rm_X4_tell, rm_X4_told, rm_X4_under, rm_X4_width]; omega))
    rw [if_neg hc3] at hf
    by_cases hc4 : (v29 &&& (31 : Int32)) = (4 : Int32)
    · rw [if_pos hc4] at hf
      refine g_tblI hX dL_law_33 (4 : Int32) 4 (257) 290 (by decide) (by decide) rfl (by decide) hc4 ?_
      refine g_aload_n hX dL_law_290 (lg_at 1 rfl) ?_
      refine g_aload_n hX dL_law_291 (lg_at 0 rfl) ?_
      refine g_iload_n hX dL_law_292 (lg_at 3 rfl) ?_
      refine g_iconst hX dL_law_293 (1 : Int32) (by decide) ?_
      refine g_iadd hX dL_law_294 ?_
      refine g_iald hX hf dL_law_295 (fun v295 hf => ?_)
      obtain ⟨k296, hk296, hf⟩ := ob_some hf
      obtain ⟨v296, hc296, hf⟩ := ob_some hf
      refine h_callV hM [vi v295] dL_law_296 cs_SlimeNetLaw_32_1 hk296 (m_X0_told hc296) (by simp only [roomOK, rm_L_law, rm_X0_alike, rm_X0_chance, rm_X0_count, rm_X0_end, rm_X0_fault, rm_X0_feed, rm_X0_fit, rm_X0_flow, rm_X0_good, rm_X0_hours, rm_X0_init, rm_X0_keep, rm_X0_law, rm_X0_learnt, rm_X0_look, rm_X0_maze, rm_X0_net, rm_X0_own, rm_X0_plate, rm_X0_rest, rm_X0_right, rm_X0_ring, rm_X0_see, rm_X0_set, rm_X0_shortest, rm_X0_surely, rm_X0_take, rm_X0_tell, rm_X0_told, rm_X0_under, rm_X0_width, rm_X4_alike, rm_X4_chance, rm_X4_count, rm_X4_end, rm_X4_fault, rm_X4_feed, rm_X4_fit, rm_X4_flow, rm_X4_good, rm_X4_hours, rm_X4_init, rm_X4_keep, rm_X4_law, rm_X4_learnt, rm_X4_look, rm_X4_maze, rm_X4_net, rm_X4_own, rm_X4_plate, rm_X4_rest, rm_X4_right, rm_X4_ring, rm_X4_see, rm_X4_set, rm_X4_shortest, rm_X4_surely, rm_X4_take, rm_X4_tell, rm_X4_told, rm_X4_under, rm_X4_width, Bool.and_eq_true, Nat.ble_eq] at hcs hss ⊢; omega) rfl rfl rfl ?_
      refine g_aload_n hX dL_law_299 (lg_at 2 rfl) ?_
      refine g_aload_n hX dL_law_300 (lg_at 0 rfl) ?_
      refine g_iload_n hX dL_law_301 (lg_at 3 rfl) ?_
      refine g_iconst hX dL_law_302 (1 : Int32) (by decide) ?_
      refine g_iadd hX dL_law_303 ?_
      refine g_iald hX hf dL_law_304 (fun v304 hf => ?_)
      obtain ⟨k305, hk305, hf⟩ := ob_some hf
      obtain ⟨v305, hc305, hf⟩ := ob_some hf
      refine h_callV hM [vi v304] dL_law_305 cs_SlimeNetLaw_35_5 hk305 (m_X4_told hc305) (by simp only [roomOK, rm_L_law, rm_X0_alike, rm_X0_chance, rm_X0_count, rm_X0_end, rm_X0_fault, rm_X0_feed, rm_X0_fit, rm_X0_flow, rm_X0_good, rm_X0_hours, rm_X0_init, rm_X0_keep, rm_X0_law, rm_X0_learnt, rm_X0_look, rm_X0_maze, rm_X0_net, rm_X0_own, rm_X0_plate, rm_X0_rest, rm_X0_right, rm_X0_ring, rm_X0_see, rm_X0_set, rm_X0_shortest, rm_X0_surely, rm_X0_take, rm_X0_tell, rm_X0_told, rm_X0_under, rm_X0_width, rm_X4_alike, rm_X4_chance, rm_X4_count, rm_X4_end, rm_X4_fault, rm_X4_feed, rm_X4_fit, rm_X4_flow, rm_X4_good, rm_X4_hours, rm_X4_init, rm_X4_keep, rm_X4_law, rm_X4_learnt, rm_X4_look, rm_X4_maze, rm_X4_net, rm_X4_own, rm_X4_plate, rm_X4_rest, rm_X4_right, rm_X4_ring, rm_X4_see, rm_X4_set, rm_X4_shortest, rm_X4_surely, rm_X4_take, rm_X4_tell, rm_X4_told, rm_X4_under, rm_X4_width, Bool.and_eq_true, Nat.ble_eq] at hcs hss ⊢; omega) rfl rfl rfl ?_
      refine g_icmp_eq hX dL_law_308 940 hf (by decide) (fun c308 hf => ?_) (fun c308 hf => ?_)
      · exact g_wide (g_pick (w_f_L_law_940 hM hcs hss hf K) [0, 1, 2, 3] rfl) (by first | omega | (simp only [rm_X0_alike, rm_X0_chance, rm_X0_count, rm_X0_end, rm_X0_fault, rm_X0_feed, rm_X0_fit, rm_X0_flow, rm_X0_good, rm_X0_hours, rm_X0_init, rm_X0_keep, rm_X0_law, rm_X0_learnt, rm_X0_look, rm_X0_maze, rm_X0_net, rm_X0_own, rm_X0_plate, rm_X0_rest, rm_X0_right, rm_X0_ring, rm_X0_see, rm_X0_set, rm_X0_shortest, rm_X0_surely, rm_X0_take, rm_X0_tell, rm_X0_told, rm_X0_under, rm_X0_width, rm_X4_alike, rm_X4_chance, rm_X4_count, rm_X4_end, rm_X4_fault, rm_X4_feed, rm_X4_fit, rm_X4_flow, rm_X4_good, rm_X4_hours, rm_X4_init, rm_X4_keep, rm_X4_law, rm_X4_learnt, rm_X4_look, rm_X4_maze, rm_X4_net, rm_X4_own, rm_X4_plate, rm_X4_rest, rm_X4_right, rm_X4_ring, rm_X4_see, rm_X4_set, rm_X4_shortest, rm_X4_surely, rm_X4_take, rm_X4_tell, rm_X4_told, rm_X4_under, rm_X4_width]; omega)) (by first | omega | (simp only [rm_X0_alike, rm_X0_chance, rm_X0_count, rm_X0_end, rm_X0_fault, rm_X0_feed, rm_X0_fit, rm_X0_flow, rm_X0_good, rm_X0_hours, rm_X0_init, rm_X0_keep, rm_X0_law, rm_X0_learnt, rm_X0_look, rm_X0_maze, rm_X0_net, rm_X0_own, rm_X0_plate, rm_X0_rest, rm_X0_right, rm_X0_ring, rm_X0_see, rm_X0_set, rm_X0_shortest, rm_X0_surely, rm_X0_take, rm_X0_tell, rm_X0_told, rm_X0_under, rm_X0_width, rm_X4_alike, rm_X4_chance, rm_X4_count, rm_X4_end, rm_X4_fault, rm_X4_feed, rm_X4_fit, rm_X4_flow, rm_X4_good, rm_X4_hours, rm_X4_init, rm_X4_keep, rm_X4_law, rm_X4_learnt, rm_X4_look, rm_X4_maze, rm_X4_net, rm_X4_own, rm_X4_plate, rm_X4_rest, rm_X4_right, rm_X4_ring, rm_X4_see, rm_X4_set, rm_X4_shortest, rm_X4_surely, rm_X4_take, rm_X4_tell, rm_X4_told, rm_X4_under, rm_X4_width]; omega))
      · cases hf
        exact g_wide (g_pick (show G X _ _ _ _ _ _ from K) [] rfl) (by first | omega | (simp only [rm_X0_alike, rm_X0_chance, rm_X0_count, rm_X0_end, rm_X0_fault, rm_X0_feed, rm_X0_fit, rm_X0_flow, rm_X0_good, rm_X0_hours, rm_X0_init, rm_X0_keep, rm_X0_law, rm_X0_learnt, rm_X0_look, rm_X0_maze, rm_X0_net, rm_X0_own, rm_X0_plate, rm_X0_rest, rm_X0_right, rm_X0_ring, rm_X0_see, rm_X0_set, rm_X0_shortest, rm_X0_surely, rm_X0_take, rm_X0_tell, rm_X0_told, rm_X0_under, rm_X0_width, rm_X4_alike, rm_X4_chance, rm_X4_count, rm_X4_end, rm_X4_fault, rm_X4_feed, rm_X4_fit, rm_X4_flow, rm_X4_good, rm_X4_hours, rm_X4_init, rm_X4_keep, rm_X4_law, rm_X4_learnt, rm_X4_look, rm_X4_maze, rm_X4_net, rm_X4_own, rm_X4_plate, rm_X4_rest, rm_X4_right, rm_X4_ring, rm_X4_see, rm_X4_set, rm_X4_shortest, rm_X4_surely, rm_X4_take, rm_X4_tell, rm_X4_told, rm_X4_under, rm_X4_width]; omega)) (by first | omega | (simp only [rm_X0_alike, rm_X0_chance, rm_X0_count, rm_X0_end, rm_X0_fault, rm_X0_feed, rm_X0_fit, rm_X0_flow, rm_X0_good, rm_X0_hours, rm_X0_init, rm_X0_keep, rm_X0_law, rm_X0_learnt, rm_X0_look, rm_X0_maze, rm_X0_net, rm_X0_own, rm_X0_plate, rm_X0_rest, rm_X0_right, rm_X0_ring, rm_X0_see, rm_X0_set, rm_X0_shortest, rm_X0_surely, rm_X0_take, rm_X0_tell, rm_X0_told, rm_X0_under, rm_X0_width, rm_X4_alike, rm_X4_chance, rm_X4_count, rm_X4_end, rm_X4_fault, rm_X4_feed, rm_X4_fit, rm_X4_flow, rm_X4_good, rm_X4_hours, rm_X4_init, rm_X4_keep, rm_X4_law, rm_X4_learnt, rm_X4_look, rm_X4_maze, rm_X4_net, rm_X4_own, rm_X4_plate, rm_X4_rest, rm_X4_right, rm_X4_ring, rm_X4_see, rm_X4_set, rm_X4_shortest, rm_X4_surely, rm_X4_take, rm_X4_tell, rm_X4_told, rm_X4_under, rm_X4_width]; omega))
    rw [if_neg hc4] at hf
    by_cases hc5 : (v29 &&& (31 : Int32)) = (5 : Int32)
    · rw [if_pos hc5] at hf
      refine g_tblI hX dL_law_33 (5 : Int32) 5 (280) 313 (by decide) (by decide) rfl (by decide) hc5 ?_
      refine g_aload_n hX dL_law_313 (lg_at 1 rfl) ?_
      refine g_aload_n hX dL_law_314 (lg_at 0 rfl) ?_
      refine g_iload_n hX dL_law_315 (lg_at 3 rfl) ?_
      refine g_iconst hX dL_law_316 (1 : Int32) (by decide) ?_
      refine g_iadd hX dL_law_317 ?_
      refine g_iald hX hf dL_law_318 (fun v318 hf => ?_)
      obtain ⟨k319, hk319, hf⟩ := ob_some hf
      obtain ⟨v319, hc319, hf⟩ := ob_some hf
      refine h_callV hM [vi v318] dL_law_319 cs_SlimeNetLaw_36_1 hk319 (m_X0_width hc319) (by simp only [roomOK, rm_L_law, rm_X0_alike, rm_X0_chance, rm_X0_count, rm_X0_end, rm_X0_fault, rm_X0_feed, rm_X0_fit, rm_X0_flow, rm_X0_good, rm_X0_hours, rm_X0_init, rm_X0_keep, rm_X0_law, rm_X0_learnt, rm_X0_look, rm_X0_maze, rm_X0_net, rm_X0_own, rm_X0_plate, rm_X0_rest, rm_X0_right, rm_X0_ring, rm_X0_see, rm_X0_set, rm_X0_shortest, rm_X0_surely, rm_X0_take, rm_X0_tell, rm_X0_told, rm_X0_under, rm_X0_width, rm_X4_alike, rm_X4_chance, rm_X4_count, rm_X4_end, rm_X4_fault, rm_X4_feed, rm_X4_fit, rm_X4_flow, rm_X4_good, rm_X4_hours, rm_X4_init, rm_X4_keep, rm_X4_law, rm_X4_learnt, rm_X4_look, rm_X4_maze, rm_X4_net, rm_X4_own, rm_X4_plate, rm_X4_rest, rm_X4_right, rm_X4_ring, rm_X4_see, rm_X4_set, rm_X4_shortest, rm_X4_surely, rm_X4_take, rm_X4_tell, rm_X4_told, rm_X4_under, rm_X4_width, Bool.and_eq_true, Nat.ble_eq] at hcs hss ⊢; omega) rfl rfl rfl ?_
      refine g_aload_n hX dL_law_322 (lg_at 2 rfl) ?_
      refine g_aload_n hX dL_law_323 (lg_at 0 rfl) ?_
      refine g_iload_n hX dL_law_324 (lg_at 3 rfl) ?_
      refine g_iconst hX dL_law_325 (1 : Int32) (by decide) ?_
      refine g_iadd hX dL_law_326 ?_
      refine g_iald hX hf dL_law_327 (fun v327 hf => ?_)
      obtain ⟨k328, hk328, hf⟩ := ob_some hf
      obtain ⟨v328, hc328, hf⟩ := ob_some hf
      refine h_callV hM [vi v327] dL_law_328 cs_SlimeNetLaw_39_5 hk328 (m_X4_width hc328) (by simp only [roomOK, rm_L_law, rm_X0_alike, rm_X0_chance, rm_X0_count, rm_X0_end, rm_X0_fault, rm_X0_feed, rm_X0_fit, rm_X0_flow, rm_X0_good, rm_X0_hours, rm_X0_init, rm_X0_keep, rm_X0_law, rm_X0_learnt, rm_X0_look, rm_X0_maze, rm_X0_net, rm_X0_own, rm_X0_plate, rm_X0_rest, rm_X0_right, rm_X0_ring, rm_X0_see, rm_X0_set, rm_X0_shortest, rm_X0_surely, rm_X0_take, rm_X0_tell, rm_X0_told, rm_X0_under, rm_X0_width, rm_X4_alike, rm_X4_chance, rm_X4_count, rm_X4_end, rm_X4_fault, rm_X4_feed, rm_X4_fit, rm_X4_flow, rm_X4_good, rm_X4_hours, rm_X4_init, rm_X4_keep, rm_X4_law, rm_X4_learnt, rm_X4_look, rm_X4_maze, rm_X4_net, rm_X4_own, rm_X4_plate, rm_X4_rest, rm_X4_right, rm_X4_ring, rm_X4_see, rm_X4_set, rm_X4_shortest, rm_X4_surely, rm_X4_take, rm_X4_tell, rm_X4_told, rm_X4_under, rm_X4_width, Bool.and_eq_true, Nat.ble_eq] at hcs hss ⊢; omega) rfl rfl rfl ?_
      refine g_icmp_eq hX dL_law_331 940 hf (by decide) (fun c331 hf => ?_) (fun c331 hf => ?_)
      · exact g_wide (g_pick (w_f_L_law_940 hM hcs hss hf K) [0, 1, 2, 3] rfl) (by first | omega | (simp only [rm_X0_alike, rm_X0_chance, rm_X0_count, rm_X0_end, rm_X0_fault, rm_X0_feed, rm_X0_fit, rm_X0_flow, rm_X0_good, rm_X0_hours, rm_X0_init, rm_X0_keep, rm_X0_law, rm_X0_learnt, rm_X0_look, rm_X0_maze, rm_X0_net, rm_X0_own, rm_X0_plate, rm_X0_rest, rm_X0_right, rm_X0_ring, rm_X0_see, rm_X0_set, rm_X0_shortest, rm_X0_surely, rm_X0_take, rm_X0_tell, rm_X0_told, rm_X0_under, rm_X0_width, rm_X4_alike, rm_X4_chance, rm_X4_count, rm_X4_end, rm_X4_fault, rm_X4_feed, rm_X4_fit, rm_X4_flow, rm_X4_good, rm_X4_hours, rm_X4_init, rm_X4_keep, rm_X4_law, rm_X4_learnt, rm_X4_look, rm_X4_maze, rm_X4_net, rm_X4_own, rm_X4_plate, rm_X4_rest, rm_X4_right, rm_X4_ring, rm_X4_see, rm_X4_set, rm_X4_shortest, rm_X4_surely, rm_X4_take, rm_X4_tell, rm_X4_told, rm_X4_under, rm_X4_width]; omega)) (by first | omega | (simp only [rm_X0_alike, rm_X0_chance, rm_X0_count, rm_X0_end, rm_X0_fault, rm_X0_feed, rm_X0_fit, rm_X0_flow, rm_X0_good, rm_X0_hours, rm_X0_init, rm_X0_keep, rm_X0_law, rm_X0_learnt, rm_X0_look, rm_X0_maze, rm_X0_net, rm_X0_own, rm_X0_plate, rm_X0_rest, rm_X0_right, rm_X0_ring, rm_X0_see, rm_X0_set, rm_X0_shortest, rm_X0_surely, rm_X0_take, rm_X0_tell, rm_X0_told, rm_X0_under, rm_X0_width, rm_X4_alike, rm_X4_chance, rm_X4_count, rm_X4_end, rm_X4_fault, rm_X4_feed, rm_X4_fit, rm_X4_flow, rm_X4_good, rm_X4_hours, rm_X4_init, rm_X4_keep, rm_X4_law, rm_X4_learnt, rm_X4_look, rm_X4_maze, rm_X4_net, rm_X4_own, rm_X4_plate, rm_X4_rest, rm_X4_right, rm_X4_ring, rm_X4_see, rm_X4_set, rm_X4_shortest, rm_X4_surely, rm_X4_take, rm_X4_tell, rm_X4_told, rm_X4_under, rm_X4_width]; omega))
      · cases hf
        exact g_wide (g_pick (show G X _ _ _ _ _ _ from K) [] rfl) (by first | omega | (simp only [rm_X0_alike, rm_X0_chance, rm_X0_count, rm_X0_end, rm_X0_fault, rm_X0_feed, rm_X0_fit, rm_X0_flow, rm_X0_good, rm_X0_hours, rm_X0_init, rm_X0_keep, rm_X0_law, rm_X0_learnt, rm_X0_look, rm_X0_maze, rm_X0_net, rm_X0_own, rm_X0_plate, rm_X0_rest, rm_X0_right, rm_X0_ring, rm_X0_see, rm_X0_set, rm_X0_shortest, rm_X0_surely, rm_X0_take, rm_X0_tell, rm_X0_told, rm_X0_under, rm_X0_width, rm_X4_alike, rm_X4_chance, rm_X4_count, rm_X4_end, rm_X4_fault, rm_X4_feed, rm_X4_fit, rm_X4_flow, rm_X4_good, rm_X4_hours, rm_X4_init, rm_X4_keep, rm_X4_law, rm_X4_learnt, rm_X4_look, rm_X4_maze, rm_X4_net, rm_X4_own, rm_X4_plate, rm_X4_rest, rm_X4_right, rm_X4_ring, rm_X4_see, rm_X4_set, rm_X4_shortest, rm_X4_surely, rm_X4_take, rm_X4_tell, rm_X4_told, rm_X4_under, rm_X4_width]; omega)) (by first | omega | (simp only [rm_X0_alike, rm_X0_chance, rm_X0_count, rm_X0_end, rm_X0_fault, rm_X0_feed, rm_X0_fit, rm_X0_flow, rm_X0_good, rm_X0_hours, rm_X0_init, rm_X0_keep, rm_X0_law, rm_X0_learnt, rm_X0_look, rm_X0_maze, rm_X0_net, rm_X0_own, rm_X0_plate, rm_X0_rest, rm_X0_right, rm_X0_ring, rm_X0_see, rm_X0_set, rm_X0_shortest, rm_X0_surely, rm_X0_take, rm_X0_tell, rm_X0_told, rm_X0_under, rm_X0_width, rm_X4_alike, rm_X4_chance, rm_X4_count, rm_X4_end, rm_X4_fault, rm_X4_feed, rm_X4_fit, rm_X4_flow, rm_X4_good, rm_X4_hours, rm_X4_init, rm_X4_keep, rm_X4_law, rm_X4_learnt, rm_X4_look, rm_X4_maze, rm_X4_net, rm_X4_own, rm_X4_plate, rm_X4_rest, rm_X4_right, rm_X4_ring, rm_X4_see, rm_X4_set, rm_X4_shortest, rm_X4_surely, rm_X4_take, rm_X4_tell, rm_X4_told, rm_X4_under, rm_X4_width]; omega))
    rw [if_neg hc5] at hf
    by_cases hc6 : (v29 &&& (31 : Int32)) = (6 : Int32)
    · rw [if_pos hc6] at hf
      refine g_tblI hX dL_law_33 (6 : Int32) 6 (303) 336 (by decide) (by decide) rfl (by decide) hc6 ?_
      refine g_aload_n hX dL_law_336 (lg_at 1 rfl) ?_
      refine g_aload_n hX dL_law_337 (lg_at 0 rfl) ?_
      refine g_iload_n hX dL_law_338 (lg_at 3 rfl) ?_
      refine g_iconst hX dL_law_339 (1 : Int32) (by decide) ?_
      refine g_iadd hX dL_law_340 ?_
      refine g_iald hX hf dL_law_341 (fun v341 hf => ?_)
      obtain ⟨k342, hk342, hf⟩ := ob_some hf
      obtain ⟨v342, hc342, hf⟩ := ob_some hf
      refine h_callV hM [vi v341] dL_law_342 cs_SlimeNetLaw_40_1 hk342 (m_X0_learnt hc342) (by simp only [roomOK, rm_L_law, rm_X0_alike, rm_X0_chance, rm_X0_count, rm_X0_end, rm_X0_fault, rm_X0_feed, rm_X0_fit, rm_X0_flow, rm_X0_good, rm_X0_hours, rm_X0_init, rm_X0_keep, rm_X0_law, rm_X0_learnt, rm_X0_look, rm_X0_maze, rm_X0_net, rm_X0_own, rm_X0_plate, rm_X0_rest, rm_X0_right, rm_X0_ring, rm_X0_see, rm_X0_set, rm_X0_shortest, rm_X0_surely, rm_X0_take, rm_X0_tell, rm_X0_told, rm_X0_under, rm_X0_width, rm_X4_alike, rm_X4_chance, rm_X4_count, rm_X4_end, rm_X4_fault, rm_X4_feed, rm_X4_fit, rm_X4_flow, rm_X4_good, rm_X4_hours, rm_X4_init, rm_X4_keep, rm_X4_law, rm_X4_learnt, rm_X4_look, rm_X4_maze, rm_X4_net, rm_X4_own, rm_X4_plate, rm_X4_rest, rm_X4_right, rm_X4_ring, rm_X4_see, rm_X4_set, rm_X4_shortest, rm_X4_surely, rm_X4_take, rm_X4_tell, rm_X4_told, rm_X4_under, rm_X4_width, Bool.and_eq_true, Nat.ble_eq] at hcs hss ⊢; omega) rfl rfl rfl ?_
      refine g_aload_n hX dL_law_345 (lg_at 2 rfl) ?_
      refine g_aload_n hX dL_law_346 (lg_at 0 rfl) ?_
      refine g_iload_n hX dL_law_347 (lg_at 3 rfl) ?_
      refine g_iconst hX dL_law_348 (1 : Int32) (by decide) ?_
      refine g_iadd hX dL_law_349 ?_
      refine g_iald hX hf dL_law_350 (fun v350 hf => ?_)
      obtain ⟨k351, hk351, hf⟩ := ob_some hf
      obtain ⟨v351, hc351, hf⟩ := ob_some hf
      refine h_callV hM [vi v350] dL_law_351 cs_SlimeNetLaw_43_5 hk351 (m_X4_learnt hc351) (by simp only [roomOK, rm_L_law, rm_X0_alike, rm_X0_chance, rm_X0_count, rm_X0_end, rm_X0_fault, rm_X0_feed, rm_X0_fit, rm_X0_flow, rm_X0_good, rm_X0_hours, rm_X0_init, rm_X0_keep, rm_X0_law, rm_X0_learnt, rm_X0_look, rm_X0_maze, rm_X0_net, rm_X0_own, rm_X0_plate, rm_X0_rest, rm_X0_right, rm_X0_ring, rm_X0_see, rm_X0_set, rm_X0_shortest, rm_X0_surely, rm_X0_take, rm_X0_tell, rm_X0_told, rm_X0_under, rm_X0_width, rm_X4_alike, rm_X4_chance, rm_X4_count, rm_X4_end, rm_X4_fault, rm_X4_feed, rm_X4_fit, rm_X4_flow, rm_X4_good, rm_X4_hours, rm_X4_init, rm_X4_keep, rm_X4_law, rm_X4_learnt, rm_X4_look, rm_X4_maze, rm_X4_net, rm_X4_own, rm_X4_plate, rm_X4_rest, rm_X4_right, rm_X4_ring, rm_X4_see, rm_X4_set, rm_X4_shortest, rm_X4_surely, rm_X4_take, rm_X4_tell, rm_X4_told, rm_X4_under, rm_X4_width, Bool.and_eq_true, Nat.ble_eq] at hcs hss ⊢; omega) rfl rfl rfl ?_
      refine g_icmp_eq hX dL_law_354 940 hf (by decide) (fun c354 hf => ?_) (fun c354 hf => ?_)
      · exact g_wide (g_pick (w_f_L_law_940 hM hcs hss hf K) [0, 1, 2, 3] rfl) (by first | omega | (simp only [rm_X0_alike, rm_X0_chance, rm_X0_count, rm_X0_end, rm_X0_fault, rm_X0_feed, rm_X0_fit, rm_X0_flow, rm_X0_good, rm_X0_hours, rm_X0_init, rm_X0_keep, rm_X0_law, rm_X0_learnt, rm_X0_look, rm_X0_maze, rm_X0_net, rm_X0_own, rm_X0_plate, rm_X0_rest, rm_X0_right, rm_X0_ring, rm_X0_see, rm_X0_set, rm_X0_shortest, rm_X0_surely, rm_X0_take, rm_X0_tell, rm_X0_told, rm_X0_under, rm_X0_width, rm_X4_alike, rm_X4_chance, rm_X4_count, rm_X4_end, rm_X4_fault, rm_X4_feed, rm_X4_fit, rm_X4_flow, rm_X4_good, rm_X4_hours, rm_X4_init, rm_X4_keep, rm_X4_law, rm_X4_learnt, rm_X4_look, rm_X4_maze, rm_X4_net, rm_X4_own, rm_X4_plate, rm_X4_rest, rm_X4_right, rm_X4_ring, rm_X4_see, rm_X4_set, rm_X4_shortest, rm_X4_surely, rm_X4_take, rm_X4_tell, rm_X4_told, rm_X4_under, rm_X4_width]; omega)) (by first | omega | (simp only [rm_X0_alike, rm_X0_chance, rm_X0_count, rm_X0_end, rm_X0_fault, rm_X0_feed, rm_X0_fit, rm_X0_flow, rm_X0_good, rm_X0_hours, rm_X0_init, rm_X0_keep, rm_X0_law, rm_X0_learnt, rm_X0_look, rm_X0_maze, rm_X0_net, rm_X0_own, rm_X0_plate, rm_X0_rest, rm_X0_right, rm_X0_ring, rm_X0_see, rm_X0_set, rm_X0_shortest, rm_X0_surely, rm_X0_take, rm_X0_tell, rm_X0_told, rm_X0_under, rm_X0_width, rm_X4_alike, rm_X4_chance, rm_X4_count, rm_X4_end, rm_X4_fault, rm_X4_feed, rm_X4_fit, rm_X4_flow, rm_X4_good, rm_X4_hours, rm_X4_init, rm_X4_keep, rm_X4_law, rm_X4_learnt, rm_X4_look, rm_X4_maze, rm_X4_net, rm_X4_own, rm_X4_plate, rm_X4_rest, rm_X4_right, rm_X4_ring, rm_X4_see, rm_X4_set, rm_X4_shortest, rm_X4_surely, rm_X4_take, rm_X4_tell, rm_X4_told, rm_X4_under, rm_X4_width]; omega))
      · cases hf
        exact g_wide (g_pick (show G X _ _ _ _ _ _ from K) [] rfl) (by first | omega | (simp only [rm_X0_alike, rm_X0_chance, rm_X0_count, rm_X0_end, rm_X0_fault, rm_X0_feed, rm_X0_fit, rm_X0_flow, rm_X0_good, rm_X0_hours, rm_X0_init, rm_X0_keep, rm_X0_law, rm_X0_learnt, rm_X0_look, rm_X0_maze, rm_X0_net, rm_X0_own, rm_X0_plate, rm_X0_rest, rm_X0_right, rm_X0_ring, rm_X0_see, rm_X0_set, rm_X0_shortest, rm_X0_surely, rm_X0_take, rm_X0_tell, rm_X0_told, rm_X0_under, rm_X0_width, rm_X4_alike, rm_X4_chance, rm_X4_count, rm_X4_end, rm_X4_fault, rm_X4_feed, rm_X4_fit, rm_X4_flow, rm_X4_good, rm_X4_hours, rm_X4_init, rm_X4_keep, rm_X4_law, rm_X4_learnt, rm_X4_look, rm_X4_maze, rm_X4_net, rm_X4_own, rm_X4_plate, rm_X4_rest, rm_X4_right, rm_X4_ring, rm_X4_see, rm_X4_set, rm_X4_shortest, rm_X4_surely, rm_X4_take, rm_X4_tell, rm_X4_told, rm_X4_under, rm_X4_width]; omega)) (by first | omega | (simp only [rm_X0_alike, rm_X0_chance, rm_X0_count, rm_X0_end, rm_X0_fault, rm_X0_feed, rm_X0_fit, rm_X0_flow, rm_X0_good, rm_X0_hours, rm_X0_init, rm_X0_keep, rm_X0_law, rm_X0_learnt, rm_X0_look, rm_X0_maze, rm_X0_net, rm_X0_own, rm_X0_plate, rm_X0_rest, rm_X0_right, rm_X0_ring, rm_X0_see, rm_X0_set, rm_X0_shortest, rm_X0_surely, rm_X0_take, rm_X0_tell, rm_X0_told, rm_X0_under, rm_X0_width, rm_X4_alike, rm_X4_chance, rm_X4_count, rm_X4_end, rm_X4_fault, rm_X4_feed, rm_X4_fit, rm_X4_flow, rm_X4_good, rm_X4_hours, rm_X4_init, rm_X4_keep, rm_X4_law, rm_X4_learnt, rm_X4_look, rm_X4_maze, rm_X4_net, rm_X4_own, rm_X4_plate, rm_X4_rest, rm_X4_right, rm_X4_ring, rm_X4_see, rm_X4_set, rm_X4_shortest, rm_X4_surely, rm_X4_take, rm_X4_tell, rm_X4_told, rm_X4_under, rm_X4_width]; omega))
    rw [if_neg hc6] at hf
    by_cases hc7 : (v29 &&& (31 : Int32)) = (7 : Int32)
    · rw [if_pos hc7] at hf
      refine g_tblI hX dL_law_33 (7 : Int32) 7 (326) 359 (by decide) (by decide) rfl (by decide) hc7 ?_
      refine g_aload_n hX dL_law_359 (lg_at 1 rfl) ?_
      refine g_aload_n hX dL_law_360 (lg_at 0 rfl) ?_
      refine g_iload_n hX dL_law_361 (lg_at 3 rfl) ?_
      refine g_iconst hX dL_law_362 (1 : Int32) (by decide) ?_
      refine g_iadd hX dL_law_363 ?_
      refine g_iald hX hf dL_law_364 (fun v364 hf => ?_)
      refine g_aload_n hX dL_law_365 (lg_at 0 rfl) ?_
      refine g_iload_n hX dL_law_366 (lg_at 3 rfl) ?_
      refine g_iconst hX dL_law_367 (2 : Int32) (by decide) ?_
      refine g_iadd hX dL_law_368 ?_
      refine g_iald hX hf dL_law_369 (fun v369 hf => ?_)
      obtain ⟨k370, hk370, hf⟩ := ob_some hf
      obtain ⟨⟨v370, A370⟩, hc370, hf⟩ := ob_some hf
      refine h_callV hM [vi v364, vi v369] dL_law_370 cs_SlimeNetLaw_44_1 hk370 (m_X0_set hc370) (by simp only [roomOK, rm_L_law, rm_X0_alike, rm_X0_chance, rm_X0_count, rm_X0_end, rm_X0_fault, rm_X0_feed, rm_X0_fit, rm_X0_flow, rm_X0_good, rm_X0_hours, rm_X0_init, rm_X0_keep, rm_X0_law, rm_X0_learnt, rm_X0_look, rm_X0_maze, rm_X0_net, rm_X0_own, rm_X0_plate, rm_X0_rest, rm_X0_right, rm_X0_ring, rm_X0_see, rm_X0_set, rm_X0_shortest, rm_X0_surely, rm_X0_take, rm_X0_tell, rm_X0_told, rm_X0_under, rm_X0_width, rm_X4_alike, rm_X4_chance, rm_X4_count, rm_X4_end, rm_X4_fault, rm_X4_feed, rm_X4_fit, rm_X4_flow, rm_X4_good, rm_X4_hours, rm_X4_init, rm_X4_keep, rm_X4_law, rm_X4_learnt, rm_X4_look, rm_X4_maze, rm_X4_net, rm_X4_own, rm_X4_plate, rm_X4_rest, rm_X4_right, rm_X4_ring, rm_X4_see, rm_X4_set, rm_X4_shortest, rm_X4_surely, rm_X4_take, rm_X4_tell, rm_X4_told, rm_X4_under, rm_X4_width, Bool.and_eq_true, Nat.ble_eq] at hcs hss ⊢; omega) rfl rfl rfl ?_
      dsimp only at hf
      refine g_aload_n hX dL_law_373 (lg_at 2 rfl) ?_
      refine g_aload_n hX dL_law_374 (lg_at 0 rfl) ?_
      refine g_iload_n hX dL_law_375 (lg_at 3 rfl) ?_
      refine g_iconst hX dL_law_376 (1 : Int32) (by decide) ?_
      refine g_iadd hX dL_law_377 ?_
      refine g_iald hX hf dL_law_378 (fun v378 hf => ?_)
      refine g_aload_n hX dL_law_379 (lg_at 0 rfl) ?_
      refine g_iload_n hX dL_law_380 (lg_at 3 rfl) ?_
      refine g_iconst hX dL_law_381 (2 : Int32) (by decide) ?_
      refine g_iadd hX dL_law_382 ?_
      refine g_iald hX hf dL_law_383 (fun v383 hf => ?_)
      obtain ⟨k384, hk384, hf⟩ := ob_some hf
      obtain ⟨⟨v384, A384⟩, hc384, hf⟩ := ob_some hf
      refine h_callV hM [vi v378, vi v383] dL_law_384 cs_SlimeNetLaw_48_5 hk384 (m_X4_set hc384) (by simp only [roomOK, rm_L_law, rm_X0_alike, rm_X0_chance, rm_X0_count, rm_X0_end, rm_X0_fault, rm_X0_feed, rm_X0_fit, rm_X0_flow, rm_X0_good, rm_X0_hours, rm_X0_init, rm_X0_keep, rm_X0_law, rm_X0_learnt, rm_X0_look, rm_X0_maze, rm_X0_net, rm_X0_own, rm_X0_plate, rm_X0_rest, rm_X0_right, rm_X0_ring, rm_X0_see, rm_X0_set, rm_X0_shortest, rm_X0_surely, rm_X0_take, rm_X0_tell, rm_X0_told, rm_X0_under, rm_X0_width, rm_X4_alike, rm_X4_chance, rm_X4_count, rm_X4_end, rm_X4_fault, rm_X4_feed, rm_X4_fit, rm_X4_flow, rm_X4_good, rm_X4_hours, rm_X4_init, rm_X4_keep, rm_X4_law, rm_X4_learnt, rm_X4_look, rm_X4_maze, rm_X4_net, rm_X4_own, rm_X4_plate, rm_X4_rest, rm_X4_right, rm_X4_ring, rm_X4_see, rm_X4_set, rm_X4_shortest, rm_X4_surely, rm_X4_take, rm_X4_tell, rm_X4_told, rm_X4_under, rm_X4_width, Bool.and_eq_true, Nat.ble_eq] at hcs hss ⊢; omega) rfl rfl rfl ?_
      dsimp only at hf
      refine g_icmp_eq hX dL_law_387 940 hf (by decide) (fun c387 hf => ?_) (fun c387 hf => ?_)
      · exact g_wide (g_pick (w_f_L_law_940 hM hcs hss hf K) [0, 1, 2, 3] rfl) (by first | omega | (simp only [rm_X0_alike, rm_X0_chance, rm_X0_count, rm_X0_end, rm_X0_fault, rm_X0_feed, rm_X0_fit, rm_X0_flow, rm_X0_good, rm_X0_hours, rm_X0_init, rm_X0_keep, rm_X0_law, rm_X0_learnt, rm_X0_look, rm_X0_maze, rm_X0_net, rm_X0_own, rm_X0_plate, rm_X0_rest, rm_X0_right, rm_X0_ring, rm_X0_see, rm_X0_set, rm_X0_shortest, rm_X0_surely, rm_X0_take, rm_X0_tell, rm_X0_told, rm_X0_under, rm_X0_width, rm_X4_alike, rm_X4_chance, rm_X4_count, rm_X4_end, rm_X4_fault, rm_X4_feed, rm_X4_fit, rm_X4_flow, rm_X4_good, rm_X4_hours, rm_X4_init, rm_X4_keep, rm_X4_law, rm_X4_learnt, rm_X4_look, rm_X4_maze, rm_X4_net, rm_X4_own, rm_X4_plate, rm_X4_rest, rm_X4_right, rm_X4_ring, rm_X4_see, rm_X4_set, rm_X4_shortest, rm_X4_surely, rm_X4_take, rm_X4_tell, rm_X4_told, rm_X4_under, rm_X4_width]; omega)) (by first | omega | (simp only [rm_X0_alike, rm_X0_chance, rm_X0_count, rm_X0_end, rm_X0_fault, rm_X0_feed, rm_X0_fit, rm_X0_flow, rm_X0_good, rm_X0_hours, rm_X0_init, rm_X0_keep, rm_X0_law, rm_X0_learnt, rm_X0_look, rm_X0_maze, rm_X0_net, rm_X0_own, rm_X0_plate, rm_X0_rest, rm_X0_right, rm_X0_ring, rm_X0_see, rm_X0_set, rm_X0_shortest, rm_X0_surely, rm_X0_take, rm_X0_tell, rm_X0_told, rm_X0_under, rm_X0_width, rm_X4_alike, rm_X4_chance, rm_X4_count, rm_X4_end, rm_X4_fault, rm_X4_feed, rm_X4_fit, rm_X4_flow, rm_X4_good, rm_X4_hours, rm_X4_init, rm_X4_keep, rm_X4_law, rm_X4_learnt, rm_X4_look, rm_X4_maze, rm_X4_net, rm_X4_own, rm_X4_plate, rm_X4_rest, rm_X4_right, rm_X4_ring, rm_X4_see, rm_X4_set, rm_X4_shortest, rm_X4_surely, rm_X4_take, rm_X4_tell, rm_X4_told, rm_X4_under, rm_X4_width]; omega))
      · cases hf
        exact g_wide (g_pick (show G X _ _ _ _ _ _ from K) [] rfl) (by first | omega | (simp only [rm_X0_alike, rm_X0_chance, rm_X0_count, rm_X0_end, rm_X0_fault, rm_X0_feed, rm_X0_fit, rm_X0_flow, rm_X0_good, rm_X0_hours, rm_X0_init, rm_X0_keep, rm_X0_law, rm_X0_learnt, rm_X0_look, rm_X0_maze, rm_X0_net, rm_X0_own, rm_X0_plate, rm_X0_rest, rm_X0_right, rm_X0_ring, rm_X0_see, rm_X0_set, rm_X0_shortest, rm_X0_surely, rm_X0_take, rm_X0_tell, rm_X0_told, rm_X0_under, rm_X0_width, rm_X4_alike, rm_X4_chance, rm_X4_count, rm_X4_end, rm_X4_fault, rm_X4_feed, rm_X4_fit, rm_X4_flow, rm_X4_good, rm_X4_hours, rm_X4_init, rm_X4_keep, rm_X4_law, rm_X4_learnt, rm_X4_look, rm_X4_maze, rm_X4_net, rm_X4_own, rm_X4_plate, rm_X4_rest, rm_X4_right, rm_X4_ring, rm_X4_see, rm_X4_set, rm_X4_shortest, rm_X4_surely, rm_X4_take, rm_X4_tell, rm_X4_told, rm_X4_under, rm_X4_width]; omega)) (by first | omega | (simp only [rm_X0_alike, rm_X0_chance, rm_X0_count, rm_X0_end, rm_X0_fault, rm_X0_feed, rm_X0_fit, rm_X0_flow, rm_X0_good, rm_X0_hours, rm_X0_init, rm_X0_keep, rm_X0_law, rm_X0_learnt, rm_X0_look, rm_X0_maze, rm_X0_net, rm_X0_own, rm_X0_plate, rm_X0_rest, rm_X0_right, rm_X0_ring, rm_X0_see, rm_X0_set, rm_X0_shortest, rm_X0_surely, rm_X0_take, rm_X0_tell, rm_X0_told, rm_X0_under, rm_X0_width, rm_X4_alike, rm_X4_chance, rm_X4_count, rm_X4_end, rm_X4_fault, rm_X4_feed, rm_X4_fit, rm_X4_flow, rm_X4_good, rm_X4_hours, rm_X4_init, rm_X4_keep, rm_X4_law, rm_X4_learnt, rm_X4_look, rm_X4_maze, rm_X4_net, rm_X4_own, rm_X4_plate, rm_X4_rest, rm_X4_right, rm_X4_ring, rm_X4_see, rm_X4_set, rm_X4_shortest, rm_X4_surely, rm_X4_take, rm_X4_tell, rm_X4_told, rm_X4_under, rm_X4_width]; omega))
    rw [if_neg hc7] at hf
    by_cases hc8 : (v29 &&& (31 : Int32)) = (8 : Int32)
    · rw [if_pos hc8] at hf
      refine g_tblI hX dL_law_33 (8 : Int32) 8 (359) 392 (by decide) (by decide) rfl (by decide) hc8 ?_
      refine g_aload_n hX dL_law_392 (lg_at 1 rfl) ?_
      refine g_aload_n hX dL_law_393 (lg_at 0 rfl) ?_
      refine g_iload_n hX dL_law_394 (lg_at 3 rfl) ?_
      refine g_iconst hX dL_law_395 (1 : Int32) (by decide) ?_
      refine g_iadd hX dL_law_396 ?_
      refine g_iald hX hf dL_law_397 (fun v397 hf => ?_)
      refine g_aload_n hX dL_law_398 (lg_at 0 rfl) ?_
      refine g_iload_n hX dL_law_399 (lg_at 3 rfl) ?_
      refine g_iconst hX dL_law_400 (2 : Int32) (by decide) ?_
      refine g_iadd hX dL_law_401 ?_
      refine g_iald hX hf dL_law_402 (fun v402 hf => ?_)
      obtain ⟨k403, hk403, hf⟩ := ob_some hf
      obtain ⟨⟨v403, A403⟩, hc403, hf⟩ := ob_some hf
      refine h_callV hM [vi v397, vi v402] dL_law_403 cs_SlimeNetLaw_49_1 hk403 (m_X0_law hc403) (by simp only [roomOK, rm_L_law, rm_X0_alike, rm_X0_chance, rm_X0_count, rm_X0_end, rm_X0_fault, rm_X0_feed, rm_X0_fit, rm_X0_flow, rm_X0_good, rm_X0_hours, rm_X0_init, rm_X0_keep, rm_X0_law, rm_X0_learnt, rm_X0_look, rm_X0_maze, rm_X0_net, rm_X0_own, rm_X0_plate, rm_X0_rest, rm_X0_right, rm_X0_ring, rm_X0_see, rm_X0_set, rm_X0_shortest, rm_X0_surely, rm_X0_take, rm_X0_tell, rm_X0_told, rm_X0_under, rm_X0_width, rm_X4_alike, rm_X4_chance, rm_X4_count, rm_X4_end, rm_X4_fault, rm_X4_feed, rm_X4_fit, rm_X4_flow, rm_X4_good, rm_X4_hours, rm_X4_init, rm_X4_keep, rm_X4_law, rm_X4_learnt, rm_X4_look, rm_X4_maze, rm_X4_net, rm_X4_own, rm_X4_plate, rm_X4_rest, rm_X4_right, rm_X4_ring, rm_X4_see, rm_X4_set, rm_X4_shortest, rm_X4_surely, rm_X4_take, rm_X4_tell, rm_X4_told, rm_X4_under, rm_X4_width, Bool.and_eq_true, Nat.ble_eq] at hcs hss ⊢; omega) rfl rfl rfl ?_
      dsimp only at hf
      refine g_aload_n hX dL_law_406 (lg_at 2 rfl) ?_
      refine g_aload_n hX dL_law_407 (lg_at 0 rfl) ?_
      refine g_iload_n hX dL_law_408 (lg_at 3 rfl) ?_
      refine g_iconst hX dL_law_409 (1 : Int32) (by decide) ?_
      refine g_iadd hX dL_law_410 ?_
      refine g_iald hX hf dL_law_411 (fun v411 hf => ?_)
      refine g_aload_n hX dL_law_412 (lg_at 0 rfl) ?_
      refine g_iload_n hX dL_law_413 (lg_at 3 rfl) ?_
      refine g_iconst hX dL_law_414 (2 : Int32) (by decide) ?_
      refine g_iadd hX dL_law_415 ?_
      refine g_iald hX hf dL_law_416 (fun v416 hf => ?_)
      obtain ⟨k417, hk417, hf⟩ := ob_some hf
      obtain ⟨⟨v417, A417⟩, hc417, hf⟩ := ob_some hf
      refine h_callV hM [vi v411, vi v416] dL_law_417 cs_SlimeNetLaw_52_5 hk417 (m_X4_law hc417) (by simp only [roomOK, rm_L_law, rm_X0_alike, rm_X0_chance, rm_X0_count, rm_X0_end, rm_X0_fault, rm_X0_feed, rm_X0_fit, rm_X0_flow, rm_X0_good, rm_X0_hours, rm_X0_init, rm_X0_keep, rm_X0_law, rm_X0_learnt, rm_X0_look, rm_X0_maze, rm_X0_net, rm_X0_own, rm_X0_plate, rm_X0_rest, rm_X0_right, rm_X0_ring, rm_X0_see, rm_X0_set, rm_X0_shortest, rm_X0_surely, rm_X0_take, rm_X0_tell, rm_X0_told, rm_X0_under, rm_X0_width, rm_X4_alike, rm_X4_chance, rm_X4_count, rm_X4_end, rm_X4_fault, rm_X4_feed, rm_X4_fit, rm_X4_flow, rm_X4_good, rm_X4_hours, rm_X4_init, rm_X4_keep, rm_X4_law, rm_X4_learnt, rm_X4_look, rm_X4_maze, rm_X4_net, rm_X4_own, rm_X4_plate, rm_X4_rest, rm_X4_right, rm_X4_ring, rm_X4_see, rm_X4_set, rm_X4_shortest, rm_X4_surely, rm_X4_take, rm_X4_tell, rm_X4_told, rm_X4_under, rm_X4_width, Bool.and_eq_true, Nat.ble_eq] at hcs hss ⊢; omega) rfl rfl rfl ?_
      dsimp only at hf
      refine g_icmp_eq hX dL_law_420 940 hf (by decide) (fun c420 hf => ?_) (fun c420 hf => ?_)
      · exact g_wide (g_pick (w_f_L_law_940 hM hcs hss hf K) [0, 1, 2, 3] rfl) (by first | omega | (simp only [rm_X0_alike, rm_X0_chance, rm_X0_count, rm_X0_end, rm_X0_fault, rm_X0_feed, rm_X0_fit, rm_X0_flow, rm_X0_good, rm_X0_hours, rm_X0_init, rm_X0_keep, rm_X0_law, rm_X0_learnt, rm_X0_look, rm_X0_maze, rm_X0_net, rm_X0_own, rm_X0_plate, rm_X0_rest, rm_X0_right, rm_X0_ring, rm_X0_see, rm_X0_set, rm_X0_shortest, rm_X0_surely, rm_X0_take, rm_X0_tell, rm_X0_told, rm_X0_under, rm_X0_width, rm_X4_alike, rm_X4_chance, rm_X4_count, rm_X4_end, rm_X4_fault, rm_X4_feed, rm_X4_fit, rm_X4_flow, rm_X4_good, rm_X4_hours, rm_X4_init, rm_X4_keep, rm_X4_law, rm_X4_learnt, rm_X4_look, rm_X4_maze, rm_X4_net, rm_X4_own, rm_X4_plate, rm_X4_rest, rm_X4_right, rm_X4_ring, rm_X4_see, rm_X4_set, rm_X4_shortest, rm_X4_surely, rm_X4_take, rm_X4_tell, rm_X4_told, rm_X4_under, rm_X4_width]; omega)) (by first | omega | (simp only [rm_X0_alike, rm_X0_chance, rm_X0_count, rm_X0_end, rm_X0_fault, rm_X0_feed, rm_X0_fit, rm_X0_flow, rm_X0_good, rm_X0_hours, rm_X0_init, rm_X0_keep, rm_X0_law, rm_X0_learnt, rm_X0_look, rm_X0_maze, rm_X0_net, rm_X0_own, rm_X0_plate, rm_X0_rest, rm_X0_right, rm_X0_ring, rm_X0_see, rm_X0_set, rm_X0_shortest, rm_X0_surely, rm_X0_take, rm_X0_tell, rm_X0_told, rm_X0_under, rm_X0_width, rm_X4_alike, rm_X4_chance, rm_X4_count, rm_X4_end, rm_X4_fault, rm_X4_feed, rm_X4_fit, rm_X4_flow, rm_X4_good, rm_X4_hours, rm_X4_init, rm_X4_keep, rm_X4_law, rm_X4_learnt, rm_X4_look, rm_X4_maze, rm_X4_net, rm_X4_own, rm_X4_plate, rm_X4_rest, rm_X4_right, rm_X4_ring, rm_X4_see, rm_X4_set, rm_X4_shortest, rm_X4_surely, rm_X4_take, rm_X4_tell, rm_X4_told, rm_X4_under, rm_X4_width]; omega))
      · cases hf
        exact g_wide (g_pick (show G X _ _ _ _ _ _ from K) [] rfl) (by first | omega | (simp only [rm_X0_alike, rm_X0_chance, rm_X0_count, rm_X0_end, rm_X0_fault, rm_X0_feed, rm_X0_fit, rm_X0_flow, rm_X0_good, rm_X0_hours, rm_X0_init, rm_X0_keep, rm_X0_law, rm_X0_learnt, rm_X0_look, rm_X0_maze, rm_X0_net, rm_X0_own, rm_X0_plate, rm_X0_rest, rm_X0_right, rm_X0_ring, rm_X0_see, rm_X0_set, rm_X0_shortest, rm_X0_surely, rm_X0_take, rm_X0_tell, rm_X0_told, rm_X0_under, rm_X0_width, rm_X4_alike, rm_X4_chance, rm_X4_count, rm_X4_end, rm_X4_fault, rm_X4_feed, rm_X4_fit, rm_X4_flow, rm_X4_good, rm_X4_hours, rm_X4_init, rm_X4_keep, rm_X4_law, rm_X4_learnt, rm_X4_look, rm_X4_maze, rm_X4_net, rm_X4_own, rm_X4_plate, rm_X4_rest, rm_X4_right, rm_X4_ring, rm_X4_see, rm_X4_set, rm_X4_shortest, rm_X4_surely, rm_X4_take, rm_X4_tell, rm_X4_told, rm_X4_under, rm_X4_width]; omega)) (by first | omega | (simp only [rm_X0_alike, rm_X0_chance, rm_X0_count, rm_X0_end, rm_X0_fault, rm_X0_feed, rm_X0_fit, rm_X0_flow, rm_X0_good, rm_X0_hours, rm_X0_init, rm_X0_keep, rm_X0_law, rm_X0_learnt, rm_X0_look, rm_X0_maze, rm_X0_net, rm_X0_own, rm_X0_plate, rm_X0_rest, rm_X0_right, rm_X0_ring, rm_X0_see, rm_X0_set, rm_X0_shortest, rm_X0_surely, rm_X0_take, rm_X0_tell, rm_X0_told, rm_X0_under, rm_X0_width, rm_X4_alike, rm_X4_chance, rm_X4_count, rm_X4_end, rm_X4_fault, rm_X4_feed, rm_X4_fit, rm_X4_flow, rm_X4_good, rm_X4_hours, rm_X4_init, rm_X4_keep, rm_X4_law, rm_X4_learnt, rm_X4_look, rm_X4_maze, rm_X4_net, rm_X4_own, rm_X4_plate, rm_X4_rest, rm_X4_right, rm_X4_ring, rm_X4_see, rm_X4_set, rm_X4_shortest, rm_X4_surely, rm_X4_take, rm_X4_tell, rm_X4_told, rm_X4_under, rm_X4_width]; omega))
    rw [if_neg hc8] at hf
    by_cases hc9 : (v29 &&& (31 : Int32)) = (9 : Int32)
    · rw [if_pos hc9] at hf
      refine g_tblI hX dL_law_33 (9 : Int32) 9 (392) 425 (by decide) (by decide) rfl (by decide) hc9 ?_
      refine g_aload_n hX dL_law_425 (lg_at 1 rfl) ?_
      refine g_aload_n hX dL_law_426 (lg_at 0 rfl) ?_
      refine g_iload_n hX dL_law_427 (lg_at 3 rfl) ?_
      refine g_iconst hX dL_law_428 (1 : Int32) (by decide) ?_
      refine g_iadd hX dL_law_429 ?_
      refine g_iald hX hf dL_law_430 (fun v430 hf => ?_)
      obtain ⟨k431, hk431, hf⟩ := ob_some hf
      obtain ⟨⟨v431, A431⟩, hc431, hf⟩ := ob_some hf
      refine h_callV hM [vi v430] dL_law_431 cs_SlimeNetLaw_53_1 hk431 (m_X0_flow hc431) (by simp only [roomOK, rm_L_law, rm_X0_alike, rm_X0_chance, rm_X0_count, rm_X0_end, rm_X0_fault, rm_X0_feed, rm_X0_fit, rm_X0_flow, rm_X0_good, rm_X0_hours, rm_X0_init, rm_X0_keep, rm_X0_law, rm_X0_learnt, rm_X0_look, rm_X0_maze, rm_X0_net, rm_X0_own, rm_X0_plate, rm_X0_rest, rm_X0_right, rm_X0_ring, rm_X0_see, rm_X0_set, rm_X0_shortest, rm_X0_surely, rm_X0_take, rm_X0_tell, rm_X0_told, rm_X0_under, rm_X0_width, rm_X4_alike, rm_X4_chance, rm_X4_count, rm_X4_end, rm_X4_fault, rm_X4_feed, rm_X4_fit, rm_X4_flow, rm_X4_good, rm_X4_hours, rm_X4_init, rm_X4_keep, rm_X4_law, rm_X4_learnt, rm_X4_look, rm_X4_maze, rm_X4_net, rm_X4_own, rm_X4_plate, rm_X4_rest, rm_X4_right, rm_X4_ring, rm_X4_see, rm_X4_set, rm_X4_shortest, rm_X4_surely, rm_X4_take, rm_X4_tell, rm_X4_told, rm_X4_under, rm_X4_width, Bool.and_eq_true, Nat.ble_eq] at hcs hss ⊢; omega) rfl rfl rfl ?_
      dsimp only at hf
      refine g_aload_n hX dL_law_434 (lg_at 2 rfl) ?_
      refine g_aload_n hX dL_law_435 (lg_at 0 rfl) ?_
      refine g_iload_n hX dL_law_436 (lg_at 3 rfl) ?_
      refine g_iconst hX dL_law_437 (1 : Int32) (by decide) ?_
      refine g_iadd hX dL_law_438 ?_
      refine g_iald hX hf dL_law_439 (fun v439 hf => ?_)
      obtain ⟨k440, hk440, hf⟩ := ob_some hf
      obtain ⟨⟨v440, A440⟩, hc440, hf⟩ := ob_some hf
      refine h_callV hM [vi v439] dL_law_440 cs_SlimeNetLaw_57_5 hk440 (m_X4_flow hc440) (by simp only [roomOK, rm_L_law, rm_X0_alike, rm_X0_chance, rm_X0_count, rm_X0_end, rm_X0_fault, rm_X0_feed, rm_X0_fit, rm_X0_flow, rm_X0_good, rm_X0_hours, rm_X0_init, rm_X0_keep, rm_X0_law, rm_X0_learnt, rm_X0_look, rm_X0_maze, rm_X0_net, rm_X0_own, rm_X0_plate, rm_X0_rest, rm_X0_right, rm_X0_ring, rm_X0_see, rm_X0_set, rm_X0_shortest, rm_X0_surely, rm_X0_take, rm_X0_tell, rm_X0_told, rm_X0_under, rm_X0_width, rm_X4_alike, rm_X4_chance, rm_X4_count, rm_X4_end, rm_X4_fault, rm_X4_feed, rm_X4_fit, rm_X4_flow, rm_X4_good, rm_X4_hours, rm_X4_init, rm_X4_keep, rm_X4_law, rm_X4_learnt, rm_X4_look, rm_X4_maze, rm_X4_net, rm_X4_own, rm_X4_plate, rm_X4_rest, rm_X4_right, rm_X4_ring, rm_X4_see, rm_X4_set, rm_X4_shortest, rm_X4_surely, rm_X4_take, rm_X4_tell, rm_X4_told, rm_X4_under, rm_X4_width, Bool.and_eq_true, Nat.ble_eq] at hcs hss ⊢; omega) rfl rfl rfl ?_
      dsimp only at hf
      refine g_lcmp hX dL_law_443 ?_
      refine g_if_eq hX dL_law_444 940 hf (by decide) (fun c444 hf => ?_) (fun c444 hf => ?_)
      · exact g_wide (g_pick (w_f_L_law_940 hM hcs hss hf K) [0, 1, 2, 3] rfl) (by first | omega | (simp only [rm_X0_alike, rm_X0_chance, rm_X0_count, rm_X0_end, rm_X0_fault, rm_X0_feed, rm_X0_fit, rm_X0_flow, rm_X0_good, rm_X0_hours, rm_X0_init, rm_X0_keep, rm_X0_law, rm_X0_learnt, rm_X0_look, rm_X0_maze, rm_X0_net, rm_X0_own, rm_X0_plate, rm_X0_rest, rm_X0_right, rm_X0_ring, rm_X0_see, rm_X0_set, rm_X0_shortest, rm_X0_surely, rm_X0_take, rm_X0_tell, rm_X0_told, rm_X0_under, rm_X0_width, rm_X4_alike, rm_X4_chance, rm_X4_count, rm_X4_end, rm_X4_fault, rm_X4_feed, rm_X4_fit, rm_X4_flow, rm_X4_good, rm_X4_hours, rm_X4_init, rm_X4_keep, rm_X4_law, rm_X4_learnt, rm_X4_look, rm_X4_maze, rm_X4_net, rm_X4_own, rm_X4_plate, rm_X4_rest, rm_X4_right, rm_X4_ring, rm_X4_see, rm_X4_set, rm_X4_shortest, rm_X4_surely, rm_X4_take, rm_X4_tell, rm_X4_told, rm_X4_under, rm_X4_width]; omega)) (by first | omega | (simp only [rm_X0_alike, rm_X0_chance, rm_X0_count, rm_X0_end, rm_X0_fault, rm_X0_feed, rm_X0_fit, rm_X0_flow, rm_X0_good, rm_X0_hours, rm_X0_init, rm_X0_keep, rm_X0_law, rm_X0_learnt, rm_X0_look, rm_X0_maze, rm_X0_net, rm_X0_own, rm_X0_plate, rm_X0_rest, rm_X0_right, rm_X0_ring, rm_X0_see, rm_X0_set, rm_X0_shortest, rm_X0_surely, rm_X0_take, rm_X0_tell, rm_X0_told, rm_X0_under, rm_X0_width, rm_X4_alike, rm_X4_chance, rm_X4_count, rm_X4_end, rm_X4_fault, rm_X4_feed, rm_X4_fit, rm_X4_flow, rm_X4_good, rm_X4_hours, rm_X4_init, rm_X4_keep, rm_X4_law, rm_X4_learnt, rm_X4_look, rm_X4_maze, rm_X4_net, rm_X4_own, rm_X4_plate, rm_X4_rest, rm_X4_right, rm_X4_ring, rm_X4_see, rm_X4_set, rm_X4_shortest, rm_X4_surely, rm_X4_take, rm_X4_tell, rm_X4_told, rm_X4_under, rm_X4_width]; omega))
      · cases hf
        exact g_wide (g_pick (show G X _ _ _ _ _ _ from K) [] rfl) (by first | omega | (simp only [rm_X0_alike, rm_X0_chance, rm_X0_count, rm_X0_end, rm_X0_fault, rm_X0_feed, rm_X0_fit, rm_X0_flow, rm_X0_good, rm_X0_hours, rm_X0_init, rm_X0_keep, rm_X0_law, rm_X0_learnt, rm_X0_look, rm_X0_maze, rm_X0_net, rm_X0_own, rm_X0_plate, rm_X0_rest, rm_X0_right, rm_X0_ring, rm_X0_see, rm_X0_set, rm_X0_shortest, rm_X0_surely, rm_X0_take, rm_X0_tell, rm_X0_told, rm_X0_under, rm_X0_width, rm_X4_alike, rm_X4_chance, rm_X4_count, rm_X4_end, rm_X4_fault, rm_X4_feed, rm_X4_fit, rm_X4_flow, rm_X4_good, rm_X4_hours, rm_X4_init, rm_X4_keep, rm_X4_law, rm_X4_learnt, rm_X4_look, rm_X4_maze, rm_X4_net, rm_X4_own, rm_X4_plate, rm_X4_rest, rm_X4_right, rm_X4_ring, rm_X4_see, rm_X4_set, rm_X4_shortest, rm_X4_surely, rm_X4_take, rm_X4_tell, rm_X4_told, rm_X4_under, rm_X4_width]; omega)) (by first | omega | (simp only [rm_X0_alike, rm_X0_chance, rm_X0_count, rm_X0_end, rm_X0_fault, rm_X0_feed, rm_X0_fit, rm_X0_flow, rm_X0_good, rm_X0_hours, rm_X0_init, rm_X0_keep, rm_X0_law, rm_X0_learnt, rm_X0_look, rm_X0_maze, rm_X0_net, rm_X0_own, rm_X0_plate, rm_X0_rest, rm_X0_right, rm_X0_ring, rm_X0_see, rm_X0_set, rm_X0_shortest, rm_X0_surely, rm_X0_take, rm_X0_tell, rm_X0_told, rm_X0_under, rm_X0_width, rm_X4_alike, rm_X4_chance, rm_X4_count, rm_X4_end, rm_X4_fault, rm_X4_feed, rm_X4_fit, rm_X4_flow, rm_X4_good, rm_X4_hours, rm_X4_init, rm_X4_keep, rm_X4_law, rm_X4_learnt, rm_X4_look, rm_X4_maze, rm_X4_net, rm_X4_own, rm_X4_plate, rm_X4_rest, rm_X4_right, rm_X4_ring, rm_X4_see, rm_X4_set, rm_X4_shortest, rm_X4_surely, rm_X4_take, rm_X4_tell, rm_X4_told, rm_X4_under, rm_X4_width]; omega))
    rw [if_neg hc9] at hf
    by_cases hc10 : (v29 &&& (31 : Int32)) = (10 : Int32)
    · rw [if_pos hc10] at hf
      refine g_tblI hX dL_law_33 (10 : Int32) 10 (416) 449 (by decide) (by decide) rfl (by decide) hc10 ?_
      refine g_aload_n hX dL_law_449 (lg_at 1 rfl) ?_
      refine g_aload_n hX dL_law_450 (lg_at 0 rfl) ?_
      refine g_iload_n hX dL_law_451 (lg_at 3 rfl) ?_
      refine g_iconst hX dL_law_452 (1 : Int32) (by decide) ?_
      refine g_iadd hX dL_law_453 ?_
      refine g_iald hX hf dL_law_454 (fun v454 hf => ?_)
      obtain ⟨k455, hk455, hf⟩ := ob_some hf
      obtain ⟨⟨v455, A455⟩, hc455, hf⟩ := ob_some hf
      refine h_callV hM [vi v454] dL_law_455 cs_SlimeNetLaw_58_1 hk455 (m_X0_under hc455) (by simp only [roomOK, rm_L_law, rm_X0_alike, rm_X0_chance, rm_X0_count, rm_X0_end, rm_X0_fault, rm_X0_feed, rm_X0_fit, rm_X0_flow, rm_X0_good, rm_X0_hours, rm_X0_init, rm_X0_keep, rm_X0_law, rm_X0_learnt, rm_X0_look, rm_X0_maze, rm_X0_net, rm_X0_own, rm_X0_plate, rm_X0_rest, rm_X0_right, rm_X0_ring, rm_X0_see, rm_X0_set, rm_X0_shortest, rm_X0_surely, rm_X0_take, rm_X0_tell, rm_X0_told, rm_X0_under, rm_X0_width, rm_X4_alike, rm_X4_chance, rm_X4_count, rm_X4_end, rm_X4_fault, rm_X4_feed, rm_X4_fit, rm_X4_flow, rm_X4_good, rm_X4_hours, rm_X4_init, rm_X4_keep, rm_X4_law, rm_X4_learnt, rm_X4_look, rm_X4_maze, rm_X4_net, rm_X4_own, rm_X4_plate, rm_X4_rest, rm_X4_right, rm_X4_ring, rm_X4_see, rm_X4_set, rm_X4_shortest, rm_X4_surely, rm_X4_take, rm_X4_tell, rm_X4_told, rm_X4_under, rm_X4_width, Bool.and_eq_true, Nat.ble_eq] at hcs hss ⊢; omega) rfl rfl rfl ?_
      dsimp only at hf
      refine g_aload_n hX dL_law_458 (lg_at 2 rfl) ?_
      refine g_aload_n hX dL_law_459 (lg_at 0 rfl) ?_
      refine g_iload_n hX dL_law_460 (lg_at 3 rfl) ?_
      refine g_iconst hX dL_law_461 (1 : Int32) (by decide) ?_
      refine g_iadd hX dL_law_462 ?_
      refine g_iald hX hf dL_law_463 (fun v463 hf => ?_)
      obtain ⟨k464, hk464, hf⟩ := ob_some hf
      obtain ⟨⟨v464, A464⟩, hc464, hf⟩ := ob_some hf
      refine h_callV hM [vi v463] dL_law_464 cs_SlimeNetLaw_61_5 hk464 (m_X4_under hc464) (by simp only [roomOK, rm_L_law, rm_X0_alike, rm_X0_chance, rm_X0_count, rm_X0_end, rm_X0_fault, rm_X0_feed, rm_X0_fit, rm_X0_flow, rm_X0_good, rm_X0_hours, rm_X0_init, rm_X0_keep, rm_X0_law, rm_X0_learnt, rm_X0_look, rm_X0_maze, rm_X0_net, rm_X0_own, rm_X0_plate, rm_X0_rest, rm_X0_right, rm_X0_ring, rm_X0_see, rm_X0_set, rm_X0_shortest, rm_X0_surely, rm_X0_take, rm_X0_tell, rm_X0_told, rm_X0_under, rm_X0_width, rm_X4_alike, rm_X4_chance, rm_X4_count, rm_X4_end, rm_X4_fault, rm_X4_feed, rm_X4_fit, rm_X4_flow, rm_X4_good, rm_X4_hours, rm_X4_init, rm_X4_keep, rm_X4_law, rm_X4_learnt, rm_X4_look, rm_X4_maze, rm_X4_net, rm_X4_own, rm_X4_plate, rm_X4_rest, rm_X4_right, rm_X4_ring, rm_X4_see, rm_X4_set, rm_X4_shortest, rm_X4_surely, rm_X4_take, rm_X4_tell, rm_X4_told, rm_X4_under, rm_X4_width, Bool.and_eq_true, Nat.ble_eq] at hcs hss ⊢; omega) rfl rfl rfl ?_
      dsimp only at hf
      refine g_lcmp hX dL_law_467 ?_
      refine g_if_eq hX dL_law_468 940 hf (by decide) (fun c468 hf => ?_) (fun c468 hf => ?_)
      · exact g_wide (g_pick (w_f_L_law_940 hM hcs hss hf K) [0, 1, 2, 3] rfl) (by first | omega | (simp only [rm_X0_alike, rm_X0_chance, rm_X0_count, rm_X0_end, rm_X0_fault, rm_X0_feed, rm_X0_fit, rm_X0_flow, rm_X0_good, rm_X0_hours, rm_X0_init, rm_X0_keep, rm_X0_law, rm_X0_learnt, rm_X0_look, rm_X0_maze, rm_X0_net, rm_X0_own, rm_X0_plate, rm_X0_rest, rm_X0_right, rm_X0_ring, rm_X0_see, rm_X0_set, rm_X0_shortest, rm_X0_surely, rm_X0_take, rm_X0_tell, rm_X0_told, rm_X0_under, rm_X0_width, rm_X4_alike, rm_X4_chance, rm_X4_count, rm_X4_end, rm_X4_fault, rm_X4_feed, rm_X4_fit, rm_X4_flow, rm_X4_good, rm_X4_hours, rm_X4_init, rm_X4_keep, rm_X4_law, rm_X4_learnt, rm_X4_look, rm_X4_maze, rm_X4_net, rm_X4_own, rm_X4_plate, rm_X4_rest, rm_X4_right, rm_X4_ring, rm_X4_see, rm_X4_set, rm_X4_shortest, rm_X4_surely, rm_X4_take, rm_X4_tell, rm_X4_told, rm_X4_under, rm_X4_width]; omega)) (by first | omega | (simp only [rm_X0_alike, rm_X0_chance, rm_X0_count, rm_X0_end, rm_X0_fault, rm_X0_feed, rm_X0_fit, rm_X0_flow, rm_X0_good, rm_X0_hours, rm_X0_init, rm_X0_keep, rm_X0_law, rm_X0_learnt, rm_X0_look, rm_X0_maze, rm_X0_net, rm_X0_own, rm_X0_plate, rm_X0_rest, rm_X0_right, rm_X0_ring, rm_X0_see, rm_X0_set, rm_X0_shortest, rm_X0_surely, rm_X0_take, rm_X0_tell, rm_X0_told, rm_X0_under, rm_X0_width, rm_X4_alike, rm_X4_chance, rm_X4_count, rm_X4_end, rm_X4_fault, rm_X4_feed, rm_X4_fit, rm_X4_flow, rm_X4_good, rm_X4_hours, rm_X4_init, rm_X4_keep, rm_X4_law, rm_X4_learnt, rm_X4_look, rm_X4_maze, rm_X4_net, rm_X4_own, rm_X4_plate, rm_X4_rest, rm_X4_right, rm_X4_ring, rm_X4_see, rm_X4_set, rm_X4_shortest, rm_X4_surely, rm_X4_take, rm_X4_tell, rm_X4_told, rm_X4_under, rm_X4_width]; omega))
      · cases hf
        exact g_wide (g_pick (show G X _ _ _ _ _ _ from K) [] rfl) (by first | omega | (simp only [rm_X0_alike, rm_X0_chance, rm_X0_count, rm_X0_end, rm_X0_fault, rm_X0_feed, rm_X0_fit, rm_X0_flow, rm_X0_good, rm_X0_hours, rm_X0_init, rm_X0_keep, rm_X0_law, rm_X0_learnt, rm_X0_look, rm_X0_maze, rm_X0_net, rm_X0_own, rm_X0_plate, rm_X0_rest, rm_X0_right, rm_X0_ring, rm_X0_see, rm_X0_set, rm_X0_shortest, rm_X0_surely, rm_X0_take, rm_X0_tell, rm_X0_told, rm_X0_under, rm_X0_width, rm_X4_alike, rm_X4_chance, rm_X4_count, rm_X4_end, rm_X4_fault, rm_X4_feed, rm_X4_fit, rm_X4_flow, rm_X4_good, rm_X4_hours, rm_X4_init, rm_X4_keep, rm_X4_law, rm_X4_learnt, rm_X4_look, rm_X4_maze, rm_X4_net, rm_X4_own, rm_X4_plate, rm_X4_rest, rm_X4_right, rm_X4_ring, rm_X4_see, rm_X4_set, rm_X4_shortest, rm_X4_surely, rm_X4_take, rm_X4_tell, rm_X4_told, rm_X4_under, rm_X4_width]; omega)) (by first | omega | (simp only [rm_X0_alike, rm_X0_chance, rm_X0_count, rm_X0_end, rm_X0_fault, rm_X0_feed, rm_X0_fit, rm_X0_flow, rm_X0_good, rm_X0_hours, rm_X0_init, rm_X0_keep, rm_X0_law, rm_X0_learnt, rm_X0_look, rm_X0_maze, rm_X0_net, rm_X0_own, rm_X0_plate, rm_X0_rest, rm_X0_right, rm_X0_ring, rm_X0_see, rm_X0_set, rm_X0_shortest, rm_X0_surely, rm_X0_take, rm_X0_tell, rm_X0_told, rm_X0_under, rm_X0_width, rm_X4_alike, rm_X4_chance, rm_X4_count, rm_X4_end, rm_X4_fault, rm_X4_feed, rm_X4_fit, rm_X4_flow, rm_X4_good, rm_X4_hours, rm_X4_init, rm_X4_keep, rm_X4_law, rm_X4_learnt, rm_X4_look, rm_X4_maze, rm_X4_net, rm_X4_own, rm_X4_plate, rm_X4_rest, rm_X4_right, rm_X4_ring, rm_X4_see, rm_X4_set, rm_X4_shortest, rm_X4_surely, rm_X4_take, rm_X4_tell, rm_X4_told, rm_X4_under, rm_X4_width]; omega))
    rw [if_neg hc10] at hf
    by_cases hc11 : (v29 &&& (31 : Int32)) = (11 : Int32)
    · rw [if_pos hc11] at hf
      refine g_tblI hX dL_law_33 (11 : Int32) 11 (440) 473 (by decide) (by decide) rfl (by decide) hc11 ?_
      refine g_aload_n hX dL_law_473 (lg_at 1 rfl) ?_
      refine g_aload_n hX dL_law_474 (lg_at 0 rfl) ?_
      refine g_iload_n hX dL_law_475 (lg_at 3 rfl) ?_
      refine g_iconst hX dL_law_476 (1 : Int32) (by decide) ?_
      refine g_iadd hX dL_law_477 ?_
      refine g_iald hX hf dL_law_478 (fun v478 hf => ?_)
      obtain ⟨k479, hk479, hf⟩ := ob_some hf
      obtain ⟨⟨v479, A479⟩, hc479, hf⟩ := ob_some hf
      refine h_callV hM [vi v478] dL_law_479 cs_SlimeNetLaw_62_1 hk479 (m_X0_hours hc479) (by simp only [roomOK, rm_L_law, rm_X0_alike, rm_X0_chance, rm_X0_count, rm_X0_end, rm_X0_fault, rm_X0_feed, rm_X0_fit, rm_X0_flow, rm_X0_good, rm_X0_hours, rm_X0_init, rm_X0_keep, rm_X0_law, rm_X0_learnt, rm_X0_look, rm_X0_maze, rm_X0_net, rm_X0_own, rm_X0_plate, rm_X0_rest, rm_X0_right, rm_X0_ring, rm_X0_see, rm_X0_set, rm_X0_shortest, rm_X0_surely, rm_X0_take, rm_X0_tell, rm_X0_told, rm_X0_under, rm_X0_width, rm_X4_alike, rm_X4_chance, rm_X4_count, rm_X4_end, rm_X4_fault, rm_X4_feed, rm_X4_fit, rm_X4_flow, rm_X4_good, rm_X4_hours, rm_X4_init, rm_X4_keep, rm_X4_law, rm_X4_learnt, rm_X4_look, rm_X4_maze, rm_X4_net, rm_X4_own, rm_X4_plate, rm_X4_rest, rm_X4_right, rm_X4_ring, rm_X4_see, rm_X4_set, rm_X4_shortest, rm_X4_surely, rm_X4_take, rm_X4_tell, rm_X4_told, rm_X4_under, rm_X4_width, Bool.and_eq_true, Nat.ble_eq] at hcs hss ⊢; omega) rfl rfl rfl ?_
      dsimp only at hf
      refine g_aload_n hX dL_law_482 (lg_at 2 rfl) ?_
      refine g_aload_n hX dL_law_483 (lg_at 0 rfl) ?_
      refine g_iload_n hX dL_law_484 (lg_at 3 rfl) ?_
      refine g_iconst hX dL_law_485 (1 : Int32) (by decide) ?_
      refine g_iadd hX dL_law_486 ?_
      refine g_iald hX hf dL_law_487 (fun v487 hf => ?_)
      obtain ⟨k488, hk488, hf⟩ := ob_some hf
      obtain ⟨⟨v488, A488⟩, hc488, hf⟩ := ob_some hf
      refine h_callV hM [vi v487] dL_law_488 cs_SlimeNetLaw_65_5 hk488 (m_X4_hours hc488) (by simp only [roomOK, rm_L_law, rm_X0_alike, rm_X0_chance, rm_X0_count, rm_X0_end, rm_X0_fault, rm_X0_feed, rm_X0_fit, rm_X0_flow, rm_X0_good, rm_X0_hours, rm_X0_init, rm_X0_keep, rm_X0_law, rm_X0_learnt, rm_X0_look, rm_X0_maze, rm_X0_net, rm_X0_own, rm_X0_plate, rm_X0_rest, rm_X0_right, rm_X0_ring, rm_X0_see, rm_X0_set, rm_X0_shortest, rm_X0_surely, rm_X0_take, rm_X0_tell, rm_X0_told, rm_X0_under, rm_X0_width, rm_X4_alike, rm_X4_chance, rm_X4_count, rm_X4_end, rm_X4_fault, rm_X4_feed, rm_X4_fit, rm_X4_flow, rm_X4_good, rm_X4_hours, rm_X4_init, rm_X4_keep, rm_X4_law, rm_X4_learnt, rm_X4_look, rm_X4_maze, rm_X4_net, rm_X4_own, rm_X4_plate, rm_X4_rest, rm_X4_right, rm_X4_ring, rm_X4_see, rm_X4_set, rm_X4_shortest, rm_X4_surely, rm_X4_take, rm_X4_tell, rm_X4_told, rm_X4_under, rm_X4_width, Bool.and_eq_true, Nat.ble_eq] at hcs hss ⊢; omega) rfl rfl rfl ?_
      dsimp only at hf
      refine g_icmp_eq hX dL_law_491 940 hf (by decide) (fun c491 hf => ?_) (fun c491 hf => ?_)
      · exact g_wide (g_pick (w_f_L_law_940 hM hcs hss hf K) [0, 1, 2, 3] rfl) (by first | omega | (simp only [rm_X0_alike, rm_X0_chance, rm_X0_count, rm_X0_end, rm_X0_fault, rm_X0_feed, rm_X0_fit, rm_X0_flow, rm_X0_good, rm_X0_hours, rm_X0_init, rm_X0_keep, rm_X0_law, rm_X0_learnt, rm_X0_look, rm_X0_maze, rm_X0_net, rm_X0_own, rm_X0_plate, rm_X0_rest, rm_X0_right, rm_X0_ring, rm_X0_see, rm_X0_set, rm_X0_shortest, rm_X0_surely, rm_X0_take, rm_X0_tell, rm_X0_told, rm_X0_under, rm_X0_width, rm_X4_alike, rm_X4_chance, rm_X4_count, rm_X4_end, rm_X4_fault, rm_X4_feed, rm_X4_fit, rm_X4_flow, rm_X4_good, rm_X4_hours, rm_X4_init, rm_X4_keep, rm_X4_law, rm_X4_learnt, rm_X4_look, rm_X4_maze, rm_X4_net, rm_X4_own, rm_X4_plate, rm_X4_rest, rm_X4_right, rm_X4_ring, rm_X4_see, rm_X4_set, rm_X4_shortest, rm_X4_surely, rm_X4_take, rm_X4_tell, rm_X4_told, rm_X4_under, rm_X4_width]; omega)) (by first | omega | (simp only [rm_X0_alike, rm_X0_chance, rm_X0_count, rm_X0_end, rm_X0_fault, rm_X0_feed, rm_X0_fit, rm_X0_flow, rm_X0_good, rm_X0_hours, rm_X0_init, rm_X0_keep, rm_X0_law, rm_X0_learnt, rm_X0_look, rm_X0_maze, rm_X0_net, rm_X0_own, rm_X0_plate, rm_X0_rest, rm_X0_right, rm_X0_ring, rm_X0_see, rm_X0_set, rm_X0_shortest, rm_X0_surely, rm_X0_take, rm_X0_tell, rm_X0_told, rm_X0_under, rm_X0_width, rm_X4_alike, rm_X4_chance, rm_X4_count, rm_X4_end, rm_X4_fault, rm_X4_feed, rm_X4_fit, rm_X4_flow, rm_X4_good, rm_X4_hours, rm_X4_init, rm_X4_keep, rm_X4_law, rm_X4_learnt, rm_X4_look, rm_X4_maze, rm_X4_net, rm_X4_own, rm_X4_plate, rm_X4_rest, rm_X4_right, rm_X4_ring, rm_X4_see, rm_X4_set, rm_X4_shortest, rm_X4_surely, rm_X4_take, rm_X4_tell, rm_X4_told, rm_X4_under, rm_X4_width]; omega))
      · cases hf
        exact g_wide (g_pick (show G X _ _ _ _ _ _ from K) [] rfl) (by first | omega | (simp only [rm_X0_alike, rm_X0_chance, rm_X0_count, rm_X0_end, rm_X0_fault, rm_X0_feed, rm_X0_fit, rm_X0_flow, rm_X0_good, rm_X0_hours, rm_X0_init, rm_X0_keep, rm_X0_law, rm_X0_learnt, rm_X0_look, rm_X0_maze, rm_X0_net, rm_X0_own, rm_X0_plate, rm_X0_rest, rm_X0_right, rm_X0_ring, rm_X0_see, rm_X0_set, rm_X0_shortest, rm_X0_surely, rm_X0_take, rm_X0_tell, rm_X0_told, rm_X0_under, rm_X0_width, rm_X4_alike, rm_X4_chance, rm_X4_count, rm_X4_end, rm_X4_fault, rm_X4_feed, rm_X4_fit, rm_X4_flow, rm_X4_good, rm_X4_hours, rm_X4_init, rm_X4_keep, rm_X4_law, rm_X4_learnt, rm_X4_look, rm_X4_maze, rm_X4_net, rm_X4_own, rm_X4_plate, rm_X4_rest, rm_X4_right, rm_X4_ring, rm_X4_see, rm_X4_set, rm_X4_shortest, rm_X4_surely, rm_X4_take, rm_X4_tell, rm_X4_told, rm_X4_under, rm_X4_width]; omega)) (by first | omega | (simp only [rm_X0_alike, rm_X0_chance, rm_X0_count, rm_X0_end, rm_X0_fault, rm_X0_feed, rm_X0_fit, rm_X0_flow, rm_X0_good, rm_X0_hours, rm_X0_init, rm_X0_keep, rm_X0_law, rm_X0_learnt, rm_X0_look, rm_X0_maze, rm_X0_net, rm_X0_own, rm_X0_plate, rm_X0_rest, rm_X0_right, rm_X0_ring, rm_X0_see, rm_X0_set, rm_X0_shortest, rm_X0_surely, rm_X0_take, rm_X0_tell, rm_X0_told, rm_X0_under, rm_X0_width, rm_X4_alike, rm_X4_chance, rm_X4_count, rm_X4_end, rm_X4_fault, rm_X4_feed, rm_X4_fit, rm_X4_flow, rm_X4_good, rm_X4_hours, rm_X4_init, rm_X4_keep, rm_X4_law, rm_X4_learnt, rm_X4_look, rm_X4_maze, rm_X4_net, rm_X4_own, rm_X4_plate, rm_X4_rest, rm_X4_right, rm_X4_ring, rm_X4_see, rm_X4_set, rm_X4_shortest, rm_X4_surely, rm_X4_take, rm_X4_tell, rm_X4_told, rm_X4_under, rm_X4_width]; omega))
    rw [if_neg hc11] at hf
    by_cases hc12 : (v29 &&& (31 : Int32)) = (12 : Int32)
    · rw [if_pos hc12] at hf
      refine g_tblI hX dL_law_33 (12 : Int32) 12 (463) 496 (by decide) (by decide) rfl (by decide) hc12 ?_
      refine g_aload_n hX dL_law_496 (lg_at 1 rfl) ?_
      obtain ⟨k497, hk497, hf⟩ := ob_some hf
      obtain ⟨⟨v497, A497⟩, hc497, hf⟩ := ob_some hf
      refine h_callV hM [] dL_law_497 cs_SlimeNetLaw_66_1 hk497 (m_X0_rest hc497) (by simp only [roomOK, rm_L_law, rm_X0_alike, rm_X0_chance, rm_X0_count, rm_X0_end, rm_X0_fault, rm_X0_feed, rm_X0_fit, rm_X0_flow, rm_X0_good, rm_X0_hours, rm_X0_init, rm_X0_keep, rm_X0_law, rm_X0_learnt, rm_X0_look, rm_X0_maze, rm_X0_net, rm_X0_own, rm_X0_plate, rm_X0_rest, rm_X0_right, rm_X0_ring, rm_X0_see, rm_X0_set, rm_X0_shortest, rm_X0_surely, rm_X0_take, rm_X0_tell, rm_X0_told, rm_X0_under, rm_X0_width, rm_X4_alike, rm_X4_chance, rm_X4_count, rm_X4_end, rm_X4_fault, rm_X4_feed, rm_X4_fit, rm_X4_flow, rm_X4_good, rm_X4_hours, rm_X4_init, rm_X4_keep, rm_X4_law, rm_X4_learnt, rm_X4_look, rm_X4_maze, rm_X4_net, rm_X4_own, rm_X4_plate, rm_X4_rest, rm_X4_right, rm_X4_ring, rm_X4_see, rm_X4_set, rm_X4_shortest, rm_X4_surely, rm_X4_take, rm_X4_tell, rm_X4_told, rm_X4_under, rm_X4_width, Bool.and_eq_true, Nat.ble_eq] at hcs hss ⊢; omega) rfl rfl rfl ?_
      dsimp only at hf
      refine g_aload_n hX dL_law_500 (lg_at 2 rfl) ?_
      obtain ⟨k501, hk501, hf⟩ := ob_some hf
      obtain ⟨⟨v501, A501⟩, hc501, hf⟩ := ob_some hf
      refine h_callV hM [] dL_law_501 cs_SlimeNetLaw_69_5 hk501 (m_X4_rest hc501) (by simp only [roomOK, rm_L_law, rm_X0_alike, rm_X0_chance, rm_X0_count, rm_X0_end, rm_X0_fault, rm_X0_feed, rm_X0_fit, rm_X0_flow, rm_X0_good, rm_X0_hours, rm_X0_init, rm_X0_keep, rm_X0_law, rm_X0_learnt, rm_X0_look, rm_X0_maze, rm_X0_net, rm_X0_own, rm_X0_plate, rm_X0_rest, rm_X0_right, rm_X0_ring, rm_X0_see, rm_X0_set, rm_X0_shortest, rm_X0_surely, rm_X0_take, rm_X0_tell, rm_X0_told, rm_X0_under, rm_X0_width, rm_X4_alike, rm_X4_chance, rm_X4_count, rm_X4_end, rm_X4_fault, rm_X4_feed, rm_X4_fit, rm_X4_flow, rm_X4_good, rm_X4_hours, rm_X4_init, rm_X4_keep, rm_X4_law, rm_X4_learnt, rm_X4_look, rm_X4_maze, rm_X4_net, rm_X4_own, rm_X4_plate, rm_X4_rest, rm_X4_right, rm_X4_ring, rm_X4_see, rm_X4_set, rm_X4_shortest, rm_X4_surely, rm_X4_take, rm_X4_tell, rm_X4_told, rm_X4_under, rm_X4_width, Bool.and_eq_true, Nat.ble_eq] at hcs hss ⊢; omega) rfl rfl rfl ?_
      dsimp only at hf
      refine g_icmp_eq hX dL_law_504 940 hf (by decide) (fun c504 hf => ?_) (fun c504 hf => ?_)
      · exact g_wide (g_pick (w_f_L_law_940 hM hcs hss hf K) [0, 1, 2, 3] rfl) (by first | omega | (simp only [rm_X0_alike, rm_X0_chance, rm_X0_count, rm_X0_end, rm_X0_fault, rm_X0_feed, rm_X0_fit, rm_X0_flow, rm_X0_good, rm_X0_hours, rm_X0_init, rm_X0_keep, rm_X0_law, rm_X0_learnt, rm_X0_look, rm_X0_maze, rm_X0_net, rm_X0_own, rm_X0_plate, rm_X0_rest, rm_X0_right, rm_X0_ring, rm_X0_see, rm_X0_set, rm_X0_shortest, rm_X0_surely, rm_X0_take, rm_X0_tell, rm_X0_told, rm_X0_under, rm_X0_width, rm_X4_alike, rm_X4_chance, rm_X4_count, rm_X4_end, rm_X4_fault, rm_X4_feed, rm_X4_fit, rm_X4_flow, rm_X4_good, rm_X4_hours, rm_X4_init, rm_X4_keep, rm_X4_law, rm_X4_learnt, rm_X4_look, rm_X4_maze, rm_X4_net, rm_X4_own, rm_X4_plate, rm_X4_rest, rm_X4_right, rm_X4_ring, rm_X4_see, rm_X4_set, rm_X4_shortest, rm_X4_surely, rm_X4_take, rm_X4_tell, rm_X4_told, rm_X4_under, rm_X4_width]; omega)) (by first | omega | (simp only [rm_X0_alike, rm_X0_chance, rm_X0_count, rm_X0_end, rm_X0_fault, rm_X0_feed, rm_X0_fit, rm_X0_flow, rm_X0_good, rm_X0_hours, rm_X0_init, rm_X0_keep, rm_X0_law, rm_X0_learnt, rm_X0_look, rm_X0_maze, rm_X0_net, rm_X0_own, rm_X0_plate, rm_X0_rest, rm_X0_right, rm_X0_ring, rm_X0_see, rm_X0_set, rm_X0_shortest, rm_X0_surely, rm_X0_take, rm_X0_tell, rm_X0_told, rm_X0_under, rm_X0_width, rm_X4_alike, rm_X4_chance, rm_X4_count, rm_X4_end, rm_X4_fault, rm_X4_feed, rm_X4_fit, rm_X4_flow, rm_X4_good, rm_X4_hours, rm_X4_init, rm_X4_keep, rm_X4_law, rm_X4_learnt, rm_X4_look, rm_X4_maze, rm_X4_net, rm_X4_own, rm_X4_plate, rm_X4_rest, rm_X4_right, rm_X4_ring, rm_X4_see, rm_X4_set, rm_X4_shortest, rm_X4_surely, rm_X4_take, rm_X4_tell, rm_X4_told, rm_X4_under, rm_X4_width]; omega))
      · cases hf
        exact g_wide (g_pick (show G X _ _ _ _ _ _ from K) [] rfl) (by first | omega | (simp only [rm_X0_alike, rm_X0_chance, rm_X0_count, rm_X0_end, rm_X0_fault, rm_X0_feed, rm_X0_fit, rm_X0_flow, rm_X0_good, rm_X0_hours, rm_X0_init, rm_X0_keep, rm_X0_law, rm_X0_learnt, rm_X0_look, rm_X0_maze, rm_X0_net, rm_X0_own, rm_X0_plate, rm_X0_rest, rm_X0_right, rm_X0_ring, rm_X0_see, rm_X0_set, rm_X0_shortest, rm_X0_surely, rm_X0_take, rm_X0_tell, rm_X0_told, rm_X0_under, rm_X0_width, rm_X4_alike, rm_X4_chance, rm_X4_count, rm_X4_end, rm_X4_fault, rm_X4_feed, rm_X4_fit, rm_X4_flow, rm_X4_good, rm_X4_hours, rm_X4_init, rm_X4_keep, rm_X4_law, rm_X4_learnt, rm_X4_look, rm_X4_maze, rm_X4_net, rm_X4_own, rm_X4_plate, rm_X4_rest, rm_X4_right, rm_X4_ring, rm_X4_see, rm_X4_set, rm_X4_shortest, rm_X4_surely, rm_X4_take, rm_X4_tell, rm_X4_told, rm_X4_under, rm_X4_width]; omega)) (by first | omega | (simp only [rm_X0_alike, rm_X0_chance, rm_X0_count, rm_X0_end, rm_X0_fault, rm_X0_feed, rm_X0_fit, rm_X0_flow, rm_X0_good, rm_X0_hours, rm_X0_init, rm_X0_keep, rm_X0_law, rm_X0_learnt, rm_X0_look, rm_X0_maze, rm_X0_net, rm_X0_own, rm_X0_plate, rm_X0_rest, rm_X0_right, rm_X0_ring, rm_X0_see, rm_X0_set, rm_X0_shortest, rm_X0_surely, rm_X0_take, rm_X0_tell, rm_X0_told, rm_X0_under, rm_X0_width, rm_X4_alike, rm_X4_chance, rm_X4_count, rm_X4_end, rm_X4_fault, rm_X4_feed, rm_X4_fit, rm_X4_flow, rm_X4_good, rm_X4_hours, rm_X4_init, rm_X4_keep, rm_X4_law, rm_X4_learnt, rm_X4_look, rm_X4_maze, rm_X4_net, rm_X4_own, rm_X4_plate, rm_X4_rest, rm_X4_right, rm_X4_ring, rm_X4_see, rm_X4_set, rm_X4_shortest, rm_X4_surely, rm_X4_take, rm_X4_tell, rm_X4_told, rm_X4_under, rm_X4_width]; omega))
    rw [if_neg hc12] at hf
    by_cases hc13 : (v29 &&& (31 : Int32)) = (13 : Int32)
    · rw [if_pos hc13] at hf
      refine g_tblI hX dL_law_33 (13 : Int32) 13 (476) 509 (by decide) (by decide) rfl (by decide) hc13 ?_
      refine g_aload_n hX dL_law_509 (lg_at 1 rfl) ?_
      obtain ⟨k510, hk510, hf⟩ := ob_some hf
      obtain ⟨v510, hc510, hf⟩ := ob_some hf
      refine h_callV hM [] dL_law_510 cs_SlimeNetLaw_70_1 hk510 (m_X0_ring hc510) (by simp only [roomOK, rm_L_law, rm_X0_alike, rm_X0_chance, rm_X0_count, rm_X0_end, rm_X0_fault, rm_X0_feed, rm_X0_fit, rm_X0_flow, rm_X0_good, rm_X0_hours, rm_X0_init, rm_X0_keep, rm_X0_law, rm_X0_learnt, rm_X0_look, rm_X0_maze, rm_X0_net, rm_X0_own, rm_X0_plate, rm_X0_rest, rm_X0_right, rm_X0_ring, rm_X0_see, rm_X0_set, rm_X0_shortest, rm_X0_surely, rm_X0_take, rm_X0_tell, rm_X0_told, rm_X0_under, rm_X0_width, rm_X4_alike, rm_X4_chance, rm_X4_count, rm_X4_end, rm_X4_fault, rm_X4_feed, rm_X4_fit, rm_X4_flow, rm_X4_good, rm_X4_hours, rm_X4_init, rm_X4_keep, rm_X4_law, rm_X4_learnt, rm_X4_look, rm_X4_maze, rm_X4_net, rm_X4_own, rm_X4_plate, rm_X4_rest, rm_X4_right, rm_X4_ring, rm_X4_see, rm_X4_set, rm_X4_shortest, rm_X4_surely, rm_X4_take, rm_X4_tell, rm_X4_told, rm_X4_under, rm_X4_width, Bool.and_eq_true, Nat.ble_eq] at hcs hss ⊢; omega) rfl rfl rfl ?_
      refine g_aload_n hX dL_law_513 (lg_at 2 rfl) ?_
      obtain ⟨k514, hk514, hf⟩ := ob_some hf
      obtain ⟨v514, hc514, hf⟩ := ob_some hf
      refine h_callV hM [] dL_law_514 cs_SlimeNetLaw_73_5 hk514 (m_X4_ring hc514) (by simp only [roomOK, rm_L_law, rm_X0_alike, rm_X0_chance, rm_X0_count, rm_X0_end, rm_X0_fault, rm_X0_feed, rm_X0_fit, rm_X0_flow, rm_X0_good, rm_X0_hours, rm_X0_init, rm_X0_keep, rm_X0_law, rm_X0_learnt, rm_X0_look, rm_X0_maze, rm_X0_net, rm_X0_own, rm_X0_plate, rm_X0_rest, rm_X0_right, rm_X0_ring, rm_X0_see, rm_X0_set, rm_X0_shortest, rm_X0_surely, rm_X0_take, rm_X0_tell, rm_X0_told, rm_X0_under, rm_X0_width, rm_X4_alike, rm_X4_chance, rm_X4_count, rm_X4_end, rm_X4_fault, rm_X4_feed, rm_X4_fit, rm_X4_flow, rm_X4_good, rm_X4_hours, rm_X4_init, rm_X4_keep, rm_X4_law, rm_X4_learnt, rm_X4_look, rm_X4_maze, rm_X4_net, rm_X4_own, rm_X4_plate, rm_X4_rest, rm_X4_right, rm_X4_ring, rm_X4_see, rm_X4_set, rm_X4_shortest, rm_X4_surely, rm_X4_take, rm_X4_tell, rm_X4_told, rm_X4_under, rm_X4_width, Bool.and_eq_true, Nat.ble_eq] at hcs hss ⊢; omega) rfl rfl rfl ?_
      refine g_icmp_eq hX dL_law_517 940 hf (by decide) (fun c517 hf => ?_) (fun c517 hf => ?_)
      · exact g_wide (g_pick (w_f_L_law_940 hM hcs hss hf K) [0, 1, 2, 3] rfl) (by first | omega | (simp only [rm_X0_alike, rm_X0_chance, rm_X0_count, rm_X0_end, rm_X0_fault, rm_X0_feed, rm_X0_fit, rm_X0_flow, rm_X0_good, rm_X0_hours, rm_X0_init, rm_X0_keep, rm_X0_law, rm_X0_learnt, rm_X0_look, rm_X0_maze, rm_X0_net, rm_X0_own, rm_X0_plate, rm_X0_rest, rm_X0_right, rm_X0_ring, rm_X0_see, rm_X0_set, rm_X0_shortest, rm_X0_surely, rm_X0_take, rm_X0_tell, rm_X0_told, rm_X0_under, rm_X0_width, rm_X4_alike, rm_X4_chance, rm_X4_count, rm_X4_end, rm_X4_fault, rm_X4_feed, rm_X4_fit, rm_X4_flow, rm_X4_good, rm_X4_hours, rm_X4_init, rm_X4_keep, rm_X4_law, rm_X4_learnt, rm_X4_look, rm_X4_maze, rm_X4_net, rm_X4_own, rm_X4_plate, rm_X4_rest, rm_X4_right, rm_X4_ring, rm_X4_see, rm_X4_set, rm_X4_shortest, rm_X4_surely, rm_X4_take, rm_X4_tell, rm_X4_told, rm_X4_under, rm_X4_width]; omega)) (by first | omega | (simp only [rm_X0_alike, rm_X0_chance, rm_X0_count, rm_X0_end, rm_X0_fault, rm_X0_feed, rm_X0_fit, rm_X0_flow, rm_X0_good, rm_X0_hours, rm_X0_init, rm_X0_keep, rm_X0_law, rm_X0_learnt, rm_X0_look, rm_X0_maze, rm_X0_net, rm_X0_own, rm_X0_plate, rm_X0_rest, rm_X0_right, rm_X0_ring, rm_X0_see, rm_X0_set, rm_X0_shortest, rm_X0_surely, rm_X0_take, rm_X0_tell, rm_X0_told, rm_X0_under, rm_X0_width, rm_X4_alike, rm_X4_chance, rm_X4_count, rm_X4_end, rm_X4_fault, rm_X4_feed, rm_X4_fit, rm_X4_flow, rm_X4_good, rm_X4_hours, rm_X4_init, rm_X4_keep, rm_X4_law, rm_X4_learnt, rm_X4_look, rm_X4_maze, rm_X4_net, rm_X4_own, rm_X4_plate, rm_X4_rest, rm_X4_right, rm_X4_ring, rm_X4_see, rm_X4_set, rm_X4_shortest, rm_X4_surely, rm_X4_take, rm_X4_tell, rm_X4_told, rm_X4_under, rm_X4_width]; omega))
      · cases hf
        exact g_wide (g_pick (show G X _ _ _ _ _ _ from K) [] rfl) (by first | omega | (simp only [rm_X0_alike, rm_X0_chance, rm_X0_count, rm_X0_end, rm_X0_fault, rm_X0_feed, rm_X0_fit, rm_X0_flow, rm_X0_good, rm_X0_hours, rm_X0_init, rm_X0_keep, rm_X0_law, rm_X0_learnt, rm_X0_look, rm_X0_maze, rm_X0_net, rm_X0_own, rm_X0_plate, rm_X0_rest, rm_X0_right, rm_X0_ring, rm_X0_see, rm_X0_set, rm_X0_shortest, rm_X0_surely, rm_X0_take, rm_X0_tell, rm_X0_told, rm_X0_under, rm_X0_width, rm_X4_alike, rm_X4_chance, rm_X4_count, rm_X4_end, rm_X4_fault, rm_X4_feed, rm_X4_fit, rm_X4_flow, rm_X4_good, rm_X4_hours, rm_X4_init, rm_X4_keep, rm_X4_law, rm_X4_learnt, rm_X4_look, rm_X4_maze, rm_X4_net, rm_X4_own, rm_X4_plate, rm_X4_rest, rm_X4_right, rm_X4_ring, rm_X4_see, rm_X4_set, rm_X4_shortest, rm_X4_surely, rm_X4_take, rm_X4_tell, rm_X4_told, rm_X4_under, rm_X4_width]; omega)) (by first | omega | (simp only [rm_X0_alike, rm_X0_chance, rm_X0_count, rm_X0_end, rm_X0_fault, rm_X0_feed, rm_X0_fit, rm_X0_flow, rm_X0_good, rm_X0_hours, rm_X0_init, rm_X0_keep, rm_X0_law, rm_X0_learnt, rm_X0_look, rm_X0_maze, rm_X0_net, rm_X0_own, rm_X0_plate, rm_X0_rest, rm_X0_right, rm_X0_ring, rm_X0_see, rm_X0_set, rm_X0_shortest, rm_X0_surely, rm_X0_take, rm_X0_tell, rm_X0_told, rm_X0_under, rm_X0_width, rm_X4_alike, rm_X4_chance, rm_X4_count, rm_X4_end, rm_X4_fault, rm_X4_feed, rm_X4_fit, rm_X4_flow, rm_X4_good, rm_X4_hours, rm_X4_init, rm_X4_keep, rm_X4_law, rm_X4_learnt, rm_X4_look, rm_X4_maze, rm_X4_net, rm_X4_own, rm_X4_plate, rm_X4_rest, rm_X4_right, rm_X4_ring, rm_X4_see, rm_X4_set, rm_X4_shortest, rm_X4_surely, rm_X4_take, rm_X4_tell, rm_X4_told, rm_X4_under, rm_X4_width]; omega))
    rw [if_neg hc13] at hf
    by_cases hc14 : (v29 &&& (31 : Int32)) = (14 : Int32)
    · rw [if_pos hc14] at hf
      refine g_tblI hX dL_law_33 (14 : Int32) 14 (489) 522 (by decide) (by decide) rfl (by decide) hc14 ?_
      refine g_aload_n hX dL_law_522 (lg_at 1 rfl) ?_
      refine g_aload_n hX dL_law_523 (lg_at 0 rfl) ?_
      refine g_iload_n hX dL_law_524 (lg_at 3 rfl) ?_
      refine g_iconst hX dL_law_525 (1 : Int32) (by decide) ?_
      refine g_iadd hX dL_law_526 ?_
      refine g_iald hX hf dL_law_527 (fun v527 hf => ?_)
      obtain ⟨k528, hk528, hf⟩ := ob_some hf
      obtain ⟨⟨v528, A528⟩, hc528, hf⟩ := ob_some hf
      refine h_callV hM [vi v527] dL_law_528 cs_SlimeNetLaw_74_1 hk528 (m_X0_chance hc528) (by simp only [roomOK, rm_L_law, rm_X0_alike, rm_X0_chance, rm_X0_count, rm_X0_end, rm_X0_fault, rm_X0_feed, rm_X0_fit, rm_X0_flow, rm_X0_good, rm_X0_hours, rm_X0_init, rm_X0_keep, rm_X0_law, rm_X0_learnt, rm_X0_look, rm_X0_maze, rm_X0_net, rm_X0_own, rm_X0_plate, rm_X0_rest, rm_X0_right, rm_X0_ring, rm_X0_see, rm_X0_set, rm_X0_shortest, rm_X0_surely, rm_X0_take, rm_X0_tell, rm_X0_told, rm_X0_under, rm_X0_width, rm_X4_alike, rm_X4_chance, rm_X4_count, rm_X4_end, rm_X4_fault, rm_X4_feed, rm_X4_fit, rm_X4_flow, rm_X4_good, rm_X4_hours, rm_X4_init, rm_X4_keep, rm_X4_law, rm_X4_learnt, rm_X4_look, rm_X4_maze, rm_X4_net, rm_X4_own, rm_X4_plate, rm_X4_rest, rm_X4_right, rm_X4_ring, rm_X4_see, rm_X4_set, rm_X4_shortest, rm_X4_surely, rm_X4_take, rm_X4_tell, rm_X4_told, rm_X4_under, rm_X4_width, Bool.and_eq_true, Nat.ble_eq] at hcs hss ⊢; omega) rfl rfl rfl ?_
      dsimp only at hf
      refine g_aload_n hX dL_law_531 (lg_at 2 rfl) ?_
      refine g_aload_n hX dL_law_532 (lg_at 0 rfl) ?_
      refine g_iload_n hX dL_law_533 (lg_at 3 rfl) ?_
      refine g_iconst hX dL_law_534 (1 : Int32) (by decide) ?_
      refine g_iadd hX dL_law_535 ?_
      refine g_iald hX hf dL_law_536 (fun v536 hf => ?_)
      obtain ⟨k537, hk537, hf⟩ := ob_some hf
      obtain ⟨⟨v537, A537⟩, hc537, hf⟩ := ob_some hf
      refine h_callV hM [vi v536] dL_law_537 cs_SlimeNetLaw_77_5 hk537 (m_X4_chance hc537) (by simp only [roomOK, rm_L_law, rm_X0_alike, rm_X0_chance, rm_X0_count, rm_X0_end, rm_X0_fault, rm_X0_feed, rm_X0_fit, rm_X0_flow, rm_X0_good, rm_X0_hours, rm_X0_init, rm_X0_keep, rm_X0_law, rm_X0_learnt, rm_X0_look, rm_X0_maze, rm_X0_net, rm_X0_own, rm_X0_plate, rm_X0_rest, rm_X0_right, rm_X0_ring, rm_X0_see, rm_X0_set, rm_X0_shortest, rm_X0_surely, rm_X0_take, rm_X0_tell, rm_X0_told, rm_X0_under, rm_X0_width, rm_X4_alike, rm_X4_chance, rm_X4_count, rm_X4_end, rm_X4_fault, rm_X4_feed, rm_X4_fit, rm_X4_flow, rm_X4_good, rm_X4_hours, rm_X4_init, rm_X4_keep, rm_X4_law, rm_X4_learnt, rm_X4_look, rm_X4_maze, rm_X4_net, rm_X4_own, rm_X4_plate, rm_X4_rest, rm_X4_right, rm_X4_ring, rm_X4_see, rm_X4_set, rm_X4_shortest, rm_X4_surely, rm_X4_take, rm_X4_tell, rm_X4_told, rm_X4_under, rm_X4_width, Bool.and_eq_true, Nat.ble_eq] at hcs hss ⊢; omega) rfl rfl rfl ?_
      dsimp only at hf
      refine g_icmp_eq hX dL_law_540 940 hf (by decide) (fun c540 hf => ?_) (fun c540 hf => ?_)
      · exact g_wide (g_pick (w_f_L_law_940 hM hcs hss hf K) [0, 1, 2, 3] rfl) (by first | omega | (simp only [rm_X0_alike, rm_X0_chance, rm_X0_count, rm_X0_end, rm_X0_fault, rm_X0_feed, rm_X0_fit, rm_X0_flow, rm_X0_good, rm_X0_hours, rm_X0_init, rm_X0_keep, rm_X0_law, rm_X0_learnt, rm_X0_look, rm_X0_maze, rm_X0_net, rm_X0_own, rm_X0_plate, rm_X0_rest, rm_X0_right, rm_X0_ring, rm_X0_see, rm_X0_set, rm_X0_shortest, rm_X0_surely, rm_X0_take, rm_X0_tell, rm_X0_told, rm_X0_under, rm_X0_width, rm_X4_alike, rm_X4_chance, rm_X4_count, rm_X4_end, rm_X4_fault, rm_X4_feed, rm_X4_fit, rm_X4_flow, rm_X4_good, rm_X4_hours, rm_X4_init, rm_X4_keep, rm_X4_law, rm_X4_learnt, rm_X4_look, rm_X4_maze, rm_X4_net, rm_X4_own, rm_X4_plate, rm_X4_rest, rm_X4_right, rm_X4_ring, rm_X4_see, rm_X4_set, rm_X4_shortest, rm_X4_surely, rm_X4_take, rm_X4_tell, rm_X4_told, rm_X4_under, rm_X4_width]; omega)) (by first | omega | (simp only [rm_X0_alike, rm_X0_chance, rm_X0_count, rm_X0_end, rm_X0_fault, rm_X0_feed, rm_X0_fit, rm_X0_flow, rm_X0_good, rm_X0_hours, rm_X0_init, rm_X0_keep, rm_X0_law, rm_X0_learnt, rm_X0_look, rm_X0_maze, rm_X0_net, rm_X0_own, rm_X0_plate, rm_X0_rest, rm_X0_right, rm_X0_ring, rm_X0_see, rm_X0_set, rm_X0_shortest, rm_X0_surely, rm_X0_take, rm_X0_tell, rm_X0_told, rm_X0_under, rm_X0_width, rm_X4_alike, rm_X4_chance, rm_X4_count, rm_X4_end, rm_X4_fault, rm_X4_feed, rm_X4_fit, rm_X4_flow, rm_X4_good, rm_X4_hours, rm_X4_init, rm_X4_keep, rm_X4_law, rm_X4_learnt, rm_X4_look, rm_X4_maze, rm_X4_net, rm_X4_own, rm_X4_plate, rm_X4_rest, rm_X4_right, rm_X4_ring, rm_X4_see, rm_X4_set, rm_X4_shortest, rm_X4_surely, rm_X4_take, rm_X4_tell, rm_X4_told, rm_X4_under, rm_X4_width]; omega))
      · cases hf
        exact g_wide (g_pick (show G X _ _ _ _ _ _ from K) [] rfl) (by first | omega | (simp only [rm_X0_alike, rm_X0_chance, rm_X0_count, rm_X0_end, rm_X0_fault, rm_X0_feed, rm_X0_fit, rm_X0_flow, rm_X0_good, rm_X0_hours, rm_X0_init, rm_X0_keep, rm_X0_law, rm_X0_learnt, rm_X0_look, rm_X0_maze, rm_X0_net, rm_X0_own, rm_X0_plate, rm_X0_rest, rm_X0_right, rm_X0_ring, rm_X0_see, rm_X0_set, rm_X0_shortest, rm_X0_surely, rm_X0_take, rm_X0_tell, rm_X0_told, rm_X0_under, rm_X0_width, rm_X4_alike, rm_X4_chance, rm_X4_count, rm_X4_end, rm_X4_fault, rm_X4_feed, rm_X4_fit, rm_X4_flow, rm_X4_good, rm_X4_hours, rm_X4_init, rm_X4_keep, rm_X4_law, rm_X4_learnt, rm_X4_look, rm_X4_maze, rm_X4_net, rm_X4_own, rm_X4_plate, rm_X4_rest, rm_X4_right, rm_X4_ring, rm_X4_see, rm_X4_set, rm_X4_shortest, rm_X4_surely, rm_X4_take, rm_X4_tell, rm_X4_told, rm_X4_under, rm_X4_width]; omega)) (by first | omega | (simp only [rm_X0_alike, rm_X0_chance, rm_X0_count, rm_X0_end, rm_X0_fault, rm_X0_feed, rm_X0_fit, rm_X0_flow, rm_X0_good, rm_X0_hours, rm_X0_init, rm_X0_keep, rm_X0_law, rm_X0_learnt, rm_X0_look, rm_X0_maze, rm_X0_net, rm_X0_own, rm_X0_plate, rm_X0_rest, rm_X0_right, rm_X0_ring, rm_X0_see, rm_X0_set, rm_X0_shortest, rm_X0_surely, rm_X0_take, rm_X0_tell, rm_X0_told, rm_X0_under, rm_X0_width, rm_X4_alike, rm_X4_chance, rm_X4_count, rm_X4_end, rm_X4_fault, rm_X4_feed, rm_X4_fit, rm_X4_flow, rm_X4_good, rm_X4_hours, rm_X4_init, rm_X4_keep, rm_X4_law, rm_X4_learnt, rm_X4_look, rm_X4_maze, rm_X4_net, rm_X4_own, rm_X4_plate, rm_X4_rest, rm_X4_right, rm_X4_ring, rm_X4_see, rm_X4_set, rm_X4_shortest, rm_X4_surely, rm_X4_take, rm_X4_tell, rm_X4_told, rm_X4_under, rm_X4_width]; omega))
    rw [if_neg hc14] at hf
    by_cases hc15 : (v29 &&& (31 : Int32)) = (15 : Int32)
    · rw [if_pos hc15] at hf
      refine g_tblI hX dL_law_33 (15 : Int32) 15 (512) 545 (by decide) (by decide) rfl (by decide) hc15 ?_
      refine g_aload_n hX dL_law_545 (lg_at 1 rfl) ?_
      refine g_aload_n hX dL_law_546 (lg_at 0 rfl) ?_
      refine g_iload_n hX dL_law_547 (lg_at 3 rfl) ?_
      refine g_iconst hX dL_law_548 (1 : Int32) (by decide) ?_
      refine g_iadd hX dL_law_549 ?_
      refine g_iald hX hf dL_law_550 (fun v550 hf => ?_)
      obtain ⟨k551, hk551, hf⟩ := ob_some hf
      obtain ⟨⟨v551, A551⟩, hc551, hf⟩ := ob_some hf
      refine h_callV hM [vi v550] dL_law_551 cs_SlimeNetLaw_78_1 hk551 (m_X0_keep hc551) (by simp only [roomOK, rm_L_law, rm_X0_alike, rm_X0_chance, rm_X0_count, rm_X0_end, rm_X0_fault, rm_X0_feed, rm_X0_fit, rm_X0_flow, rm_X0_good, rm_X0_hours, rm_X0_init, rm_X0_keep, rm_X0_law, rm_X0_learnt, rm_X0_look, rm_X0_maze, rm_X0_net, rm_X0_own, rm_X0_plate, rm_X0_rest, rm_X0_right, rm_X0_ring, rm_X0_see, rm_X0_set, rm_X0_shortest, rm_X0_surely, rm_X0_take, rm_X0_tell, rm_X0_told, rm_X0_under, rm_X0_width, rm_X4_alike, rm_X4_chance, rm_X4_count, rm_X4_end, rm_X4_fault, rm_X4_feed, rm_X4_fit, rm_X4_flow, rm_X4_good, rm_X4_hours, rm_X4_init, rm_X4_keep, rm_X4_law, rm_X4_learnt, rm_X4_look, rm_X4_maze, rm_X4_net, rm_X4_own, rm_X4_plate, rm_X4_rest, rm_X4_right, rm_X4_ring, rm_X4_see, rm_X4_set, rm_X4_shortest, rm_X4_surely, rm_X4_take, rm_X4_tell, rm_X4_told, rm_X4_under, rm_X4_width, Bool.and_eq_true, Nat.ble_eq] at hcs hss ⊢; omega) rfl rfl rfl ?_
      dsimp only at hf
      refine g_aload_n hX dL_law_554 (lg_at 2 rfl) ?_
      refine g_aload_n hX dL_law_555 (lg_at 0 rfl) ?_
      refine g_iload_n hX dL_law_556 (lg_at 3 rfl) ?_
      refine g_iconst hX dL_law_557 (1 : Int32) (by decide) ?_
      refine g_iadd hX dL_law_558 ?_
      refine g_iald hX hf dL_law_559 (fun v559 hf => ?_)
      obtain ⟨k560, hk560, hf⟩ := ob_some hf
      obtain ⟨⟨v560, A560⟩, hc560, hf⟩ := ob_some hf
      refine h_callV hM [vi v559] dL_law_560 cs_SlimeNetLaw_81_5 hk560 (m_X4_keep hc560) (by simp only [roomOK, rm_L_law, rm_X0_alike, rm_X0_chance, rm_X0_count, rm_X0_end, rm_X0_fault, rm_X0_feed, rm_X0_fit, rm_X0_flow, rm_X0_good, rm_X0_hours, rm_X0_init, rm_X0_keep, rm_X0_law, rm_X0_learnt, rm_X0_look, rm_X0_maze, rm_X0_net, rm_X0_own, rm_X0_plate, rm_X0_rest, rm_X0_right, rm_X0_ring, rm_X0_see, rm_X0_set, rm_X0_shortest, rm_X0_surely, rm_X0_take, rm_X0_tell, rm_X0_told, rm_X0_under, rm_X0_width, rm_X4_alike, rm_X4_chance, rm_X4_count, rm_X4_end, rm_X4_fault, rm_X4_feed, rm_X4_fit, rm_X4_flow, rm_X4_good, rm_X4_hours, rm_X4_init, rm_X4_keep, rm_X4_law, rm_X4_learnt, rm_X4_look, rm_X4_maze, rm_X4_net, rm_X4_own, rm_X4_plate, rm_X4_rest, rm_X4_right, rm_X4_ring, rm_X4_see, rm_X4_set, rm_X4_shortest, rm_X4_surely, rm_X4_take, rm_X4_tell, rm_X4_told, rm_X4_under, rm_X4_width, Bool.and_eq_true, Nat.ble_eq] at hcs hss ⊢; omega) rfl rfl rfl ?_
      dsimp only at hf
      refine g_icmp_eq hX dL_law_563 940 hf (by decide) (fun c563 hf => ?_) (fun c563 hf => ?_)
      · exact g_wide (g_pick (w_f_L_law_940 hM hcs hss hf K) [0, 1, 2, 3] rfl) (by first | omega | (simp only [rm_X0_alike, rm_X0_chance, rm_X0_count, rm_X0_end, rm_X0_fault, rm_X0_feed, rm_X0_fit, rm_X0_flow, rm_X0_good, rm_X0_hours, rm_X0_init, rm_X0_keep, rm_X0_law, rm_X0_learnt, rm_X0_look, rm_X0_maze, rm_X0_net, rm_X0_own, rm_X0_plate, rm_X0_rest, rm_X0_right, rm_X0_ring, rm_X0_see, rm_X0_set, rm_X0_shortest, rm_X0_surely, rm_X0_take, rm_X0_tell, rm_X0_told, rm_X0_under, rm_X0_width, rm_X4_alike, rm_X4_chance, rm_X4_count, rm_X4_end, rm_X4_fault, rm_X4_feed, rm_X4_fit, rm_X4_flow, rm_X4_good, rm_X4_hours, rm_X4_init, rm_X4_keep, rm_X4_law, rm_X4_learnt, rm_X4_look, rm_X4_maze, rm_X4_net, rm_X4_own, rm_X4_plate, rm_X4_rest, rm_X4_right, rm_X4_ring, rm_X4_see, rm_X4_set, rm_X4_shortest, rm_X4_surely, rm_X4_take, rm_X4_tell, rm_X4_told, rm_X4_under, rm_X4_width]; omega)) (by first | omega | (simp only [rm_X0_alike, rm_X0_chance, rm_X0_count, rm_X0_end, rm_X0_fault, rm_X0_feed, rm_X0_fit, rm_X0_flow, rm_X0_good, rm_X0_hours, rm_X0_init, rm_X0_keep, rm_X0_law, rm_X0_learnt, rm_X0_look, rm_X0_maze, rm_X0_net, rm_X0_own, rm_X0_plate, rm_X0_rest, rm_X0_right, rm_X0_ring, rm_X0_see, rm_X0_set, rm_X0_shortest, rm_X0_surely, rm_X0_take, rm_X0_tell, rm_X0_told, rm_X0_under, rm_X0_width, rm_X4_alike, rm_X4_chance, rm_X4_count, rm_X4_end, rm_X4_fault, rm_X4_feed, rm_X4_fit, rm_X4_flow, rm_X4_good, rm_X4_hours, rm_X4_init, rm_X4_keep, rm_X4_law, rm_X4_learnt, rm_X4_look, rm_X4_maze, rm_X4_net, rm_X4_own, rm_X4_plate, rm_X4_rest, rm_X4_right, rm_X4_ring, rm_X4_see, rm_X4_set, rm_X4_shortest, rm_X4_surely, rm_X4_take, rm_X4_tell, rm_X4_told, rm_X4_under, rm_X4_width]; omega))
      · cases hf
        exact g_wide (g_pick (show G X _ _ _ _ _ _ from K) [] rfl) (by first | omega | (simp only [rm_X0_alike, rm_X0_chance, rm_X0_count, rm_X0_end, rm_X0_fault, rm_X0_feed, rm_X0_fit, rm_X0_flow, rm_X0_good, rm_X0_hours, rm_X0_init, rm_X0_keep, rm_X0_law, rm_X0_learnt, rm_X0_look, rm_X0_maze, rm_X0_net, rm_X0_own, rm_X0_plate, rm_X0_rest, rm_X0_right, rm_X0_ring, rm_X0_see, rm_X0_set, rm_X0_shortest, rm_X0_surely, rm_X0_take, rm_X0_tell, rm_X0_told, rm_X0_under, rm_X0_width, rm_X4_alike, rm_X4_chance, rm_X4_count, rm_X4_end, rm_X4_fault, rm_X4_feed, rm_X4_fit, rm_X4_flow, rm_X4_good, rm_X4_hours, rm_X4_init, rm_X4_keep, rm_X4_law, rm_X4_learnt, rm_X4_look, rm_X4_maze, rm_X4_net, rm_X4_own, rm_X4_plate, rm_X4_rest, rm_X4_right, rm_X4_ring, rm_X4_see, rm_X4_set, rm_X4_shortest, rm_X4_surely, rm_X4_take, rm_X4_tell, rm_X4_told, rm_X4_under, rm_X4_width]; omega)) (by first | omega | (simp only [rm_X0_alike, rm_X0_chance, rm_X0_count, rm_X0_end, rm_X0_fault, rm_X0_feed, rm_X0_fit, rm_X0_flow, rm_X0_good, rm_X0_hours, rm_X0_init, rm_X0_keep, rm_X0_law, rm_X0_learnt, rm_X0_look, rm_X0_maze, rm_X0_net, rm_X0_own, rm_X0_plate, rm_X0_rest, rm_X0_right, rm_X0_ring, rm_X0_see, rm_X0_set, rm_X0_shortest, rm_X0_surely, rm_X0_take, rm_X0_tell, rm_X0_told, rm_X0_under, rm_X0_width, rm_X4_alike, rm_X4_chance, rm_X4_count, rm_X4_end, rm_X4_fault, rm_X4_feed, rm_X4_fit, rm_X4_flow, rm_X4_good, rm_X4_hours, rm_X4_init, rm_X4_keep, rm_X4_law, rm_X4_learnt, rm_X4_look, rm_X4_maze, rm_X4_net, rm_X4_own, rm_X4_plate, rm_X4_rest, rm_X4_right, rm_X4_ring, rm_X4_see, rm_X4_set, rm_X4_shortest, rm_X4_surely, rm_X4_take, rm_X4_tell, rm_X4_told, rm_X4_under, rm_X4_width]; omega))
    rw [if_neg hc15] at hf
    by_cases hc16 : (v29 &&& (31 : Int32)) = (16 : Int32)
    · rw [if_pos hc16] at hf
      refine g_tblI hX dL_law_33 (16 : Int32) 16 (535) 568 (by decide) (by decide) rfl (by decide) hc16 ?_
      refine g_aload_n hX dL_law_568 (lg_at 1 rfl) ?_
      refine g_aload_n hX dL_law_569 (lg_at 0 rfl) ?_
      refine g_iload_n hX dL_law_570 (lg_at 3 rfl) ?_
      refine g_iconst hX dL_law_571 (1 : Int32) (by decide) ?_
      refine g_iadd hX dL_law_572 ?_
      refine g_iald hX hf dL_law_573 (fun v573 hf => ?_)
      obtain ⟨k574, hk574, hf⟩ := ob_some hf
      obtain ⟨⟨v574, A574⟩, hc574, hf⟩ := ob_some hf
      refine h_callV hM [vi v573] dL_law_574 cs_SlimeNetLaw_82_1 hk574 (m_X0_take hc574) (by simp only [roomOK, rm_L_law, rm_X0_alike, rm_X0_chance, rm_X0_count, rm_X0_end, rm_X0_fault, rm_X0_feed, rm_X0_fit, rm_X0_flow, rm_X0_good, rm_X0_hours, rm_X0_init, rm_X0_keep, rm_X0_law, rm_X0_learnt, rm_X0_look, rm_X0_maze, rm_X0_net, rm_X0_own, rm_X0_plate, rm_X0_rest, rm_X0_right, rm_X0_ring, rm_X0_see, rm_X0_set, rm_X0_shortest, rm_X0_surely, rm_X0_take, rm_X0_tell, rm_X0_told, rm_X0_under, rm_X0_width, rm_X4_alike, rm_X4_chance, rm_X4_count, rm_X4_end, rm_X4_fault, rm_X4_feed, rm_X4_fit, rm_X4_flow, rm_X4_good, rm_X4_hours, rm_X4_init, rm_X4_keep, rm_X4_law, rm_X4_learnt, rm_X4_look, rm_X4_maze, rm_X4_net, rm_X4_own, rm_X4_plate, rm_X4_rest, rm_X4_right, rm_X4_ring, rm_X4_see, rm_X4_set, rm_X4_shortest, rm_X4_surely, rm_X4_take, rm_X4_tell, rm_X4_told, rm_X4_under, rm_X4_width, Bool.and_eq_true, Nat.ble_eq] at hcs hss ⊢; omega) rfl rfl rfl ?_
      dsimp only at hf
      refine g_aload_n hX dL_law_577 (lg_at 2 rfl) ?_
      refine g_aload_n hX dL_law_578 (lg_at 0 rfl) ?_
      refine g_iload_n hX dL_law_579 (lg_at 3 rfl) ?_
      refine g_iconst hX dL_law_580 (1 : Int32) (by decide) ?_
      refine g_iadd hX dL_law_581 ?_
      refine g_iald hX hf dL_law_582 (fun v582 hf => ?_)
      obtain ⟨k583, hk583, hf⟩ := ob_some hf
      obtain ⟨⟨v583, A583⟩, hc583, hf⟩ := ob_some hf
      refine h_callV hM [vi v582] dL_law_583 cs_SlimeNetLaw_85_5 hk583 (m_X4_take hc583) (by simp only [roomOK, rm_L_law, rm_X0_alike, rm_X0_chance, rm_X0_count, rm_X0_end, rm_X0_fault, rm_X0_feed, rm_X0_fit, rm_X0_flow, rm_X0_good, rm_X0_hours, rm_X0_init, rm_X0_keep, rm_X0_law, rm_X0_learnt, rm_X0_look, rm_X0_maze, rm_X0_net, rm_X0_own, rm_X0_plate, rm_X0_rest, rm_X0_right, rm_X0_ring, rm_X0_see, rm_X0_set, rm_X0_shortest, rm_X0_surely, rm_X0_take, rm_X0_tell, rm_X0_told, rm_X0_under, rm_X0_width, rm_X4_alike, rm_X4_chance, rm_X4_count, rm_X4_end, rm_X4_fault, rm_X4_feed, rm_X4_fit, rm_X4_flow, rm_X4_good, rm_X4_hours, rm_X4_init, rm_X4_keep, rm_X4_law, rm_X4_learnt, rm_X4_look, rm_X4_maze, rm_X4_net, rm_X4_own, rm_X4_plate, rm_X4_rest, rm_X4_right, rm_X4_ring, rm_X4_see, rm_X4_set, rm_X4_shortest, rm_X4_surely, rm_X4_take, rm_X4_tell, rm_X4_told, rm_X4_under, rm_X4_width, Bool.and_eq_true, Nat.ble_eq] at hcs hss ⊢; omega) rfl rfl rfl ?_
      dsimp only at hf
      refine g_icmp_eq hX dL_law_586 940 hf (by decide) (fun c586 hf => ?_) (fun c586 hf => ?_)
      · exact g_wide (g_pick (w_f_L_law_940 hM hcs hss hf K) [0, 1, 2, 3] rfl) (by first | omega | (simp only [rm_X0_alike, rm_X0_chance, rm_X0_count, rm_X0_end, rm_X0_fault, rm_X0_feed, rm_X0_fit, rm_X0_flow, rm_X0_good, rm_X0_hours, rm_X0_init, rm_X0_keep, rm_X0_law, rm_X0_learnt, rm_X0_look, rm_X0_maze, rm_X0_net, rm_X0_own, rm_X0_plate, rm_X0_rest, rm_X0_right, rm_X0_ring, rm_X0_see, rm_X0_set, rm_X0_shortest, rm_X0_surely, rm_X0_take, rm_X0_tell, rm_X0_told, rm_X0_under, rm_X0_width, rm_X4_alike, rm_X4_chance, rm_X4_count, rm_X4_end, rm_X4_fault, rm_X4_feed, rm_X4_fit, rm_X4_flow, rm_X4_good, rm_X4_hours, rm_X4_init, rm_X4_keep, rm_X4_law, rm_X4_learnt, rm_X4_look, rm_X4_maze, rm_X4_net, rm_X4_own, rm_X4_plate, rm_X4_rest, rm_X4_right, rm_X4_ring, rm_X4_see, rm_X4_set, rm_X4_shortest, rm_X4_surely, rm_X4_take, rm_X4_tell, rm_X4_told, rm_X4_under, rm_X4_width]; omega)) (by first | omega | (simp only [rm_X0_alike, rm_X0_chance, rm_X0_count, rm_X0_end, rm_X0_fault, rm_X0_feed, rm_X0_fit, rm_X0_flow, rm_X0_good, rm_X0_hours, rm_X0_init, rm_X0_keep, rm_X0_law, rm_X0_learnt, rm_X0_look, rm_X0_maze, rm_X0_net, rm_X0_own, rm_X0_plate, rm_X0_rest, rm_X0_right, rm_X0_ring, rm_X0_see, rm_X0_set, rm_X0_shortest, rm_X0_surely, rm_X0_take, rm_X0_tell, rm_X0_told, rm_X0_under, rm_X0_width, rm_X4_alike, rm_X4_chance, rm_X4_count, rm_X4_end, rm_X4_fault, rm_X4_feed, rm_X4_fit, rm_X4_flow, rm_X4_good, rm_X4_hours, rm_X4_init, rm_X4_keep, rm_X4_law, rm_X4_learnt, rm_X4_look, rm_X4_maze, rm_X4_net, rm_X4_own, rm_X4_plate, rm_X4_rest, rm_X4_right, rm_X4_ring, rm_X4_see, rm_X4_set, rm_X4_shortest, rm_X4_surely, rm_X4_take, rm_X4_tell, rm_X4_told, rm_X4_under, rm_X4_width]; omega))
      · cases hf
        exact g_wide (g_pick (show G X _ _ _ _ _ _ from K) [] rfl) (by first | omega | (simp only [rm_X0_alike, rm_X0_chance, rm_X0_count, rm_X0_end, rm_X0_fault, rm_X0_feed, rm_X0_fit, rm_X0_flow, rm_X0_good, rm_X0_hours, rm_X0_init, rm_X0_keep, rm_X0_law, rm_X0_learnt, rm_X0_look, rm_X0_maze, rm_X0_net, rm_X0_own, rm_X0_plate, rm_X0_rest, rm_X0_right, rm_X0_ring, rm_X0_see, rm_X0_set, rm_X0_shortest, rm_X0_surely, rm_X0_take, rm_X0_tell, rm_X0_told, rm_X0_under, rm_X0_width, rm_X4_alike, rm_X4_chance, rm_X4_count, rm_X4_end, rm_X4_fault, rm_X4_feed, rm_X4_fit, rm_X4_flow, rm_X4_good, rm_X4_hours, rm_X4_init, rm_X4_keep, rm_X4_law, rm_X4_learnt, rm_X4_look, rm_X4_maze, rm_X4_net, rm_X4_own, rm_X4_plate, rm_X4_rest, rm_X4_right, rm_X4_ring, rm_X4_see, rm_X4_set, rm_X4_shortest, rm_X4_surely, rm_X4_take, rm_X4_tell, rm_X4_told, rm_X4_under, rm_X4_width]; omega)) (by first | omega | (simp only [rm_X0_alike, rm_X0_chance, rm_X0_count, rm_X0_end, rm_X0_fault, rm_X0_feed, rm_X0_fit, rm_X0_flow, rm_X0_good, rm_X0_hours, rm_X0_init, rm_X0_keep, rm_X0_law, rm_X0_learnt, rm_X0_look, rm_X0_maze, rm_X0_net, rm_X0_own, rm_X0_plate, rm_X0_rest, rm_X0_right, rm_X0_ring, rm_X0_see, rm_X0_set, rm_X0_shortest, rm_X0_surely, rm_X0_take, rm_X0_tell, rm_X0_told, rm_X0_under, rm_X0_width, rm_X4_alike, rm_X4_chance, rm_X4_count, rm_X4_end, rm_X4_fault, rm_X4_feed, rm_X4_fit, rm_X4_flow, rm_X4_good, rm_X4_hours, rm_X4_init, rm_X4_keep, rm_X4_law, rm_X4_learnt, rm_X4_look, rm_X4_maze, rm_X4_net, rm_X4_own, rm_X4_plate, rm_X4_rest, rm_X4_right, rm_X4_ring, rm_X4_see, rm_X4_set, rm_X4_shortest, rm_X4_surely, rm_X4_take, rm_X4_tell, rm_X4_told, rm_X4_under, rm_X4_width]; omega))
    rw [if_neg hc16] at hf
    by_cases hc17 : (v29 &&& (31 : Int32)) = (17 : Int32)
    · rw [if_pos hc17] at hf
      refine g_tblI hX dL_law_33 (17 : Int32) 17 (558) 591 (by decide) (by decide) rfl (by decide) hc17 ?_
      refine g_aload_n hX dL_law_591 (lg_at 1 rfl) ?_
      refine g_aload_n hX dL_law_592 (lg_at 0 rfl) ?_
      refine g_iload_n hX dL_law_593 (lg_at 3 rfl) ?_
      refine g_iconst hX dL_law_594 (1 : Int32) (by decide) ?_
      refine g_iadd hX dL_law_595 ?_
      refine g_iald hX hf dL_law_596 (fun v596 hf => ?_)
      refine g_aload_n hX dL_law_597 (lg_at 0 rfl) ?_
      refine g_iload_n hX dL_law_598 (lg_at 3 rfl) ?_
      refine g_iconst hX dL_law_599 (2 : Int32) (by decide) ?_
      refine g_iadd hX dL_law_600 ?_
      refine g_iald hX hf dL_law_601 (fun v601 hf => ?_)
      obtain ⟨k602, hk602, hf⟩ := ob_some hf
      obtain ⟨v602, hc602, hf⟩ := ob_some hf
      refine h_callV hM [vi v596, vi v601] dL_law_602 cs_SlimeNetLaw_86_1 hk602 (m_X0_alike hc602) (by simp only [roomOK, rm_L_law, rm_X0_alike, rm_X0_chance, rm_X0_count, rm_X0_end, rm_X0_fault, rm_X0_feed, rm_X0_fit, rm_X0_flow, rm_X0_good, rm_X0_hours, rm_X0_init, rm_X0_keep, rm_X0_law, rm_X0_learnt, rm_X0_look, rm_X0_maze, rm_X0_net, rm_X0_own, rm_X0_plate, rm_X0_rest, rm_X0_right, rm_X0_ring, rm_X0_see, rm_X0_set, rm_X0_shortest, rm_X0_surely, rm_X0_take, rm_X0_tell, rm_X0_told, rm_X0_under, rm_X0_width, rm_X4_alike, rm_X4_chance, rm_X4_count, rm_X4_end, rm_X4_fault, rm_X4_feed, rm_X4_fit, rm_X4_flow, rm_X4_good, rm_X4_hours, rm_X4_init, rm_X4_keep, rm_X4_law, rm_X4_learnt, rm_X4_look, rm_X4_maze, rm_X4_net, rm_X4_own, rm_X4_plate, rm_X4_rest, rm_X4_right, rm_X4_ring, rm_X4_see, rm_X4_set, rm_X4_shortest, rm_X4_surely, rm_X4_take, rm_X4_tell, rm_X4_told, rm_X4_under, rm_X4_width, Bool.and_eq_true, Nat.ble_eq] at hcs hss ⊢; omega) rfl rfl rfl ?_
      refine g_aload_n hX dL_law_605 (lg_at 2 rfl) ?_
      refine g_aload_n hX dL_law_606 (lg_at 0 rfl) ?_
      refine g_iload_n hX dL_law_607 (lg_at 3 rfl) ?_
      refine g_iconst hX dL_law_608 (1 : Int32) (by decide) ?_
      refine g_iadd hX dL_law_609 ?_
      refine g_iald hX hf dL_law_610 (fun v610 hf => ?_)
      refine g_aload_n hX dL_law_611 (lg_at 0 rfl) ?_
      refine g_iload_n hX dL_law_612 (lg_at 3 rfl) ?_
      refine g_iconst hX dL_law_613 (2 : Int32) (by decide) ?_
      refine g_iadd hX dL_law_614 ?_
      refine g_iald hX hf dL_law_615 (fun v615 hf => ?_)
      obtain ⟨k616, hk616, hf⟩ := ob_some hf
      obtain ⟨v616, hc616, hf⟩ := ob_some hf
      refine h_callV hM [vi v610, vi v615] dL_law_616 cs_SlimeNetLaw_89_5 hk616 (m_X4_alike hc616) (by simp only [roomOK, rm_L_law, rm_X0_alike, rm_X0_chance, rm_X0_count, rm_X0_end, rm_X0_fault, rm_X0_feed, rm_X0_fit, rm_X0_flow, rm_X0_good, rm_X0_hours, rm_X0_init, rm_X0_keep, rm_X0_law, rm_X0_learnt, rm_X0_look, rm_X0_maze, rm_X0_net, rm_X0_own, rm_X0_plate, rm_X0_rest, rm_X0_right, rm_X0_ring, rm_X0_see, rm_X0_set, rm_X0_shortest, rm_X0_surely, rm_X0_take, rm_X0_tell, rm_X0_told, rm_X0_under, rm_X0_width, rm_X4_alike, rm_X4_chance, rm_X4_count, rm_X4_end, rm_X4_fault, rm_X4_feed, rm_X4_fit, rm_X4_flow, rm_X4_good, rm_X4_hours, rm_X4_init, rm_X4_keep, rm_X4_law, rm_X4_learnt, rm_X4_look, rm_X4_maze, rm_X4_net, rm_X4_own, rm_X4_plate, rm_X4_rest, rm_X4_right, rm_X4_ring, rm_X4_see, rm_X4_set, rm_X4_shortest, rm_X4_surely, rm_X4_take, rm_X4_tell, rm_X4_told, rm_X4_under, rm_X4_width, Bool.and_eq_true, Nat.ble_eq] at hcs hss ⊢; omega) rfl rfl rfl ?_
      refine g_icmp_eq hX dL_law_619 940 hf (by decide) (fun c619 hf => ?_) (fun c619 hf => ?_)
      · exact g_wide (g_pick (w_f_L_law_940 hM hcs hss hf K) [0, 1, 2, 3] rfl) (by first | omega | (simp only [rm_X0_alike, rm_X0_chance, rm_X0_count, rm_X0_end, rm_X0_fault, rm_X0_feed, rm_X0_fit, rm_X0_flow, rm_X0_good, rm_X0_hours, rm_X0_init, rm_X0_keep, rm_X0_law, rm_X0_learnt, rm_X0_look, rm_X0_maze, rm_X0_net, rm_X0_own, rm_X0_plate, rm_X0_rest, rm_X0_right, rm_X0_ring, rm_X0_see, rm_X0_set, rm_X0_shortest, rm_X0_surely, rm_X0_take, rm_X0_tell, rm_X0_told, rm_X0_under, rm_X0_width, rm_X4_alike, rm_X4_chance, rm_X4_count, rm_X4_end, rm_X4_fault, rm_X4_feed, rm_X4_fit, rm_X4_flow, rm_X4_good, rm_X4_hours, rm_X4_init, rm_X4_keep, rm_X4_law, rm_X4_learnt, rm_X4_look, rm_X4_maze, rm_X4_net, rm_X4_own, rm_X4_plate, rm_X4_rest, rm_X4_right, rm_X4_ring, rm_X4_see, rm_X4_set, rm_X4_shortest, rm_X4_surely, rm_X4_take, rm_X4_tell, rm_X4_told, rm_X4_under, rm_X4_width]; omega)) (by first | omega | (simp only [rm_X0_alike, rm_X0_chance, rm_X0_count, rm_X0_end, rm_X0_fault, rm_X0_feed, rm_X0_fit, rm_X0_flow, rm_X0_good, rm_X0_hours, rm_X0_init, rm_X0_keep, rm_X0_law, rm_X0_learnt, rm_X0_look, rm_X0_maze, rm_X0_net, rm_X0_own, rm_X0_plate, rm_X0_rest, rm_X0_right, rm_X0_ring, rm_X0_see, rm_X0_set, rm_X0_shortest, rm_X0_surely, rm_X0_take, rm_X0_tell, rm_X0_told, rm_X0_under, rm_X0_width, rm_X4_alike, rm_X4_chance, rm_X4_count, rm_X4_end, rm_X4_fault, rm_X4_feed, rm_X4_fit, rm_X4_flow, rm_X4_good, rm_X4_hours, rm_X4_init, rm_X4_keep, rm_X4_law, rm_X4_learnt, rm_X4_look, rm_X4_maze, rm_X4_net, rm_X4_own, rm_X4_plate, rm_X4_rest, rm_X4_right, rm_X4_ring, rm_X4_see, rm_X4_set, rm_X4_shortest, rm_X4_surely, rm_X4_take, rm_X4_tell, rm_X4_told, rm_X4_under, rm_X4_width]; omega))
      · cases hf
        exact g_wide (g_pick (show G X _ _ _ _ _ _ from K) [] rfl) (by first | omega | (simp only [rm_X0_alike, rm_X0_chance, rm_X0_count, rm_X0_end, rm_X0_fault, rm_X0_feed, rm_X0_fit, rm_X0_flow, rm_X0_good, rm_X0_hours, rm_X0_init, rm_X0_keep, rm_X0_law, rm_X0_learnt, rm_X0_look, rm_X0_maze, rm_X0_net, rm_X0_own, rm_X0_plate, rm_X0_rest, rm_X0_right, rm_X0_ring, rm_X0_see, rm_X0_set, rm_X0_shortest, rm_X0_surely, rm_X0_take, rm_X0_tell, rm_X0_told, rm_X0_under, rm_X0_width, rm_X4_alike, rm_X4_chance, rm_X4_count, rm_X4_end, rm_X4_fault, rm_X4_feed, rm_X4_fit, rm_X4_flow, rm_X4_good, rm_X4_hours, rm_X4_init, rm_X4_keep, rm_X4_law, rm_X4_learnt, rm_X4_look, rm_X4_maze, rm_X4_net, rm_X4_own, rm_X4_plate, rm_X4_rest, rm_X4_right, rm_X4_ring, rm_X4_see, rm_X4_set, rm_X4_shortest, rm_X4_surely, rm_X4_take, rm_X4_tell, rm_X4_told, rm_X4_under, rm_X4_width]; omega)) (by first | omega | (simp only [rm_X0_alike, rm_X0_chance, rm_X0_count, rm_X0_end, rm_X0_fault, rm_X0_feed, rm_X0_fit, rm_X0_flow, rm_X0_good, rm_X0_hours, rm_X0_init, rm_X0_keep, rm_X0_law, rm_X0_learnt, rm_X0_look, rm_X0_maze, rm_X0_net, rm_X0_own, rm_X0_plate, rm_X0_rest, rm_X0_right, rm_X0_ring, rm_X0_see, rm_X0_set, rm_X0_shortest, rm_X0_surely, rm_X0_take, rm_X0_tell, rm_X0_told, rm_X0_under, rm_X0_width, rm_X4_alike, rm_X4_chance, rm_X4_count, rm_X4_end, rm_X4_fault, rm_X4_feed, rm_X4_fit, rm_X4_flow, rm_X4_good, rm_X4_hours, rm_X4_init, rm_X4_keep, rm_X4_law, rm_X4_learnt, rm_X4_look, rm_X4_maze, rm_X4_net, rm_X4_own, rm_X4_plate, rm_X4_rest, rm_X4_right, rm_X4_ring, rm_X4_see, rm_X4_set, rm_X4_shortest, rm_X4_surely, rm_X4_take, rm_X4_tell, rm_X4_told, rm_X4_under, rm_X4_width]; omega))
    rw [if_neg hc17] at hf
    by_cases hc18 : (v29 &&& (31 : Int32)) = (18 : Int32)
    · rw [if_pos hc18] at hf
      refine g_tblI hX dL_law_33 (18 : Int32) 18 (591) 624 (by decide) (by decide) rfl (by decide) hc18 ?_
      refine g_aload_n hX dL_law_624 (lg_at 1 rfl) ?_
      refine g_aload_n hX dL_law_625 (lg_at 0 rfl) ?_
      refine g_iload_n hX dL_law_626 (lg_at 3 rfl) ?_
      refine g_iconst hX dL_law_627 (1 : Int32) (by decide) ?_
      refine g_iadd hX dL_law_628 ?_
      refine g_iald hX hf dL_law_629 (fun v629 hf => ?_)
      obtain ⟨k630, hk630, hf⟩ := ob_some hf
      obtain ⟨⟨v630, A630⟩, hc630, hf⟩ := ob_some hf
      refine h_callV hM [vi v629] dL_law_630 cs_SlimeNetLaw_90_1 hk630 (m_X0_tell hc630) (by simp only [roomOK, rm_L_law, rm_X0_alike, rm_X0_chance, rm_X0_count, rm_X0_end, rm_X0_fault, rm_X0_feed, rm_X0_fit, rm_X0_flow, rm_X0_good, rm_X0_hours, rm_X0_init, rm_X0_keep, rm_X0_law, rm_X0_learnt, rm_X0_look, rm_X0_maze, rm_X0_net, rm_X0_own, rm_X0_plate, rm_X0_rest, rm_X0_right, rm_X0_ring, rm_X0_see, rm_X0_set, rm_X0_shortest, rm_X0_surely, rm_X0_take, rm_X0_tell, rm_X0_told, rm_X0_under, rm_X0_width, rm_X4_alike, rm_X4_chance, rm_X4_count, rm_X4_end, rm_X4_fault, rm_X4_feed, rm_X4_fit, rm_X4_flow, rm_X4_good, rm_X4_hours, rm_X4_init, rm_X4_keep, rm_X4_law, rm_X4_learnt, rm_X4_look, rm_X4_maze, rm_X4_net, rm_X4_own, rm_X4_plate, rm_X4_rest, rm_X4_right, rm_X4_ring, rm_X4_see, rm_X4_set, rm_X4_shortest, rm_X4_surely, rm_X4_take, rm_X4_tell, rm_X4_told, rm_X4_under, rm_X4_width, Bool.and_eq_true, Nat.ble_eq] at hcs hss ⊢; omega) rfl rfl rfl ?_
      dsimp only at hf
      refine g_aload_n hX dL_law_633 (lg_at 2 rfl) ?_
      refine g_aload_n hX dL_law_634 (lg_at 0 rfl) ?_
      refine g_iload_n hX dL_law_635 (lg_at 3 rfl) ?_
      refine g_iconst hX dL_law_636 (1 : Int32) (by decide) ?_
      refine g_iadd hX dL_law_637 ?_
      refine g_iald hX hf dL_law_638 (fun v638 hf => ?_)
      obtain ⟨k639, hk639, hf⟩ := ob_some hf
      obtain ⟨⟨v639, A639⟩, hc639, hf⟩ := ob_some hf
      refine h_callV hM [vi v638] dL_law_639 cs_SlimeNetLaw_93_5 hk639 (m_X4_tell hc639) (by simp only [roomOK, rm_L_law, rm_X0_alike, rm_X0_chance, rm_X0_count, rm_X0_end, rm_X0_fault, rm_X0_feed, rm_X0_fit, rm_X0_flow, rm_X0_good, rm_X0_hours, rm_X0_init, rm_X0_keep, rm_X0_law, rm_X0_learnt, rm_X0_look, rm_X0_maze, rm_X0_net, rm_X0_own, rm_X0_plate, rm_X0_rest, rm_X0_right, rm_X0_ring, rm_X0_see, rm_X0_set, rm_X0_shortest, rm_X0_surely, rm_X0_take, rm_X0_tell, rm_X0_told, rm_X0_under, rm_X0_width, rm_X4_alike, rm_X4_chance, rm_X4_count, rm_X4_end, rm_X4_fault, rm_X4_feed, rm_X4_fit, rm_X4_flow, rm_X4_good, rm_X4_hours, rm_X4_init, rm_X4_keep, rm_X4_law, rm_X4_learnt, rm_X4_look, rm_X4_maze, rm_X4_net, rm_X4_own, rm_X4_plate, rm_X4_rest, rm_X4_right, rm_X4_ring, rm_X4_see, rm_X4_set, rm_X4_shortest, rm_X4_surely, rm_X4_take, rm_X4_tell, rm_X4_told, rm_X4_under, rm_X4_width, Bool.and_eq_true, Nat.ble_eq] at hcs hss ⊢; omega) rfl rfl rfl ?_
      dsimp only at hf
      refine g_icmp_eq hX dL_law_642 940 hf (by decide) (fun c642 hf => ?_) (fun c642 hf => ?_)
      · exact g_wide (g_pick (w_f_L_law_940 hM hcs hss hf K) [0, 1, 2, 3] rfl) (by first | omega | (simp only [rm_X0_alike, rm_X0_chance, rm_X0_count, rm_X0_end, rm_X0_fault, rm_X0_feed, rm_X0_fit, rm_X0_flow, rm_X0_good, rm_X0_hours, rm_X0_init, rm_X0_keep, rm_X0_law, rm_X0_learnt, rm_X0_look, rm_X0_maze, rm_X0_net, rm_X0_own, rm_X0_plate, rm_X0_rest, rm_X0_right, rm_X0_ring, rm_X0_see, rm_X0_set, rm_X0_shortest, rm_X0_surely, rm_X0_take, rm_X0_tell, rm_X0_told, rm_X0_under, rm_X0_width, rm_X4_alike, rm_X4_chance, rm_X4_count, rm_X4_end, rm_X4_fault, rm_X4_feed, rm_X4_fit, rm_X4_flow, rm_X4_good, rm_X4_hours, rm_X4_init, rm_X4_keep, rm_X4_law, rm_X4_learnt, rm_X4_look, rm_X4_maze, rm_X4_net, rm_X4_own, rm_X4_plate, rm_X4_rest, rm_X4_right, rm_X4_ring, rm_X4_see, rm_X4_set, rm_X4_shortest, rm_X4_surely, rm_X4_take, rm_X4_tell, rm_X4_told, rm_X4_under, rm_X4_width]; omega)) (by first | omega | (simp only [rm_X0_alike, rm_X0_chance, rm_X0_count, rm_X0_end, rm_X0_fault, rm_X0_feed, rm_X0_fit, rm_X0_flow, rm_X0_good, rm_X0_hours, rm_X0_init, rm_X0_keep, rm_X0_law, rm_X0_learnt, rm_X0_look, rm_X0_maze, rm_X0_net, rm_X0_own, rm_X0_plate, rm_X0_rest, rm_X0_right, rm_X0_ring, rm_X0_see, rm_X0_set, rm_X0_shortest, rm_X0_surely, rm_X0_take, rm_X0_tell, rm_X0_told, rm_X0_under, rm_X0_width, rm_X4_alike, rm_X4_chance, rm_X4_count, rm_X4_end, rm_X4_fault, rm_X4_feed, rm_X4_fit, rm_X4_flow, rm_X4_good, rm_X4_hours, rm_X4_init, rm_X4_keep, rm_X4_law, rm_X4_learnt, rm_X4_look, rm_X4_maze, rm_X4_net, rm_X4_own, rm_X4_plate, rm_X4_rest, rm_X4_right, rm_X4_ring, rm_X4_see, rm_X4_set, rm_X4_shortest, rm_X4_surely, rm_X4_take, rm_X4_tell, rm_X4_told, rm_X4_under, rm_X4_width]; omega))
      · cases hf
        exact g_wide (g_pick (show G X _ _ _ _ _ _ from K) [] rfl) (by first | omega | (simp only [rm_X0_alike, rm_X0_chance, rm_X0_count, rm_X0_end, rm_X0_fault, rm_X0_feed, rm_X0_fit, rm_X0_flow, rm_X0_good, rm_X0_hours, rm_X0_init, rm_X0_keep, rm_X0_law, rm_X0_learnt, rm_X0_look, rm_X0_maze, rm_X0_net, rm_X0_own, rm_X0_plate, rm_X0_rest, rm_X0_right, rm_X0_ring, rm_X0_see, rm_X0_set, rm_X0_shortest, rm_X0_surely, rm_X0_take, rm_X0_tell, rm_X0_told, rm_X0_under, rm_X0_width, rm_X4_alike, rm_X4_chance, rm_X4_count, rm_X4_end, rm_X4_fault, rm_X4_feed, rm_X4_fit, rm_X4_flow, rm_X4_good, rm_X4_hours, rm_X4_init, rm_X4_keep, rm_X4_law, rm_X4_learnt, rm_X4_look, rm_X4_maze, rm_X4_net, rm_X4_own, rm_X4_plate, rm_X4_rest, rm_X4_right, rm_X4_ring, rm_X4_see, rm_X4_set, rm_X4_shortest, rm_X4_surely, rm_X4_take, rm_X4_tell, rm_X4_told, rm_X4_under, rm_X4_width]; omega)) (by first | omega | (simp only [rm_X0_alike, rm_X0_chance, rm_X0_count, rm_X0_end, rm_X0_fault, rm_X0_feed, rm_X0_fit, rm_X0_flow, rm_X0_good, rm_X0_hours, rm_X0_init, rm_X0_keep, rm_X0_law, rm_X0_learnt, rm_X0_look, rm_X0_maze, rm_X0_net, rm_X0_own, rm_X0_plate, rm_X0_rest, rm_X0_right, rm_X0_ring, rm_X0_see, rm_X0_set, rm_X0_shortest, rm_X0_surely, rm_X0_take, rm_X0_tell, rm_X0_told, rm_X0_under, rm_X0_width, rm_X4_alike, rm_X4_chance, rm_X4_count, rm_X4_end, rm_X4_fault, rm_X4_feed, rm_X4_fit, rm_X4_flow, rm_X4_good, rm_X4_hours, rm_X4_init, rm_X4_keep, rm_X4_law, rm_X4_learnt, rm_X4_look, rm_X4_maze, rm_X4_net, rm_X4_own, rm_X4_plate, rm_X4_rest, rm_X4_right, rm_X4_ring, rm_X4_see, rm_X4_set, rm_X4_shortest, rm_X4_surely, rm_X4_take, rm_X4_tell, rm_X4_told, rm_X4_under, rm_X4_width]; omega))
    rw [if_neg hc18] at hf
    by_cases hc19 : (v29 &&& (31 : Int32)) = (19 : Int32)
    · rw [if_pos hc19] at hf
      refine g_tblI hX dL_law_33 (19 : Int32) 19 (614) 647 (by decide) (by decide) rfl (by decide) hc19 ?_
      refine g_aload_n hX dL_law_647 (lg_at 1 rfl) ?_
      obtain ⟨k648, hk648, hf⟩ := ob_some hf
      obtain ⟨v648, hc648, hf⟩ := ob_some hf
      refine h_callV hM [] dL_law_648 cs_SlimeNetLaw_94_1 hk648 (m_X0_own hc648) (by simp only [roomOK, rm_L_law, rm_X0_alike, rm_X0_chance, rm_X0_count, rm_X0_end, rm_X0_fault, rm_X0_feed, rm_X0_fit, rm_X0_flow, rm_X0_good, rm_X0_hours, rm_X0_init, rm_X0_keep, rm_X0_law, rm_X0_learnt, rm_X0_look, rm_X0_maze, rm_X0_net, rm_X0_own, rm_X0_plate, rm_X0_rest, rm_X0_right, rm_X0_ring, rm_X0_see, rm_X0_set, rm_X0_shortest, rm_X0_surely, rm_X0_take, rm_X0_tell, rm_X0_told, rm_X0_under, rm_X0_width, rm_X4_alike, rm_X4_chance, rm_X4_count, rm_X4_end, rm_X4_fault, rm_X4_feed, rm_X4_fit, rm_X4_flow, rm_X4_good, rm_X4_hours, rm_X4_init, rm_X4_keep, rm_X4_law, rm_X4_learnt, rm_X4_look, rm_X4_maze, rm_X4_net, rm_X4_own, rm_X4_plate, rm_X4_rest, rm_X4_right, rm_X4_ring, rm_X4_see, rm_X4_set, rm_X4_shortest, rm_X4_surely, rm_X4_take, rm_X4_tell, rm_X4_told, rm_X4_under, rm_X4_width, Bool.and_eq_true, Nat.ble_eq] at hcs hss ⊢; omega) rfl rfl rfl ?_
      refine g_aload_n hX dL_law_651 (lg_at 2 rfl) ?_
      obtain ⟨k652, hk652, hf⟩ := ob_some hf
      obtain ⟨v652, hc652, hf⟩ := ob_some hf
      refine h_callV hM [] dL_law_652 cs_SlimeNetLaw_97_5 hk652 (m_X4_own hc652) (by simp only [roomOK, rm_L_law, rm_X0_alike, rm_X0_chance, rm_X0_count, rm_X0_end, rm_X0_fault, rm_X0_feed, rm_X0_fit, rm_X0_flow, rm_X0_good, rm_X0_hours, rm_X0_init, rm_X0_keep, rm_X0_law, rm_X0_learnt, rm_X0_look, rm_X0_maze, rm_X0_net, rm_X0_own, rm_X0_plate, rm_X0_rest, rm_X0_right, rm_X0_ring, rm_X0_see, rm_X0_set, rm_X0_shortest, rm_X0_surely, rm_X0_take, rm_X0_tell, rm_X0_told, rm_X0_under, rm_X0_width, rm_X4_alike, rm_X4_chance, rm_X4_count, rm_X4_end, rm_X4_fault, rm_X4_feed, rm_X4_fit, rm_X4_flow, rm_X4_good, rm_X4_hours, rm_X4_init, rm_X4_keep, rm_X4_law, rm_X4_learnt, rm_X4_look, rm_X4_maze, rm_X4_net, rm_X4_own, rm_X4_plate, rm_X4_rest, rm_X4_right, rm_X4_ring, rm_X4_see, rm_X4_set, rm_X4_shortest, rm_X4_surely, rm_X4_take, rm_X4_tell, rm_X4_told, rm_X4_under, rm_X4_width, Bool.and_eq_true, Nat.ble_eq] at hcs hss ⊢; omega) rfl rfl rfl ?_
      refine g_icmp_eq hX dL_law_655 940 hf (by decide) (fun c655 hf => ?_) (fun c655 hf => ?_)
      · exact g_wide (g_pick (w_f_L_law_940 hM hcs hss hf K) [0, 1, 2, 3] rfl) (by first | omega | (simp only [rm_X0_alike, rm_X0_chance, rm_X0_count, rm_X0_end, rm_X0_fault, rm_X0_feed, rm_X0_fit, rm_X0_flow, rm_X0_good, rm_X0_hours, rm_X0_init, rm_X0_keep, rm_X0_law, rm_X0_learnt, rm_X0_look, rm_X0_maze, rm_X0_net, rm_X0_own, rm_X0_plate, rm_X0_rest, rm_X0_right, rm_X0_ring, rm_X0_see, rm_X0_set, rm_X0_shortest, rm_X0_surely, rm_X0_take, rm_X0_tell, rm_X0_told, rm_X0_under, rm_X0_width, rm_X4_alike, rm_X4_chance, rm_X4_count, rm_X4_end, rm_X4_fault, rm_X4_feed, rm_X4_fit, rm_X4_flow, rm_X4_good, rm_X4_hours, rm_X4_init, rm_X4_keep, rm_X4_law, rm_X4_learnt, rm_X4_look, rm_X4_maze, rm_X4_net, rm_X4_own, rm_X4_plate, rm_X4_rest, rm_X4_right, rm_X4_ring, rm_X4_see, rm_X4_set, rm_X4_shortest, rm_X4_surely, rm_X4_take, rm_X4_tell, rm_X4_told, rm_X4_under, rm_X4_width]; omega)) (by first | omega | (simp only [rm_X0_alike, rm_X0_chance, rm_X0_count, rm_X0_end, rm_X0_fault, rm_X0_feed, rm_X0_fit, rm_X0_flow, rm_X0_good, rm_X0_hours, rm_X0_init, rm_X0_keep, rm_X0_law, rm_X0_learnt, rm_X0_look, rm_X0_maze, rm_X0_net, rm_X0_own, rm_X0_plate, rm_X0_rest, rm_X0_right, rm_X0_ring, rm_X0_see, rm_X0_set, rm_X0_shortest, rm_X0_surely, rm_X0_take, rm_X0_tell, rm_X0_told, rm_X0_under, rm_X0_width, rm_X4_alike, rm_X4_chance, rm_X4_count, rm_X4_end, rm_X4_fault, rm_X4_feed, rm_X4_fit, rm_X4_flow, rm_X4_good, rm_X4_hours, rm_X4_init, rm_X4_keep, rm_X4_law, rm_X4_learnt, rm_X4_look, rm_X4_maze, rm_X4_net, rm_X4_own, rm_X4_plate, rm_X4_rest, rm_X4_right, rm_X4_ring, rm_X4_see, rm_X4_set, rm_X4_shortest, rm_X4_surely, rm_X4_take, rm_X4_tell, rm_X4_told, rm_X4_under, rm_X4_width]; omega))
      · cases hf
        exact g_wide (g_pick (show G X _ _ _ _ _ _ from K) [] rfl) (by first | omega | (simp only [rm_X0_alike, rm_X0_chance, rm_X0_count, rm_X0_end, rm_X0_fault, rm_X0_feed, rm_X0_fit, rm_X0_flow, rm_X0_good, rm_X0_hours, rm_X0_init, rm_X0_keep, rm_X0_law, rm_X0_learnt, rm_X0_look, rm_X0_maze, rm_X0_net, rm_X0_own, rm_X0_plate, rm_X0_rest, rm_X0_right, rm_X0_ring, rm_X0_see, rm_X0_set, rm_X0_shortest, rm_X0_surely, rm_X0_take, rm_X0_tell, rm_X0_told, rm_X0_under, rm_X0_width, rm_X4_alike, rm_X4_chance, rm_X4_count, rm_X4_end, rm_X4_fault, rm_X4_feed, rm_X4_fit, rm_X4_flow, rm_X4_good, rm_X4_hours, rm_X4_init, rm_X4_keep, rm_X4_law, rm_X4_learnt, rm_X4_look, rm_X4_maze, rm_X4_net, rm_X4_own, rm_X4_plate, rm_X4_rest, rm_X4_right, rm_X4_ring, rm_X4_see, rm_X4_set, rm_X4_shortest, rm_X4_surely, rm_X4_take, rm_X4_tell, rm_X4_told, rm_X4_under, rm_X4_width]; omega)) (by first | omega | (simp only [rm_X0_alike, rm_X0_chance, rm_X0_count, rm_X0_end, rm_X0_fault, rm_X0_feed, rm_X0_fit, rm_X0_flow, rm_X0_good, rm_X0_hours, rm_X0_init, rm_X0_keep, rm_X0_law, rm_X0_learnt, rm_X0_look, rm_X0_maze, rm_X0_net, rm_X0_own, rm_X0_plate, rm_X0_rest, rm_X0_right, rm_X0_ring, rm_X0_see, rm_X0_set, rm_X0_shortest, rm_X0_surely, rm_X0_take, rm_X0_tell, rm_X0_told, rm_X0_under, rm_X0_width, rm_X4_alike, rm_X4_chance, rm_X4_count, rm_X4_end, rm_X4_fault, rm_X4_feed, rm_X4_fit, rm_X4_flow, rm_X4_good, rm_X4_hours, rm_X4_init, rm_X4_keep, rm_X4_law, rm_X4_learnt, rm_X4_look, rm_X4_maze, rm_X4_net, rm_X4_own, rm_X4_plate, rm_X4_rest, rm_X4_right, rm_X4_ring, rm_X4_see, rm_X4_set, rm_X4_shortest, rm_X4_surely, rm_X4_take, rm_X4_tell, rm_X4_told, rm_X4_under, rm_X4_width]; omega))
    rw [if_neg hc19] at hf
    by_cases hc20 : (v29 &&& (31 : Int32)) = (20 : Int32)
    · rw [if_pos hc20] at hf
      refine g_tblI hX dL_law_33 (20 : Int32) 20 (627) 660 (by decide) (by decide) rfl (by decide) hc20 ?_
      refine g_aload_n hX dL_law_660 (lg_at 1 rfl) ?_
      refine g_aload_n hX dL_law_661 (lg_at 0 rfl) ?_
      refine g_iload_n hX dL_law_662 (lg_at 3 rfl) ?_
      refine g_iconst hX dL_law_663 (1 : Int32) (by decide) ?_
      refine g_iadd hX dL_law_664 ?_
      refine g_iald hX hf dL_law_665 (fun v665 hf => ?_)
      refine g_aload_n hX dL_law_666 (lg_at 0 rfl) ?_
      refine g_iload_n hX dL_law_667 (lg_at 3 rfl) ?_
      refine g_iconst hX dL_law_668 (2 : Int32) (by decide) ?_
      refine g_iadd hX dL_law_669 ?_
      refine g_iald hX hf dL_law_670 (fun v670 hf => ?_)
      obtain ⟨k671, hk671, hf⟩ := ob_some hf
      obtain ⟨⟨v671, A671⟩, hc671, hf⟩ := ob_some hf
      refine h_callV hM [vi v665, vi v670] dL_law_671 cs_SlimeNetLaw_98_1 hk671 (m_X0_net hc671) (by simp only [roomOK, rm_L_law, rm_X0_alike, rm_X0_chance, rm_X0_count, rm_X0_end, rm_X0_fault, rm_X0_feed, rm_X0_fit, rm_X0_flow, rm_X0_good, rm_X0_hours, rm_X0_init, rm_X0_keep, rm_X0_law, rm_X0_learnt, rm_X0_look, rm_X0_maze, rm_X0_net, rm_X0_own, rm_X0_plate, rm_X0_rest, rm_X0_right, rm_X0_ring, rm_X0_see, rm_X0_set, rm_X0_shortest, rm_X0_surely, rm_X0_take, rm_X0_tell, rm_X0_told, rm_X0_under, rm_X0_width, rm_X4_alike, rm_X4_chance, rm_X4_count, rm_X4_end, rm_X4_fault, rm_X4_feed, rm_X4_fit, rm_X4_flow, rm_X4_good, rm_X4_hours, rm_X4_init, rm_X4_keep, rm_X4_law, rm_X4_learnt, rm_X4_look, rm_X4_maze, rm_X4_net, rm_X4_own, rm_X4_plate, rm_X4_rest, rm_X4_right, rm_X4_ring, rm_X4_see, rm_X4_set, rm_X4_shortest, rm_X4_surely, rm_X4_take, rm_X4_tell, rm_X4_told, rm_X4_under, rm_X4_width, Bool.and_eq_true, Nat.ble_eq] at hcs hss ⊢; omega) rfl rfl rfl ?_
      dsimp only at hf
      refine g_aload_n hX dL_law_674 (lg_at 2 rfl) ?_
      refine g_aload_n hX dL_law_675 (lg_at 0 rfl) ?_
      refine g_iload_n hX dL_law_676 (lg_at 3 rfl) ?_
      refine g_iconst hX dL_law_677 (1 : Int32) (by decide) ?_
      refine g_iadd hX dL_law_678 ?_
      refine g_iald hX hf dL_law_679 (fun v679 hf => ?_)
      refine g_aload_n hX dL_law_680 (lg_at 0 rfl) ?_
      refine g_iload_n hX dL_law_681 (lg_at 3 rfl) ?_
      refine g_iconst hX dL_law_682 (2 : Int32) (by decide) ?_
      refine g_iadd hX dL_law_683 ?_
      refine g_iald hX hf dL_law_684 (fun v684 hf => ?_)
      obtain ⟨k685, hk685, hf⟩ := ob_some hf
      obtain ⟨⟨v685, A685⟩, hc685, hf⟩ := ob_some hf
      refine h_callV hM [vi v679, vi v684] dL_law_685 cs_SlimeNetLaw_101_5 hk685 (m_X4_net hc685) (by simp only [roomOK, rm_L_law, rm_X0_alike, rm_X0_chance, rm_X0_count, rm_X0_end, rm_X0_fault, rm_X0_feed, rm_X0_fit, rm_X0_flow, rm_X0_good, rm_X0_hours, rm_X0_init, rm_X0_keep, rm_X0_law, rm_X0_learnt, rm_X0_look, rm_X0_maze, rm_X0_net, rm_X0_own, rm_X0_plate, rm_X0_rest, rm_X0_right, rm_X0_ring, rm_X0_see, rm_X0_set, rm_X0_shortest, rm_X0_surely, rm_X0_take, rm_X0_tell, rm_X0_told, rm_X0_under, rm_X0_width, rm_X4_alike, rm_X4_chance, rm_X4_count, rm_X4_end, rm_X4_fault, rm_X4_feed, rm_X4_fit, rm_X4_flow, rm_X4_good, rm_X4_hours, rm_X4_init, rm_X4_keep, rm_X4_law, rm_X4_learnt, rm_X4_look, rm_X4_maze, rm_X4_net, rm_X4_own, rm_X4_plate, rm_X4_rest, rm_X4_right, rm_X4_ring, rm_X4_see, rm_X4_set, rm_X4_shortest, rm_X4_surely, rm_X4_take, rm_X4_tell, rm_X4_told, rm_X4_under, rm_X4_width, Bool.and_eq_true, Nat.ble_eq] at hcs hss ⊢; omega) rfl rfl rfl ?_
      dsimp only at hf
      refine g_icmp_eq hX dL_law_688 940 hf (by decide) (fun c688 hf => ?_) (fun c688 hf => ?_)
      · exact g_wide (g_pick (w_f_L_law_940 hM hcs hss hf K) [0, 1, 2, 3] rfl) (by first | omega | (simp only [rm_X0_alike, rm_X0_chance, rm_X0_count, rm_X0_end, rm_X0_fault, rm_X0_feed, rm_X0_fit, rm_X0_flow, rm_X0_good, rm_X0_hours, rm_X0_init, rm_X0_keep, rm_X0_law, rm_X0_learnt, rm_X0_look, rm_X0_maze, rm_X0_net, rm_X0_own, rm_X0_plate, rm_X0_rest, rm_X0_right, rm_X0_ring, rm_X0_see, rm_X0_set, rm_X0_shortest, rm_X0_surely, rm_X0_take, rm_X0_tell, rm_X0_told, rm_X0_under, rm_X0_width, rm_X4_alike, rm_X4_chance, rm_X4_count, rm_X4_end, rm_X4_fault, rm_X4_feed, rm_X4_fit, rm_X4_flow, rm_X4_good, rm_X4_hours, rm_X4_init, rm_X4_keep, rm_X4_law, rm_X4_learnt, rm_X4_look, rm_X4_maze, rm_X4_net, rm_X4_own, rm_X4_plate, rm_X4_rest, rm_X4_right, rm_X4_ring, rm_X4_see, rm_X4_set, rm_X4_shortest, rm_X4_surely, rm_X4_take, rm_X4_tell, rm_X4_told, rm_X4_under, rm_X4_width]; omega)) (by first | omega | (simp only [rm_X0_alike, rm_X0_chance, rm_X0_count, rm_X0_end, rm_X0_fault, rm_X0_feed, rm_X0_fit, rm_X0_flow, rm_X0_good, rm_X0_hours, rm_X0_init, rm_X0_keep, rm_X0_law, rm_X0_learnt, rm_X0_look, rm_X0_maze, rm_X0_net, rm_X0_own, rm_X0_plate, rm_X0_rest, rm_X0_right, rm_X0_ring, rm_X0_see, rm_X0_set, rm_X0_shortest, rm_X0_surely, rm_X0_take, rm_X0_tell, rm_X0_told, rm_X0_under, rm_X0_width, rm_X4_alike, rm_X4_chance, rm_X4_count, rm_X4_end, rm_X4_fault, rm_X4_feed, rm_X4_fit, rm_X4_flow, rm_X4_good, rm_X4_hours, rm_X4_init, rm_X4_keep, rm_X4_law, rm_X4_learnt, rm_X4_look, rm_X4_maze, rm_X4_net, rm_X4_own, rm_X4_plate, rm_X4_rest, rm_X4_right, rm_X4_ring, rm_X4_see, rm_X4_set, rm_X4_shortest, rm_X4_surely, rm_X4_take, rm_X4_tell, rm_X4_told, rm_X4_under, rm_X4_width]; omega))
      · cases hf
        exact g_wide (g_pick (show G X _ _ _ _ _ _ from K) [] rfl) (by first | omega | (simp only [rm_X0_alike, rm_X0_chance, rm_X0_count, rm_X0_end, rm_X0_fault, rm_X0_feed, rm_X0_fit, rm_X0_flow, rm_X0_good, rm_X0_hours, rm_X0_init, rm_X0_keep, rm_X0_law, rm_X0_learnt, rm_X0_look, rm_X0_maze, rm_X0_net, rm_X0_own, rm_X0_plate, rm_X0_rest, rm_X0_right, rm_X0_ring, rm_X0_see, rm_X0_set, rm_X0_shortest, rm_X0_surely, rm_X0_take, rm_X0_tell, rm_X0_told, rm_X0_under, rm_X0_width, rm_X4_alike, rm_X4_chance, rm_X4_count, rm_X4_end, rm_X4_fault, rm_X4_feed, rm_X4_fit, rm_X4_flow, rm_X4_good, rm_X4_hours, rm_X4_init, rm_X4_keep, rm_X4_law, rm_X4_learnt, rm_X4_look, rm_X4_maze, rm_X4_net, rm_X4_own, rm_X4_plate, rm_X4_rest, rm_X4_right, rm_X4_ring, rm_X4_see, rm_X4_set, rm_X4_shortest, rm_X4_surely, rm_X4_take, rm_X4_tell, rm_X4_told, rm_X4_under, rm_X4_width]; omega)) (by first | omega | (simp only [rm_X0_alike, rm_X0_chance, rm_X0_count, rm_X0_end, rm_X0_fault, rm_X0_feed, rm_X0_fit, rm_X0_flow, rm_X0_good, rm_X0_hours, rm_X0_init, rm_X0_keep, rm_X0_law, rm_X0_learnt, rm_X0_look, rm_X0_maze, rm_X0_net, rm_X0_own, rm_X0_plate, rm_X0_rest, rm_X0_right, rm_X0_ring, rm_X0_see, rm_X0_set, rm_X0_shortest, rm_X0_surely, rm_X0_take, rm_X0_tell, rm_X0_told, rm_X0_under, rm_X0_width, rm_X4_alike, rm_X4_chance, rm_X4_count, rm_X4_end, rm_X4_fault, rm_X4_feed, rm_X4_fit, rm_X4_flow, rm_X4_good, rm_X4_hours, rm_X4_init, rm_X4_keep, rm_X4_law, rm_X4_learnt, rm_X4_look, rm_X4_maze, rm_X4_net, rm_X4_own, rm_X4_plate, rm_X4_rest, rm_X4_right, rm_X4_ring, rm_X4_see, rm_X4_set, rm_X4_shortest, rm_X4_surely, rm_X4_take, rm_X4_tell, rm_X4_told, rm_X4_under, rm_X4_width]; omega))
    rw [if_neg hc20] at hf
    by_cases hc21 : (v29 &&& (31 : Int32)) = (21 : Int32)
    · rw [if_pos hc21] at hf
      refine g_tblI hX dL_law_33 (21 : Int32) 21 (660) 693 (by decide) (by decide) rfl (by decide) hc21 ?_
      refine g_aload_n hX dL_law_693 (lg_at 1 rfl) ?_
      obtain ⟨k694, hk694, hf⟩ := ob_some hf
      obtain ⟨⟨v694, A694⟩, hc694, hf⟩ := ob_some hf
      refine h_callV hM [] dL_law_694 cs_SlimeNetLaw_102_1 hk694 (m_X0_shortest hc694) (by simp only [roomOK, rm_L_law, rm_X0_alike, rm_X0_chance, rm_X0_count, rm_X0_end, rm_X0_fault, rm_X0_feed, rm_X0_fit, rm_X0_flow, rm_X0_good, rm_X0_hours, rm_X0_init, rm_X0_keep, rm_X0_law, rm_X0_learnt, rm_X0_look, rm_X0_maze, rm_X0_net, rm_X0_own, rm_X0_plate, rm_X0_rest, rm_X0_right, rm_X0_ring, rm_X0_see, rm_X0_set, rm_X0_shortest, rm_X0_surely, rm_X0_take, rm_X0_tell, rm_X0_told, rm_X0_under, rm_X0_width, rm_X4_alike, rm_X4_chance, rm_X4_count, rm_X4_end, rm_X4_fault, rm_X4_feed, rm_X4_fit, rm_X4_flow, rm_X4_good, rm_X4_hours, rm_X4_init, rm_X4_keep, rm_X4_law, rm_X4_learnt, rm_X4_look, rm_X4_maze, rm_X4_net, rm_X4_own, rm_X4_plate, rm_X4_rest, rm_X4_right, rm_X4_ring, rm_X4_see, rm_X4_set, rm_X4_shortest, rm_X4_surely, rm_X4_take, rm_X4_tell, rm_X4_told, rm_X4_under, rm_X4_width, Bool.and_eq_true, Nat.ble_eq] at hcs hss ⊢; omega) rfl rfl rfl ?_
      dsimp only at hf
      refine g_aload_n hX dL_law_697 (lg_at 2 rfl) ?_
      obtain ⟨k698, hk698, hf⟩ := ob_some hf
      obtain ⟨v698, hc698, hf⟩ := ob_some hf
      refine h_callV hM [] dL_law_698 cs_SlimeNetLaw_105_5 hk698 (m_X4_shortest hc698) (by simp only [roomOK, rm_L_law, rm_X0_alike, rm_X0_chance, rm_X0_count, rm_X0_end, rm_X0_fault, rm_X0_feed, rm_X0_fit, rm_X0_flow, rm_X0_good, rm_X0_hours, rm_X0_init, rm_X0_keep, rm_X0_law, rm_X0_learnt, rm_X0_look, rm_X0_maze, rm_X0_net, rm_X0_own, rm_X0_plate, rm_X0_rest, rm_X0_right, rm_X0_ring, rm_X0_see, rm_X0_set, rm_X0_shortest, rm_X0_surely, rm_X0_take, rm_X0_tell, rm_X0_told, rm_X0_under, rm_X0_width, rm_X4_alike, rm_X4_chance, rm_X4_count, rm_X4_end, rm_X4_fault, rm_X4_feed, rm_X4_fit, rm_X4_flow, rm_X4_good, rm_X4_hours, rm_X4_init, rm_X4_keep, rm_X4_law, rm_X4_learnt, rm_X4_look, rm_X4_maze, rm_X4_net, rm_X4_own, rm_X4_plate, rm_X4_rest, rm_X4_right, rm_X4_ring, rm_X4_see, rm_X4_set, rm_X4_shortest, rm_X4_surely, rm_X4_take, rm_X4_tell, rm_X4_told, rm_X4_under, rm_X4_width, Bool.and_eq_true, Nat.ble_eq] at hcs hss ⊢; omega) rfl rfl rfl ?_
      refine g_icmp_eq hX dL_law_701 940 hf (by decide) (fun c701 hf => ?_) (fun c701 hf => ?_)
      · exact g_wide (g_pick (w_f_L_law_940 hM hcs hss hf K) [0, 1, 2, 3] rfl) (by first | omega | (simp only [rm_X0_alike, rm_X0_chance, rm_X0_count, rm_X0_end, rm_X0_fault, rm_X0_feed, rm_X0_fit, rm_X0_flow, rm_X0_good, rm_X0_hours, rm_X0_init, rm_X0_keep, rm_X0_law, rm_X0_learnt, rm_X0_look, rm_X0_maze, rm_X0_net, rm_X0_own, rm_X0_plate, rm_X0_rest, rm_X0_right, rm_X0_ring, rm_X0_see, rm_X0_set, rm_X0_shortest, rm_X0_surely, rm_X0_take, rm_X0_tell, rm_X0_told, rm_X0_under, rm_X0_width, rm_X4_alike, rm_X4_chance, rm_X4_count, rm_X4_end, rm_X4_fault, rm_X4_feed, rm_X4_fit, rm_X4_flow, rm_X4_good, rm_X4_hours, rm_X4_init, rm_X4_keep, rm_X4_law, rm_X4_learnt, rm_X4_look, rm_X4_maze, rm_X4_net, rm_X4_own, rm_X4_plate, rm_X4_rest, rm_X4_right, rm_X4_ring, rm_X4_see, rm_X4_set, rm_X4_shortest, rm_X4_surely, rm_X4_take, rm_X4_tell, rm_X4_told, rm_X4_under, rm_X4_width]; omega)) (by first | omega | (simp only [rm_X0_alike, rm_X0_chance, rm_X0_count, rm_X0_end, rm_X0_fault, rm_X0_feed, rm_X0_fit, rm_X0_flow, rm_X0_good, rm_X0_hours, rm_X0_init, rm_X0_keep, rm_X0_law, rm_X0_learnt, rm_X0_look, rm_X0_maze, rm_X0_net, rm_X0_own, rm_X0_plate, rm_X0_rest, rm_X0_right, rm_X0_ring, rm_X0_see, rm_X0_set, rm_X0_shortest, rm_X0_surely, rm_X0_take, rm_X0_tell, rm_X0_told, rm_X0_under, rm_X0_width, rm_X4_alike, rm_X4_chance, rm_X4_count, rm_X4_end, rm_X4_fault, rm_X4_feed, rm_X4_fit, rm_X4_flow, rm_X4_good, rm_X4_hours, rm_X4_init, rm_X4_keep, rm_X4_law, rm_X4_learnt, rm_X4_look, rm_X4_maze, rm_X4_net, rm_X4_own, rm_X4_plate, rm_X4_rest, rm_X4_right, rm_X4_ring, rm_X4_see, rm_X4_set, rm_X4_shortest, rm_X4_surely, rm_X4_take, rm_X4_tell, rm_X4_told, rm_X4_under, rm_X4_width]; omega))
      · cases hf
        exact g_wide (g_pick (show G X _ _ _ _ _ _ from K) [] rfl) (by first | omega | (simp only [rm_X0_alike, rm_X0_chance, rm_X0_count, rm_X0_end, rm_X0_fault, rm_X0_feed, rm_X0_fit, rm_X0_flow, rm_X0_good, rm_X0_hours, rm_X0_init, rm_X0_keep, rm_X0_law, rm_X0_learnt, rm_X0_look, rm_X0_maze, rm_X0_net, rm_X0_own, rm_X0_plate, rm_X0_rest, rm_X0_right, rm_X0_ring, rm_X0_see, rm_X0_set, rm_X0_shortest, rm_X0_surely, rm_X0_take, rm_X0_tell, rm_X0_told, rm_X0_under, rm_X0_width, rm_X4_alike, rm_X4_chance, rm_X4_count, rm_X4_end, rm_X4_fault, rm_X4_feed, rm_X4_fit, rm_X4_flow, rm_X4_good, rm_X4_hours, rm_X4_init, rm_X4_keep, rm_X4_law, rm_X4_learnt, rm_X4_look, rm_X4_maze, rm_X4_net, rm_X4_own, rm_X4_plate, rm_X4_rest, rm_X4_right, rm_X4_ring, rm_X4_see, rm_X4_set, rm_X4_shortest, rm_X4_surely, rm_X4_take, rm_X4_tell, rm_X4_told, rm_X4_under, rm_X4_width]; omega)) (by first | omega | (simp only [rm_X0_alike, rm_X0_chance, rm_X0_count, rm_X0_end, rm_X0_fault, rm_X0_feed, rm_X0_fit, rm_X0_flow, rm_X0_good, rm_X0_hours, rm_X0_init, rm_X0_keep, rm_X0_law, rm_X0_learnt, rm_X0_look, rm_X0_maze, rm_X0_net, rm_X0_own, rm_X0_plate, rm_X0_rest, rm_X0_right, rm_X0_ring, rm_X0_see, rm_X0_set, rm_X0_shortest, rm_X0_surely, rm_X0_take, rm_X0_tell, rm_X0_told, rm_X0_under, rm_X0_width, rm_X4_alike, rm_X4_chance, rm_X4_count, rm_X4_end, rm_X4_fault, rm_X4_feed, rm_X4_fit, rm_X4_flow, rm_X4_good, rm_X4_hours, rm_X4_init, rm_X4_keep, rm_X4_law, rm_X4_learnt, rm_X4_look, rm_X4_maze, rm_X4_net, rm_X4_own, rm_X4_plate, rm_X4_rest, rm_X4_right, rm_X4_ring, rm_X4_see, rm_X4_set, rm_X4_shortest, rm_X4_surely, rm_X4_take, rm_X4_tell, rm_X4_told, rm_X4_under, rm_X4_width]; omega))
    rw [if_neg hc21] at hf
    by_cases hc22 : (v29 &&& (31 : Int32)) = (22 : Int32)
    · rw [if_pos hc22] at hf
      refine g_tblI hX dL_law_33 (22 : Int32) 22 (673) 706 (by decide) (by decide) rfl (by decide) hc22 ?_
      refine g_aload_n hX dL_law_706 (lg_at 1 rfl) ?_
      refine g_aload_n hX dL_law_707 (lg_at 0 rfl) ?_
      refine g_iload_n hX dL_law_708 (lg_at 3 rfl) ?_
      refine g_iconst hX dL_law_709 (1 : Int32) (by decide) ?_
      refine g_iadd hX dL_law_710 ?_
      refine g_iald hX hf dL_law_711 (fun v711 hf => ?_)
      obtain ⟨k712, hk712, hf⟩ := ob_some hf
      obtain ⟨⟨v712, A712⟩, hc712, hf⟩ := ob_some hf
      refine h_callV hM [vi v711] dL_law_712 cs_SlimeNetLaw_106_1 hk712 (m_X0_good hc712) (by simp only [roomOK, rm_L_law, rm_X0_alike, rm_X0_chance, rm_X0_count, rm_X0_end, rm_X0_fault, rm_X0_feed, rm_X0_fit, rm_X0_flow, rm_X0_good, rm_X0_hours, rm_X0_init, rm_X0_keep, rm_X0_law, rm_X0_learnt, rm_X0_look, rm_X0_maze, rm_X0_net, rm_X0_own, rm_X0_plate, rm_X0_rest, rm_X0_right, rm_X0_ring, rm_X0_see, rm_X0_set, rm_X0_shortest, rm_X0_surely, rm_X0_take, rm_X0_tell, rm_X0_told, rm_X0_under, rm_X0_width, rm_X4_alike, rm_X4_chance, rm_X4_count, rm_X4_end, rm_X4_fault, rm_X4_feed, rm_X4_fit, rm_X4_flow, rm_X4_good, rm_X4_hours, rm_X4_init, rm_X4_keep, rm_X4_law, rm_X4_learnt, rm_X4_look, rm_X4_maze, rm_X4_net, rm_X4_own, rm_X4_plate, rm_X4_rest, rm_X4_right, rm_X4_ring, rm_X4_see, rm_X4_set, rm_X4_shortest, rm_X4_surely, rm_X4_take, rm_X4_tell, rm_X4_told, rm_X4_under, rm_X4_width, Bool.and_eq_true, Nat.ble_eq] at hcs hss ⊢; omega) rfl rfl rfl ?_
      dsimp only at hf
      refine g_aload_n hX dL_law_715 (lg_at 2 rfl) ?_
      refine g_aload_n hX dL_law_716 (lg_at 0 rfl) ?_
      refine g_iload_n hX dL_law_717 (lg_at 3 rfl) ?_
      refine g_iconst hX dL_law_718 (1 : Int32) (by decide) ?_
      refine g_iadd hX dL_law_719 ?_
      refine g_iald hX hf dL_law_720 (fun v720 hf => ?_)
      obtain ⟨k721, hk721, hf⟩ := ob_some hf
      obtain ⟨⟨v721, A721⟩, hc721, hf⟩ := ob_some hf
      refine h_callV hM [vi v720] dL_law_721 cs_SlimeNetLaw_109_5 hk721 (m_X4_good hc721) (by simp only [roomOK, rm_L_law, rm_X0_alike, rm_X0_chance, rm_X0_count, rm_X0_end, rm_X0_fault, rm_X0_feed, rm_X0_fit, rm_X0_flow, rm_X0_good, rm_X0_hours, rm_X0_init, rm_X0_keep, rm_X0_law, rm_X0_learnt, rm_X0_look, rm_X0_maze, rm_X0_net, rm_X0_own, rm_X0_plate, rm_X0_rest, rm_X0_right, rm_X0_ring, rm_X0_see, rm_X0_set, rm_X0_shortest, rm_X0_surely, rm_X0_take, rm_X0_tell, rm_X0_told, rm_X0_under, rm_X0_width, rm_X4_alike, rm_X4_chance, rm_X4_count, rm_X4_end, rm_X4_fault, rm_X4_feed, rm_X4_fit, rm_X4_flow, rm_X4_good, rm_X4_hours, rm_X4_init, rm_X4_keep, rm_X4_law, rm_X4_learnt, rm_X4_look, rm_X4_maze, rm_X4_net, rm_X4_own, rm_X4_plate, rm_X4_rest, rm_X4_right, rm_X4_ring, rm_X4_see, rm_X4_set, rm_X4_shortest, rm_X4_surely, rm_X4_take, rm_X4_tell, rm_X4_told, rm_X4_under, rm_X4_width, Bool.and_eq_true, Nat.ble_eq] at hcs hss ⊢; omega) rfl rfl rfl ?_
      dsimp only at hf
      refine g_icmp_eq hX dL_law_724 940 hf (by decide) (fun c724 hf => ?_) (fun c724 hf => ?_)
      · exact g_wide (g_pick (w_f_L_law_940 hM hcs hss hf K) [0, 1, 2, 3] rfl) (by first | omega | (simp only [rm_X0_alike, rm_X0_chance, rm_X0_count, rm_X0_end, rm_X0_fault, rm_X0_feed, rm_X0_fit, rm_X0_flow, rm_X0_good, rm_X0_hours, rm_X0_init, rm_X0_keep, rm_X0_law, rm_X0_learnt, rm_X0_look, rm_X0_maze, rm_X0_net, rm_X0_own, rm_X0_plate, rm_X0_rest, rm_X0_right, rm_X0_ring, rm_X0_see, rm_X0_set, rm_X0_shortest, rm_X0_surely, rm_X0_take, rm_X0_tell, rm_X0_told, rm_X0_under, rm_X0_width, rm_X4_alike, rm_X4_chance, rm_X4_count, rm_X4_end, rm_X4_fault, rm_X4_feed, rm_X4_fit, rm_X4_flow, rm_X4_good, rm_X4_hours, rm_X4_init, rm_X4_keep, rm_X4_law, rm_X4_learnt, rm_X4_look, rm_X4_maze, rm_X4_net, rm_X4_own, rm_X4_plate, rm_X4_rest, rm_X4_right, rm_X4_ring, rm_X4_see, rm_X4_set, rm_X4_shortest, rm_X4_surely, rm_X4_take, rm_X4_tell, rm_X4_told, rm_X4_under, rm_X4_width]; omega)) (by first | omega | (simp only [rm_X0_alike, rm_X0_chance, rm_X0_count, rm_X0_end, rm_X0_fault, rm_X0_feed, rm_X0_fit, rm_X0_flow, rm_X0_good, rm_X0_hours, rm_X0_init, rm_X0_keep, rm_X0_law, rm_X0_learnt, rm_X0_look, rm_X0_maze, rm_X0_net, rm_X0_own, rm_X0_plate, rm_X0_rest, rm_X0_right, rm_X0_ring, rm_X0_see, rm_X0_set, rm_X0_shortest, rm_X0_surely, rm_X0_take, rm_X0_tell, rm_X0_told, rm_X0_under, rm_X0_width, rm_X4_alike, rm_X4_chance, rm_X4_count, rm_X4_end, rm_X4_fault, rm_X4_feed, rm_X4_fit, rm_X4_flow, rm_X4_good, rm_X4_hours, rm_X4_init, rm_X4_keep, rm_X4_law, rm_X4_learnt, rm_X4_look, rm_X4_maze, rm_X4_net, rm_X4_own, rm_X4_plate, rm_X4_rest, rm_X4_right, rm_X4_ring, rm_X4_see, rm_X4_set, rm_X4_shortest, rm_X4_surely, rm_X4_take, rm_X4_tell, rm_X4_told, rm_X4_under, rm_X4_width]; omega))
      · cases hf
        exact g_wide (g_pick (show G X _ _ _ _ _ _ from K) [] rfl) (by first | omega | (simp only [rm_X0_alike, rm_X0_chance, rm_X0_count, rm_X0_end, rm_X0_fault, rm_X0_feed, rm_X0_fit, rm_X0_flow, rm_X0_good, rm_X0_hours, rm_X0_init, rm_X0_keep, rm_X0_law, rm_X0_learnt, rm_X0_look, rm_X0_maze, rm_X0_net, rm_X0_own, rm_X0_plate, rm_X0_rest, rm_X0_right, rm_X0_ring, rm_X0_see, rm_X0_set, rm_X0_shortest, rm_X0_surely, rm_X0_take, rm_X0_tell, rm_X0_told, rm_X0_under, rm_X0_width, rm_X4_alike, rm_X4_chance, rm_X4_count, rm_X4_end, rm_X4_fault, rm_X4_feed, rm_X4_fit, rm_X4_flow, rm_X4_good, rm_X4_hours, rm_X4_init, rm_X4_keep, rm_X4_law, rm_X4_learnt, rm_X4_look, rm_X4_maze, rm_X4_net, rm_X4_own, rm_X4_plate, rm_X4_rest, rm_X4_right, rm_X4_ring, rm_X4_see, rm_X4_set, rm_X4_shortest, rm_X4_surely, rm_X4_take, rm_X4_tell, rm_X4_told, rm_X4_under, rm_X4_width]; omega)) (by first | omega | (simp only [rm_X0_alike, rm_X0_chance, rm_X0_count, rm_X0_end, rm_X0_fault, rm_X0_feed, rm_X0_fit, rm_X0_flow, rm_X0_good, rm_X0_hours, rm_X0_init, rm_X0_keep, rm_X0_law, rm_X0_learnt, rm_X0_look, rm_X0_maze, rm_X0_net, rm_X0_own, rm_X0_plate, rm_X0_rest, rm_X0_right, rm_X0_ring, rm_X0_see, rm_X0_set, rm_X0_shortest, rm_X0_surely, rm_X0_take, rm_X0_tell, rm_X0_told, rm_X0_under, rm_X0_width, rm_X4_alike, rm_X4_chance, rm_X4_count, rm_X4_end, rm_X4_fault, rm_X4_feed, rm_X4_fit, rm_X4_flow, rm_X4_good, rm_X4_hours, rm_X4_init, rm_X4_keep, rm_X4_law, rm_X4_learnt, rm_X4_look, rm_X4_maze, rm_X4_net, rm_X4_own, rm_X4_plate, rm_X4_rest, rm_X4_right, rm_X4_ring, rm_X4_see, rm_X4_set, rm_X4_shortest, rm_X4_surely, rm_X4_take, rm_X4_tell, rm_X4_told, rm_X4_under, rm_X4_width]; omega))
    rw [if_neg hc22] at hf
    by_cases hc23 : (v29 &&& (31 : Int32)) = (23 : Int32)
    · rw [if_pos hc23] at hf
      refine g_tblI hX dL_law_33 (23 : Int32) 23 (696) 729 (by decide) (by decide) rfl (by decide) hc23 ?_
      refine g_aload_n hX dL_law_729 (lg_at 1 rfl) ?_
      obtain ⟨k730, hk730, hf⟩ := ob_some hf
      obtain ⟨⟨v730, A730⟩, hc730, hf⟩ := ob_some hf
      refine h_callV hM [] dL_law_730 cs_SlimeNetLaw_110_1 hk730 (m_X0_maze hc730) (by simp only [roomOK, rm_L_law, rm_X0_alike, rm_X0_chance, rm_X0_count, rm_X0_end, rm_X0_fault, rm_X0_feed, rm_X0_fit, rm_X0_flow, rm_X0_good, rm_X0_hours, rm_X0_init, rm_X0_keep, rm_X0_law, rm_X0_learnt, rm_X0_look, rm_X0_maze, rm_X0_net, rm_X0_own, rm_X0_plate, rm_X0_rest, rm_X0_right, rm_X0_ring, rm_X0_see, rm_X0_set, rm_X0_shortest, rm_X0_surely, rm_X0_take, rm_X0_tell, rm_X0_told, rm_X0_under, rm_X0_width, rm_X4_alike, rm_X4_chance, rm_X4_count, rm_X4_end, rm_X4_fault, rm_X4_feed, rm_X4_fit, rm_X4_flow, rm_X4_good, rm_X4_hours, rm_X4_init, rm_X4_keep, rm_X4_law, rm_X4_learnt, rm_X4_look, rm_X4_maze, rm_X4_net, rm_X4_own, rm_X4_plate, rm_X4_rest, rm_X4_right, rm_X4_ring, rm_X4_see, rm_X4_set, rm_X4_shortest, rm_X4_surely, rm_X4_take, rm_X4_tell, rm_X4_told, rm_X4_under, rm_X4_width, Bool.and_eq_true, Nat.ble_eq] at hcs hss ⊢; omega) rfl rfl rfl ?_
      dsimp only at hf
      refine g_aload_n hX dL_law_733 (lg_at 2 rfl) ?_
      obtain ⟨k734, hk734, hf⟩ := ob_some hf
      obtain ⟨⟨v734, A734⟩, hc734, hf⟩ := ob_some hf
      refine h_callV hM [] dL_law_734 cs_SlimeNetLaw_113_5 hk734 (m_X4_maze hc734) (by simp only [roomOK, rm_L_law, rm_X0_alike, rm_X0_chance, rm_X0_count, rm_X0_end, rm_X0_fault, rm_X0_feed, rm_X0_fit, rm_X0_flow, rm_X0_good, rm_X0_hours, rm_X0_init, rm_X0_keep, rm_X0_law, rm_X0_learnt, rm_X0_look, rm_X0_maze, rm_X0_net, rm_X0_own, rm_X0_plate, rm_X0_rest, rm_X0_right, rm_X0_ring, rm_X0_see, rm_X0_set, rm_X0_shortest, rm_X0_surely, rm_X0_take, rm_X0_tell, rm_X0_told, rm_X0_under, rm_X0_width, rm_X4_alike, rm_X4_chance, rm_X4_count, rm_X4_end, rm_X4_fault, rm_X4_feed, rm_X4_fit, rm_X4_flow, rm_X4_good, rm_X4_hours, rm_X4_init, rm_X4_keep, rm_X4_law, rm_X4_learnt, rm_X4_look, rm_X4_maze, rm_X4_net, rm_X4_own, rm_X4_plate, rm_X4_rest, rm_X4_right, rm_X4_ring, rm_X4_see, rm_X4_set, rm_X4_shortest, rm_X4_surely, rm_X4_take, rm_X4_tell, rm_X4_told, rm_X4_under, rm_X4_width, Bool.and_eq_true, Nat.ble_eq] at hcs hss ⊢; omega) rfl rfl rfl ?_
      dsimp only at hf
      refine g_icmp_eq hX dL_law_737 940 hf (by decide) (fun c737 hf => ?_) (fun c737 hf => ?_)
      · exact g_wide (g_pick (w_f_L_law_940 hM hcs hss hf K) [0, 1, 2, 3] rfl) (by first | omega | (simp only [rm_X0_alike, rm_X0_chance, rm_X0_count, rm_X0_end, rm_X0_fault, rm_X0_feed, rm_X0_fit, rm_X0_flow, rm_X0_good, rm_X0_hours, rm_X0_init, rm_X0_keep, rm_X0_law, rm_X0_learnt, rm_X0_look, rm_X0_maze, rm_X0_net, rm_X0_own, rm_X0_plate, rm_X0_rest, rm_X0_right, rm_X0_ring, rm_X0_see, rm_X0_set, rm_X0_shortest, rm_X0_surely, rm_X0_take, rm_X0_tell, rm_X0_told, rm_X0_under, rm_X0_width, rm_X4_alike, rm_X4_chance, rm_X4_count, rm_X4_end, rm_X4_fault, rm_X4_feed, rm_X4_fit, rm_X4_flow, rm_X4_good, rm_X4_hours, rm_X4_init, rm_X4_keep, rm_X4_law, rm_X4_learnt, rm_X4_look, rm_X4_maze, rm_X4_net, rm_X4_own, rm_X4_plate, rm_X4_rest, rm_X4_right, rm_X4_ring, rm_X4_see, rm_X4_set, rm_X4_shortest, rm_X4_surely, rm_X4_take, rm_X4_tell, rm_X4_told, rm_X4_under, rm_X4_width]; omega)) (by first | omega | (simp only [rm_X0_alike, rm_X0_chance, rm_X0_count, rm_X0_end, rm_X0_fault, rm_X0_feed, rm_X0_fit, rm_X0_flow, rm_X0_good, rm_X0_hours, rm_X0_init, rm_X0_keep, rm_X0_law, rm_X0_learnt, rm_X0_look, rm_X0_maze, rm_X0_net, rm_X0_own, rm_X0_plate, rm_X0_rest, rm_X0_right, rm_X0_ring, rm_X0_see, rm_X0_set, rm_X0_shortest, rm_X0_surely, rm_X0_take, rm_X0_tell, rm_X0_told, rm_X0_under, rm_X0_width, rm_X4_alike, rm_X4_chance, rm_X4_count, rm_X4_end, rm_X4_fault, rm_X4_feed, rm_X4_fit, rm_X4_flow, rm_X4_good, rm_X4_hours, rm_X4_init, rm_X4_keep, rm_X4_law, rm_X4_learnt, rm_X4_look, rm_X4_maze, rm_X4_net, rm_X4_own, rm_X4_plate, rm_X4_rest, rm_X4_right, rm_X4_ring, rm_X4_see, rm_X4_set, rm_X4_shortest, rm_X4_surely, rm_X4_take, rm_X4_tell, rm_X4_told, rm_X4_under, rm_X4_width]; omega))
      · cases hf
        exact g_wide (g_pick (show G X _ _ _ _ _ _ from K) [] rfl) (by first | omega | (simp only [rm_X0_alike, rm_X0_chance, rm_X0_count, rm_X0_end, rm_X0_fault, rm_X0_feed, rm_X0_fit, rm_X0_flow, rm_X0_good, rm_X0_hours, rm_X0_init, rm_X0_keep, rm_X0_law, rm_X0_learnt, rm_X0_look, rm_X0_maze, rm_X0_net, rm_X0_own, rm_X0_plate, rm_X0_rest, rm_X0_right, rm_X0_ring, rm_X0_see, rm_X0_set, rm_X0_shortest, rm_X0_surely, rm_X0_take, rm_X0_tell, rm_X0_told, rm_X0_under, rm_X0_width, rm_X4_alike, rm_X4_chance, rm_X4_count, rm_X4_end, rm_X4_fault, rm_X4_feed, rm_X4_fit, rm_X4_flow, rm_X4_good, rm_X4_hours, rm_X4_init, rm_X4_keep, rm_X4_law, rm_X4_learnt, rm_X4_look, rm_X4_maze, rm_X4_net, rm_X4_own, rm_X4_plate, rm_X4_rest, rm_X4_right, rm_X4_ring, rm_X4_see, rm_X4_set, rm_X4_shortest, rm_X4_surely, rm_X4_take, rm_X4_tell, rm_X4_told, rm_X4_under, rm_X4_width]; omega)) (by first | omega | (simp only [rm_X0_alike, rm_X0_chance, rm_X0_count, rm_X0_end, rm_X0_fault, rm_X0_feed, rm_X0_fit, rm_X0_flow, rm_X0_good, rm_X0_hours, rm_X0_init, rm_X0_keep, rm_X0_law, rm_X0_learnt, rm_X0_look, rm_X0_maze, rm_X0_net, rm_X0_own, rm_X0_plate, rm_X0_rest, rm_X0_right, rm_X0_ring, rm_X0_see, rm_X0_set, rm_X0_shortest, rm_X0_surely, rm_X0_take, rm_X0_tell, rm_X0_told, rm_X0_under, rm_X0_width, rm_X4_alike, rm_X4_chance, rm_X4_count, rm_X4_end, rm_X4_fault, rm_X4_feed, rm_X4_fit, rm_X4_flow, rm_X4_good, rm_X4_hours, rm_X4_init, rm_X4_keep, rm_X4_law, rm_X4_learnt, rm_X4_look, rm_X4_maze, rm_X4_net, rm_X4_own, rm_X4_plate, rm_X4_rest, rm_X4_right, rm_X4_ring, rm_X4_see, rm_X4_set, rm_X4_shortest, rm_X4_surely, rm_X4_take, rm_X4_tell, rm_X4_told, rm_X4_under, rm_X4_width]; omega))
    rw [if_neg hc23] at hf
    by_cases hc24 : (v29 &&& (31 : Int32)) = (24 : Int32)
    · rw [if_pos hc24] at hf
      refine g_tblI hX dL_law_33 (24 : Int32) 24 (709) 742 (by decide) (by decide) rfl (by decide) hc24 ?_
      refine g_aload_n hX dL_law_742 (lg_at 1 rfl) ?_
      refine g_aload_n hX dL_law_743 (lg_at 0 rfl) ?_
      refine g_iload_n hX dL_law_744 (lg_at 3 rfl) ?_
      refine g_iconst hX dL_law_745 (1 : Int32) (by decide) ?_
      refine g_iadd hX dL_law_746 ?_
      refine g_iald hX hf dL_law_747 (fun v747 hf => ?_)
      refine g_aload_n hX dL_law_748 (lg_at 0 rfl) ?_
      refine g_iload_n hX dL_law_749 (lg_at 3 rfl) ?_
      refine g_iconst hX dL_law_750 (2 : Int32) (by decide) ?_
      refine g_iadd hX dL_law_751 ?_
      refine g_iald hX hf dL_law_752 (fun v752 hf => ?_)
      refine g_aload_n hX dL_law_753 (lg_at 0 rfl) ?_
      refine g_iload_n hX dL_law_754 (lg_at 3 rfl) ?_
      refine g_iconst hX dL_law_755 (3 : Int32) (by decide) ?_
      refine g_iadd hX dL_law_756 ?_
      refine g_iald hX hf dL_law_757 (fun v757 hf => ?_)
      obtain ⟨k758, hk758, hf⟩ := ob_some hf
      obtain ⟨⟨v758, A758⟩, hc758, hf⟩ := ob_some hf
      refine h_callV hM [vi v747, vi v752, vi v757] dL_law_758 cs_SlimeNetLaw_114_1 hk758 (m_X0_see hc758) (by simp only [roomOK, rm_L_law, rm_X0_alike, rm_X0_chance, rm_X0_count, rm_X0_end, rm_X0_fault, rm_X0_feed, rm_X0_fit, rm_X0_flow, rm_X0_good, rm_X0_hours, rm_X0_init, rm_X0_keep, rm_X0_law, rm_X0_learnt, rm_X0_look, rm_X0_maze, rm_X0_net, rm_X0_own, rm_X0_plate, rm_X0_rest, rm_X0_right, rm_X0_ring, rm_X0_see, rm_X0_set, rm_X0_shortest, rm_X0_surely, rm_X0_take, rm_X0_tell, rm_X0_told, rm_X0_under, rm_X0_width, rm_X4_alike, rm_X4_chance, rm_X4_count, rm_X4_end, rm_X4_fault, rm_X4_feed, rm_X4_fit, rm_X4_flow, rm_X4_good, rm_X4_hours, rm_X4_init, rm_X4_keep, rm_X4_law, rm_X4_learnt, rm_X4_look, rm_X4_maze, rm_X4_net, rm_X4_own, rm_X4_plate, rm_X4_rest, rm_X4_right, rm_X4_ring, rm_X4_see, rm_X4_set, rm_X4_shortest, rm_X4_surely, rm_X4_take, rm_X4_tell, rm_X4_told, rm_X4_under, rm_X4_width, Bool.and_eq_true, Nat.ble_eq] at hcs hss ⊢; omega) rfl rfl rfl ?_
      dsimp only at hf
      refine g_aload_n hX dL_law_761 (lg_at 2 rfl) ?_
      refine g_aload_n hX dL_law_762 (lg_at 0 rfl) ?_
      refine g_iload_n hX dL_law_763 (lg_at 3 rfl) ?_
      refine g_iconst hX dL_law_764 (1 : Int32) (by decide) ?_
      refine g_iadd hX dL_law_765 ?_
      refine g_iald hX hf dL_law_766 (fun v766 hf => ?_)
      refine g_aload_n hX dL_law_767 (lg_at 0 rfl) ?_
      refine g_iload_n hX dL_law_768 (lg_at 3 rfl) ?_
      refine g_iconst hX dL_law_769 (2 : Int32) (by decide) ?_
      refine g_iadd hX dL_law_770 ?_
      refine g_iald hX hf dL_law_771 (fun v771 hf => ?_)
      refine g_aload_n hX dL_law_772 (lg_at 0 rfl) ?_
      refine g_iload_n hX dL_law_773 (lg_at 3 rfl) ?_
      refine g_iconst hX dL_law_774 (3 : Int32) (by decide) ?_
      refine g_iadd hX dL_law_775 ?_
      refine g_iald hX hf dL_law_776 (fun v776 hf => ?_)
      obtain ⟨k777, hk777, hf⟩ := ob_some hf
      obtain ⟨⟨v777, A777⟩, hc777, hf⟩ := ob_some hf
      refine h_callV hM [vi v766, vi v771, vi v776] dL_law_777 cs_SlimeNetLaw_118_5 hk777 (m_X4_see hc777) (by simp only [roomOK, rm_L_law, rm_X0_alike, rm_X0_chance, rm_X0_count, rm_X0_end, rm_X0_fault, rm_X0_feed, rm_X0_fit, rm_X0_flow, rm_X0_good, rm_X0_hours, rm_X0_init, rm_X0_keep, rm_X0_law, rm_X0_learnt, rm_X0_look, rm_X0_maze, rm_X0_net, rm_X0_own, rm_X0_plate, rm_X0_rest, rm_X0_right, rm_X0_ring, rm_X0_see, rm_X0_set, rm_X0_shortest, rm_X0_surely, rm_X0_take, rm_X0_tell, rm_X0_told, rm_X0_under, rm_X0_width, rm_X4_alike, rm_X4_chance, rm_X4_count, rm_X4_end, rm_X4_fault, rm_X4_feed, rm_X4_fit, rm_X4_flow, rm_X4_good, rm_X4_hours, rm_X4_init, rm_X4_keep, rm_X4_law, rm_X4_learnt, rm_X4_look, rm_X4_maze, rm_X4_net, rm_X4_own, rm_X4_plate, rm_X4_rest, rm_X4_right, rm_X4_ring, rm_X4_see, rm_X4_set, rm_X4_shortest, rm_X4_surely, rm_X4_take, rm_X4_tell, rm_X4_told, rm_X4_under, rm_X4_width, Bool.and_eq_true, Nat.ble_eq] at hcs hss ⊢; omega) rfl rfl rfl ?_
      dsimp only at hf
      refine g_icmp_eq hX dL_law_780 940 hf (by decide) (fun c780 hf => ?_) (fun c780 hf => ?_)
      · exact g_wide (g_pick (w_f_L_law_940 hM hcs hss hf K) [0, 1, 2, 3] rfl) (by first | omega | (simp only [rm_X0_alike, rm_X0_chance, rm_X0_count, rm_X0_end, rm_X0_fault, rm_X0_feed, rm_X0_fit, rm_X0_flow, rm_X0_good, rm_X0_hours, rm_X0_init, rm_X0_keep, rm_X0_law, rm_X0_learnt, rm_X0_look, rm_X0_maze, rm_X0_net, rm_X0_own, rm_X0_plate, rm_X0_rest, rm_X0_right, rm_X0_ring, rm_X0_see, rm_X0_set, rm_X0_shortest, rm_X0_surely, rm_X0_take, rm_X0_tell, rm_X0_told, rm_X0_under, rm_X0_width, rm_X4_alike, rm_X4_chance, rm_X4_count, rm_X4_end, rm_X4_fault, rm_X4_feed, rm_X4_fit, rm_X4_flow, rm_X4_good, rm_X4_hours, rm_X4_init, rm_X4_keep, rm_X4_law, rm_X4_learnt, rm_X4_look, rm_X4_maze, rm_X4_net, rm_X4_own, rm_X4_plate, rm_X4_rest, rm_X4_right, rm_X4_ring, rm_X4_see, rm_X4_set, rm_X4_shortest, rm_X4_surely, rm_X4_take, rm_X4_tell, rm_X4_told, rm_X4_under, rm_X4_width]; omega)) (by first | omega | (simp only [rm_X0_alike, rm_X0_chance, rm_X0_count, rm_X0_end, rm_X0_fault, rm_X0_feed, rm_X0_fit, rm_X0_flow, rm_X0_good, rm_X0_hours, rm_X0_init, rm_X0_keep, rm_X0_law, rm_X0_learnt, rm_X0_look, rm_X0_maze, rm_X0_net, rm_X0_own, rm_X0_plate, rm_X0_rest, rm_X0_right, rm_X0_ring, rm_X0_see, rm_X0_set, rm_X0_shortest, rm_X0_surely, rm_X0_take, rm_X0_tell, rm_X0_told, rm_X0_under, rm_X0_width, rm_X4_alike, rm_X4_chance, rm_X4_count, rm_X4_end, rm_X4_fault, rm_X4_feed, rm_X4_fit, rm_X4_flow, rm_X4_good, rm_X4_hours, rm_X4_init, rm_X4_keep, rm_X4_law, rm_X4_learnt, rm_X4_look, rm_X4_maze, rm_X4_net, rm_X4_own, rm_X4_plate, rm_X4_rest, rm_X4_right, rm_X4_ring, rm_X4_see, rm_X4_set, rm_X4_shortest, rm_X4_surely, rm_X4_take, rm_X4_tell, rm_X4_told, rm_X4_under, rm_X4_width]; omega))
      · cases hf
        exact g_wide (g_pick (show G X _ _ _ _ _ _ from K) [] rfl) (by first | omega | (simp only [rm_X0_alike, rm_X0_chance, rm_X0_count, rm_X0_end, rm_X0_fault, rm_X0_feed, rm_X0_fit, rm_X0_flow, rm_X0_good, rm_X0_hours, rm_X0_init, rm_X0_keep, rm_X0_law, rm_X0_learnt, rm_X0_look, rm_X0_maze, rm_X0_net, rm_X0_own, rm_X0_plate, rm_X0_rest, rm_X0_right, rm_X0_ring, rm_X0_see, rm_X0_set, rm_X0_shortest, rm_X0_surely, rm_X0_take, rm_X0_tell, rm_X0_told, rm_X0_under, rm_X0_width, rm_X4_alike, rm_X4_chance, rm_X4_count, rm_X4_end, rm_X4_fault, rm_X4_feed, rm_X4_fit, rm_X4_flow, rm_X4_good, rm_X4_hours, rm_X4_init, rm_X4_keep, rm_X4_law, rm_X4_learnt, rm_X4_look, rm_X4_maze, rm_X4_net, rm_X4_own, rm_X4_plate, rm_X4_rest, rm_X4_right, rm_X4_ring, rm_X4_see, rm_X4_set, rm_X4_shortest, rm_X4_surely, rm_X4_take, rm_X4_tell, rm_X4_told, rm_X4_under, rm_X4_width]; omega)) (by first | omega | (simp only [rm_X0_alike, rm_X0_chance, rm_X0_count, rm_X0_end, rm_X0_fault, rm_X0_feed, rm_X0_fit, rm_X0_flow, rm_X0_good, rm_X0_hours, rm_X0_init, rm_X0_keep, rm_X0_law, rm_X0_learnt, rm_X0_look, rm_X0_maze, rm_X0_net, rm_X0_own, rm_X0_plate, rm_X0_rest, rm_X0_right, rm_X0_ring, rm_X0_see, rm_X0_set, rm_X0_shortest, rm_X0_surely, rm_X0_take, rm_X0_tell, rm_X0_told, rm_X0_under, rm_X0_width, rm_X4_alike, rm_X4_chance, rm_X4_count, rm_X4_end, rm_X4_fault, rm_X4_feed, rm_X4_fit, rm_X4_flow, rm_X4_good, rm_X4_hours, rm_X4_init, rm_X4_keep, rm_X4_law, rm_X4_learnt, rm_X4_look, rm_X4_maze, rm_X4_net, rm_X4_own, rm_X4_plate, rm_X4_rest, rm_X4_right, rm_X4_ring, rm_X4_see, rm_X4_set, rm_X4_shortest, rm_X4_surely, rm_X4_take, rm_X4_tell, rm_X4_told, rm_X4_under, rm_X4_width]; omega))
    rw [if_neg hc24] at hf
    by_cases hc25 : (v29 &&& (31 : Int32)) = (25 : Int32)
    · rw [if_pos hc25] at hf
      refine g_tblI hX dL_law_33 (25 : Int32) 25 (752) 785 (by decide) (by decide) rfl (by decide) hc25 ?_
      refine g_aload_n hX dL_law_785 (lg_at 1 rfl) ?_
      refine g_aload_n hX dL_law_786 (lg_at 0 rfl) ?_
      refine g_iload_n hX dL_law_787 (lg_at 3 rfl) ?_
      refine g_iconst hX dL_law_788 (1 : Int32) (by decide) ?_
      refine g_iadd hX dL_law_789 ?_
      refine g_iald hX hf dL_law_790 (fun v790 hf => ?_)
      refine g_aload_n hX dL_law_791 (lg_at 0 rfl) ?_
      refine g_iload_n hX dL_law_792 (lg_at 3 rfl) ?_
      refine g_iconst hX dL_law_793 (2 : Int32) (by decide) ?_
      refine g_iadd hX dL_law_794 ?_
      refine g_iald hX hf dL_law_795 (fun v795 hf => ?_)
      refine g_aload_n hX dL_law_796 (lg_at 0 rfl) ?_
      refine g_iload_n hX dL_law_797 (lg_at 3 rfl) ?_
      refine g_iconst hX dL_law_798 (3 : Int32) (by decide) ?_
      refine g_iadd hX dL_law_799 ?_
      refine g_iald hX hf dL_law_800 (fun v800 hf => ?_)
      obtain ⟨k801, hk801, hf⟩ := ob_some hf
      obtain ⟨⟨v801, A801⟩, hc801, hf⟩ := ob_some hf
      refine h_callV hM [vi v790, vi v795, vi v800] dL_law_801 cs_SlimeNetLaw_119_1 hk801 (m_X0_right hc801) (by simp only [roomOK, rm_L_law, rm_X0_alike, rm_X0_chance, rm_X0_count, rm_X0_end, rm_X0_fault, rm_X0_feed, rm_X0_fit, rm_X0_flow, rm_X0_good, rm_X0_hours, rm_X0_init, rm_X0_keep, rm_X0_law, rm_X0_learnt, rm_X0_look, rm_X0_maze, rm_X0_net, rm_X0_own, rm_X0_plate, rm_X0_rest, rm_X0_right, rm_X0_ring, rm_X0_see, rm_X0_set, rm_X0_shortest, rm_X0_surely, rm_X0_take, rm_X0_tell, rm_X0_told, rm_X0_under, rm_X0_width, rm_X4_alike, rm_X4_chance, rm_X4_count, rm_X4_end, rm_X4_fault, rm_X4_feed, rm_X4_fit, rm_X4_flow, rm_X4_good, rm_X4_hours, rm_X4_init, rm_X4_keep, rm_X4_law, rm_X4_learnt, rm_X4_look, rm_X4_maze, rm_X4_net, rm_X4_own, rm_X4_plate, rm_X4_rest, rm_X4_right, rm_X4_ring, rm_X4_see, rm_X4_set, rm_X4_shortest, rm_X4_surely, rm_X4_take, rm_X4_tell, rm_X4_told, rm_X4_under, rm_X4_width, Bool.and_eq_true, Nat.ble_eq] at hcs hss ⊢; omega) rfl rfl rfl ?_
      dsimp only at hf
      refine g_aload_n hX dL_law_804 (lg_at 2 rfl) ?_
      refine g_aload_n hX dL_law_805 (lg_at 0 rfl) ?_
      refine g_iload_n hX dL_law_806 (lg_at 3 rfl) ?_
      refine g_iconst hX dL_law_807 (1 : Int32) (by decide) ?_
      refine g_iadd hX dL_law_808 ?_
      refine g_iald hX hf dL_law_809 (fun v809 hf => ?_)
      refine g_aload_n hX dL_law_810 (lg_at 0 rfl) ?_
      refine g_iload_n hX dL_law_811 (lg_at 3 rfl) ?_
      refine g_iconst hX dL_law_812 (2 : Int32) (by decide) ?_
      refine g_iadd hX dL_law_813 ?_
      refine g_iald hX hf dL_law_814 (fun v814 hf => ?_)
      refine g_aload_n hX dL_law_815 (lg_at 0 rfl) ?_
      refine g_iload_n hX dL_law_816 (lg_at 3 rfl) ?_
      refine g_iconst hX dL_law_817 (3 : Int32) (by decide) ?_
      refine g_iadd hX dL_law_818 ?_
      refine g_iald hX hf dL_law_819 (fun v819 hf => ?_)
      obtain ⟨k820, hk820, hf⟩ := ob_some hf
      obtain ⟨⟨v820, A820⟩, hc820, hf⟩ := ob_some hf
      refine h_callV hM [vi v809, vi v814, vi v819] dL_law_820 cs_SlimeNetLaw_122_5 hk820 (m_X4_right hc820) (by simp only [roomOK, rm_L_law, rm_X0_alike, rm_X0_chance, rm_X0_count, rm_X0_end, rm_X0_fault, rm_X0_feed, rm_X0_fit, rm_X0_flow, rm_X0_good, rm_X0_hours, rm_X0_init, rm_X0_keep, rm_X0_law, rm_X0_learnt, rm_X0_look, rm_X0_maze, rm_X0_net, rm_X0_own, rm_X0_plate, rm_X0_rest, rm_X0_right, rm_X0_ring, rm_X0_see, rm_X0_set, rm_X0_shortest, rm_X0_surely, rm_X0_take, rm_X0_tell, rm_X0_told, rm_X0_under, rm_X0_width, rm_X4_alike, rm_X4_chance, rm_X4_count, rm_X4_end, rm_X4_fault, rm_X4_feed, rm_X4_fit, rm_X4_flow, rm_X4_good, rm_X4_hours, rm_X4_init, rm_X4_keep, rm_X4_law, rm_X4_learnt, rm_X4_look, rm_X4_maze, rm_X4_net, rm_X4_own, rm_X4_plate, rm_X4_rest, rm_X4_right, rm_X4_ring, rm_X4_see, rm_X4_set, rm_X4_shortest, rm_X4_surely, rm_X4_take, rm_X4_tell, rm_X4_told, rm_X4_under, rm_X4_width, Bool.and_eq_true, Nat.ble_eq] at hcs hss ⊢; omega) rfl rfl rfl ?_
      dsimp only at hf
      refine g_icmp_eq hX dL_law_823 940 hf (by decide) (fun c823 hf => ?_) (fun c823 hf => ?_)
      · exact g_wide (g_pick (w_f_L_law_940 hM hcs hss hf K) [0, 1, 2, 3] rfl) (by first | omega | (simp only [rm_X0_alike, rm_X0_chance, rm_X0_count, rm_X0_end, rm_X0_fault, rm_X0_feed, rm_X0_fit, rm_X0_flow, rm_X0_good, rm_X0_hours, rm_X0_init, rm_X0_keep, rm_X0_law, rm_X0_learnt, rm_X0_look, rm_X0_maze, rm_X0_net, rm_X0_own, rm_X0_plate, rm_X0_rest, rm_X0_right, rm_X0_ring, rm_X0_see, rm_X0_set, rm_X0_shortest, rm_X0_surely, rm_X0_take, rm_X0_tell, rm_X0_told, rm_X0_under, rm_X0_width, rm_X4_alike, rm_X4_chance, rm_X4_count, rm_X4_end, rm_X4_fault, rm_X4_feed, rm_X4_fit, rm_X4_flow, rm_X4_good, rm_X4_hours, rm_X4_init, rm_X4_keep, rm_X4_law, rm_X4_learnt, rm_X4_look, rm_X4_maze, rm_X4_net, rm_X4_own, rm_X4_plate, rm_X4_rest, rm_X4_right, rm_X4_ring, rm_X4_see, rm_X4_set, rm_X4_shortest, rm_X4_surely, rm_X4_take, rm_X4_tell, rm_X4_told, rm_X4_under, rm_X4_width]; omega)) (by first | omega | (simp only [rm_X0_alike, rm_X0_chance, rm_X0_count, rm_X0_end, rm_X0_fault, rm_X0_feed, rm_X0_fit, rm_X0_flow, rm_X0_good, rm_X0_hours, rm_X0_init, rm_X0_keep, rm_X0_law, rm_X0_learnt, rm_X0_look, rm_X0_maze, rm_X0_net, rm_X0_own, rm_X0_plate, rm_X0_rest, rm_X0_right, rm_X0_ring, rm_X0_see, rm_X0_set, rm_X0_shortest, rm_X0_surely, rm_X0_take, rm_X0_tell, rm_X0_told, rm_X0_under, rm_X0_width, rm_X4_alike, rm_X4_chance, rm_X4_count, rm_X4_end, rm_X4_fault, rm_X4_feed, rm_X4_fit, rm_X4_flow, rm_X4_good, rm_X4_hours, rm_X4_init, rm_X4_keep, rm_X4_law, rm_X4_learnt, rm_X4_look, rm_X4_maze, rm_X4_net, rm_X4_own, rm_X4_plate, rm_X4_rest, rm_X4_right, rm_X4_ring, rm_X4_see, rm_X4_set, rm_X4_shortest, rm_X4_surely, rm_X4_take, rm_X4_tell, rm_X4_told, rm_X4_under, rm_X4_width]; omega))
      · cases hf
        exact g_wide (g_pick (show G X _ _ _ _ _ _ from K) [] rfl) (by first | omega | (simp only [rm_X0_alike, rm_X0_chance, rm_X0_count, rm_X0_end, rm_X0_fault, rm_X0_feed, rm_X0_fit, rm_X0_flow, rm_X0_good, rm_X0_hours, rm_X0_init, rm_X0_keep, rm_X0_law, rm_X0_learnt, rm_X0_look, rm_X0_maze, rm_X0_net, rm_X0_own, rm_X0_plate, rm_X0_rest, rm_X0_right, rm_X0_ring, rm_X0_see, rm_X0_set, rm_X0_shortest, rm_X0_surely, rm_X0_take, rm_X0_tell, rm_X0_told, rm_X0_under, rm_X0_width, rm_X4_alike, rm_X4_chance, rm_X4_count, rm_X4_end, rm_X4_fault, rm_X4_feed, rm_X4_fit, rm_X4_flow, rm_X4_good, rm_X4_hours, rm_X4_init, rm_X4_keep, rm_X4_law, rm_X4_learnt, rm_X4_look, rm_X4_maze, rm_X4_net, rm_X4_own, rm_X4_plate, rm_X4_rest, rm_X4_right, rm_X4_ring, rm_X4_see, rm_X4_set, rm_X4_shortest, rm_X4_surely, rm_X4_take, rm_X4_tell, rm_X4_told, rm_X4_under, rm_X4_width]; omega)) (by first | omega | (simp only [rm_X0_alike, rm_X0_chance, rm_X0_count, rm_X0_end, rm_X0_fault, rm_X0_feed, rm_X0_fit, rm_X0_flow, rm_X0_good, rm_X0_hours, rm_X0_init, rm_X0_keep, rm_X0_law, rm_X0_learnt, rm_X0_look, rm_X0_maze, rm_X0_net, rm_X0_own, rm_X0_plate, rm_X0_rest, rm_X0_right, rm_X0_ring, rm_X0_see, rm_X0_set, rm_X0_shortest, rm_X0_surely, rm_X0_take, rm_X0_tell, rm_X0_told, rm_X0_under, rm_X0_width, rm_X4_alike, rm_X4_chance, rm_X4_count, rm_X4_end, rm_X4_fault, rm_X4_feed, rm_X4_fit, rm_X4_flow, rm_X4_good, rm_X4_hours, rm_X4_init, rm_X4_keep, rm_X4_law, rm_X4_learnt, rm_X4_look, rm_X4_maze, rm_X4_net, rm_X4_own, rm_X4_plate, rm_X4_rest, rm_X4_right, rm_X4_ring, rm_X4_see, rm_X4_set, rm_X4_shortest, rm_X4_surely, rm_X4_take, rm_X4_tell, rm_X4_told, rm_X4_under, rm_X4_width]; omega))
    rw [if_neg hc25] at hf
    by_cases hc26 : (v29 &&& (31 : Int32)) = (26 : Int32)
    · rw [if_pos hc26] at hf
      refine g_tblI hX dL_law_33 (26 : Int32) 26 (795) 828 (by decide) (by decide) rfl (by decide) hc26 ?_
      refine g_aload_n hX dL_law_828 (lg_at 1 rfl) ?_
      refine g_aload_n hX dL_law_829 (lg_at 0 rfl) ?_
      refine g_iload_n hX dL_law_830 (lg_at 3 rfl) ?_
      refine g_iconst hX dL_law_831 (1 : Int32) (by decide) ?_
      refine g_iadd hX dL_law_832 ?_
      refine g_iald hX hf dL_law_833 (fun v833 hf => ?_)
      refine g_aload_n hX dL_law_834 (lg_at 0 rfl) ?_
      refine g_iload_n hX dL_law_835 (lg_at 3 rfl) ?_
      refine g_iconst hX dL_law_836 (2 : Int32) (by decide) ?_
      refine g_iadd hX dL_law_837 ?_
      refine g_iald hX hf dL_law_838 (fun v838 hf => ?_)
      obtain ⟨k839, hk839, hf⟩ := ob_some hf
      obtain ⟨⟨v839, A839⟩, hc839, hf⟩ := ob_some hf
      refine h_callV hM [vi v833, vi v838] dL_law_839 cs_SlimeNetLaw_123_1 hk839 (m_X0_fit hc839) (by simp only [roomOK, rm_L_law, rm_X0_alike, rm_X0_chance, rm_X0_count, rm_X0_end, rm_X0_fault, rm_X0_feed, rm_X0_fit, rm_X0_flow, rm_X0_good, rm_X0_hours, rm_X0_init, rm_X0_keep, rm_X0_law, rm_X0_learnt, rm_X0_look, rm_X0_maze, rm_X0_net, rm_X0_own, rm_X0_plate, rm_X0_rest, rm_X0_right, rm_X0_ring, rm_X0_see, rm_X0_set, rm_X0_shortest, rm_X0_surely, rm_X0_take, rm_X0_tell, rm_X0_told, rm_X0_under, rm_X0_width, rm_X4_alike, rm_X4_chance, rm_X4_count, rm_X4_end, rm_X4_fault, rm_X4_feed, rm_X4_fit, rm_X4_flow, rm_X4_good, rm_X4_hours, rm_X4_init, rm_X4_keep, rm_X4_law, rm_X4_learnt, rm_X4_look, rm_X4_maze, rm_X4_net, rm_X4_own, rm_X4_plate, rm_X4_rest, rm_X4_right, rm_X4_ring, rm_X4_see, rm_X4_set, rm_X4_shortest, rm_X4_surely, rm_X4_take, rm_X4_tell, rm_X4_told, rm_X4_under, rm_X4_width, Bool.and_eq_true, Nat.ble_eq] at hcs hss ⊢; omega) rfl rfl rfl ?_
      dsimp only at hf
      refine g_aload_n hX dL_law_842 (lg_at 2 rfl) ?_
      refine g_aload_n hX dL_law_843 (lg_at 0 rfl) ?_
      refine g_iload_n hX dL_law_844 (lg_at 3 rfl) ?_
      refine g_iconst hX dL_law_845 (1 : Int32) (by decide) ?_
      refine g_iadd hX dL_law_846 ?_
      refine g_iald hX hf dL_law_847 (fun v847 hf => ?_)
      refine g_aload_n hX dL_law_848 (lg_at 0 rfl) ?_
      refine g_iload_n hX dL_law_849 (lg_at 3 rfl) ?_
      refine g_iconst hX dL_law_850 (2 : Int32) (by decide) ?_
      refine g_iadd hX dL_law_851 ?_
      refine g_iald hX hf dL_law_852 (fun v852 hf => ?_)
      obtain ⟨k853, hk853, hf⟩ := ob_some hf
      obtain ⟨⟨v853, A853⟩, hc853, hf⟩ := ob_some hf
      refine h_callV hM [vi v847, vi v852] dL_law_853 cs_SlimeNetLaw_126_5 hk853 (m_X4_fit hc853) (by simp only [roomOK, rm_L_law, rm_X0_alike, rm_X0_chance, rm_X0_count, rm_X0_end, rm_X0_fault, rm_X0_feed, rm_X0_fit, rm_X0_flow, rm_X0_good, rm_X0_hours, rm_X0_init, rm_X0_keep, rm_X0_law, rm_X0_learnt, rm_X0_look, rm_X0_maze, rm_X0_net, rm_X0_own, rm_X0_plate, rm_X0_rest, rm_X0_right, rm_X0_ring, rm_X0_see, rm_X0_set, rm_X0_shortest, rm_X0_surely, rm_X0_take, rm_X0_tell, rm_X0_told, rm_X0_under, rm_X0_width, rm_X4_alike, rm_X4_chance, rm_X4_count, rm_X4_end, rm_X4_fault, rm_X4_feed, rm_X4_fit, rm_X4_flow, rm_X4_good, rm_X4_hours, rm_X4_init, rm_X4_keep, rm_X4_law, rm_X4_learnt, rm_X4_look, rm_X4_maze, rm_X4_net, rm_X4_own, rm_X4_plate, rm_X4_rest, rm_X4_right, rm_X4_ring, rm_X4_see, rm_X4_set, rm_X4_shortest, rm_X4_surely, rm_X4_take, rm_X4_tell, rm_X4_told, rm_X4_under, rm_X4_width, Bool.and_eq_true, Nat.ble_eq] at hcs hss ⊢; omega) rfl rfl rfl ?_
      dsimp only at hf
      refine g_icmp_eq hX dL_law_856 940 hf (by decide) (fun c856 hf => ?_) (fun c856 hf => ?_)
      · exact g_wide (g_pick (w_f_L_law_940 hM hcs hss hf K) [0, 1, 2, 3] rfl) (by first | omega | (simp only [rm_X0_alike, rm_X0_chance, rm_X0_count, rm_X0_end, rm_X0_fault, rm_X0_feed, rm_X0_fit, rm_X0_flow, rm_X0_good, rm_X0_hours, rm_X0_init, rm_X0_keep, rm_X0_law, rm_X0_learnt, rm_X0_look, rm_X0_maze, rm_X0_net, rm_X0_own, rm_X0_plate, rm_X0_rest, rm_X0_right, rm_X0_ring, rm_X0_see, rm_X0_set, rm_X0_shortest, rm_X0_surely, rm_X0_take, rm_X0_tell, rm_X0_told, rm_X0_under, rm_X0_width, rm_X4_alike, rm_X4_chance, rm_X4_count, rm_X4_end, rm_X4_fault, rm_X4_feed, rm_X4_fit, rm_X4_flow, rm_X4_good, rm_X4_hours, rm_X4_init, rm_X4_keep, rm_X4_law, rm_X4_learnt, rm_X4_look, rm_X4_maze, rm_X4_net, rm_X4_own, rm_X4_plate, rm_X4_rest, rm_X4_right, rm_X4_ring, rm_X4_see, rm_X4_set, rm_X4_shortest, rm_X4_surely, rm_X4_take, rm_X4_tell, rm_X4_told, rm_X4_under, rm_X4_width]; omega)) (by first | omega | (simp only [rm_X0_alike, rm_X0_chance, rm_X0_count, rm_X0_end, rm_X0_fault, rm_X0_feed, rm_X0_fit, rm_X0_flow, rm_X0_good, rm_X0_hours, rm_X0_init, rm_X0_keep, rm_X0_law, rm_X0_learnt, rm_X0_look, rm_X0_maze, rm_X0_net, rm_X0_own, rm_X0_plate, rm_X0_rest, rm_X0_right, rm_X0_ring, rm_X0_see, rm_X0_set, rm_X0_shortest, rm_X0_surely, rm_X0_take, rm_X0_tell, rm_X0_told, rm_X0_under, rm_X0_width, rm_X4_alike, rm_X4_chance, rm_X4_count, rm_X4_end, rm_X4_fault, rm_X4_feed, rm_X4_fit, rm_X4_flow, rm_X4_good, rm_X4_hours, rm_X4_init, rm_X4_keep, rm_X4_law, rm_X4_learnt, rm_X4_look, rm_X4_maze, rm_X4_net, rm_X4_own, rm_X4_plate, rm_X4_rest, rm_X4_right, rm_X4_ring, rm_X4_see, rm_X4_set, rm_X4_shortest, rm_X4_surely, rm_X4_take, rm_X4_tell, rm_X4_told, rm_X4_under, rm_X4_width]; omega))
      · cases hf
        exact g_wide (g_pick (show G X _ _ _ _ _ _ from K) [] rfl) (by first | omega | (simp only [rm_X0_alike, rm_X0_chance, rm_X0_count, rm_X0_end, rm_X0_fault, rm_X0_feed, rm_X0_fit, rm_X0_flow, rm_X0_good, rm_X0_hours, rm_X0_init, rm_X0_keep, rm_X0_law, rm_X0_learnt, rm_X0_look, rm_X0_maze, rm_X0_net, rm_X0_own, rm_X0_plate, rm_X0_rest, rm_X0_right, rm_X0_ring, rm_X0_see, rm_X0_set, rm_X0_shortest, rm_X0_surely, rm_X0_take, rm_X0_tell, rm_X0_told, rm_X0_under, rm_X0_width, rm_X4_alike, rm_X4_chance, rm_X4_count, rm_X4_end, rm_X4_fault, rm_X4_feed, rm_X4_fit, rm_X4_flow, rm_X4_good, rm_X4_hours, rm_X4_init, rm_X4_keep, rm_X4_law, rm_X4_learnt, rm_X4_look, rm_X4_maze, rm_X4_net, rm_X4_own, rm_X4_plate, rm_X4_rest, rm_X4_right, rm_X4_ring, rm_X4_see, rm_X4_set, rm_X4_shortest, rm_X4_surely, rm_X4_take, rm_X4_tell, rm_X4_told, rm_X4_under, rm_X4_width]; omega)) (by first | omega | (simp only [rm_X0_alike, rm_X0_chance, rm_X0_count, rm_X0_end, rm_X0_fault, rm_X0_feed, rm_X0_fit, rm_X0_flow, rm_X0_good, rm_X0_hours, rm_X0_init, rm_X0_keep, rm_X0_law, rm_X0_learnt, rm_X0_look, rm_X0_maze, rm_X0_net, rm_X0_own, rm_X0_plate, rm_X0_rest, rm_X0_right, rm_X0_ring, rm_X0_see, rm_X0_set, rm_X0_shortest, rm_X0_surely, rm_X0_take, rm_X0_tell, rm_X0_told, rm_X0_under, rm_X0_width, rm_X4_alike, rm_X4_chance, rm_X4_count, rm_X4_end, rm_X4_fault, rm_X4_feed, rm_X4_fit, rm_X4_flow, rm_X4_good, rm_X4_hours, rm_X4_init, rm_X4_keep, rm_X4_law, rm_X4_learnt, rm_X4_look, rm_X4_maze, rm_X4_net, rm_X4_own, rm_X4_plate, rm_X4_rest, rm_X4_right, rm_X4_ring, rm_X4_see, rm_X4_set, rm_X4_shortest, rm_X4_surely, rm_X4_take, rm_X4_tell, rm_X4_told, rm_X4_under, rm_X4_width]; omega))
    rw [if_neg hc26] at hf
    by_cases hc27 : (v29 &&& (31 : Int32)) = (27 : Int32)
    · rw [if_pos hc27] at hf
      refine g_tblI hX dL_law_33 (27 : Int32) 27 (828) 861 (by decide) (by decide) rfl (by decide) hc27 ?_
      refine g_aload_n hX dL_law_861 (lg_at 1 rfl) ?_
      refine g_aload_n hX dL_law_862 (lg_at 0 rfl) ?_
      refine g_iload_n hX dL_law_863 (lg_at 3 rfl) ?_
      refine g_iconst hX dL_law_864 (1 : Int32) (by decide) ?_
      refine g_iadd hX dL_law_865 ?_
      refine g_iald hX hf dL_law_866 (fun v866 hf => ?_)
      refine g_aload_n hX dL_law_867 (lg_at 0 rfl) ?_
      refine g_iload_n hX dL_law_868 (lg_at 3 rfl) ?_
      refine g_iconst hX dL_law_869 (2 : Int32) (by decide) ?_
      refine g_iadd hX dL_law_870 ?_
      refine g_iald hX hf dL_law_871 (fun v871 hf => ?_)
      refine g_aload_n hX dL_law_872 (lg_at 0 rfl) ?_
      refine g_iload_n hX dL_law_873 (lg_at 3 rfl) ?_
      refine g_iconst hX dL_law_874 (3 : Int32) (by decide) ?_
      refine g_iadd hX dL_law_875 ?_
      refine g_iald hX hf dL_law_876 (fun v876 hf => ?_)
      obtain ⟨k877, hk877, hf⟩ := ob_some hf
      obtain ⟨⟨v877, A877⟩, hc877, hf⟩ := ob_some hf
      refine h_callV hM [vi v866, vi v871, vi v876] dL_law_877 cs_SlimeNetLaw_127_1 hk877 (m_X0_surely hc877) (by simp only [roomOK, rm_L_law, rm_X0_alike, rm_X0_chance, rm_X0_count, rm_X0_end, rm_X0_fault, rm_X0_feed, rm_X0_fit, rm_X0_flow, rm_X0_good, rm_X0_hours, rm_X0_init, rm_X0_keep, rm_X0_law, rm_X0_learnt, rm_X0_look, rm_X0_maze, rm_X0_net, rm_X0_own, rm_X0_plate, rm_X0_rest, rm_X0_right, rm_X0_ring, rm_X0_see, rm_X0_set, rm_X0_shortest, rm_X0_surely, rm_X0_take, rm_X0_tell, rm_X0_told, rm_X0_under, rm_X0_width, rm_X4_alike, rm_X4_chance, rm_X4_count, rm_X4_end, rm_X4_fault, rm_X4_feed, rm_X4_fit, rm_X4_flow, rm_X4_good, rm_X4_hours, rm_X4_init, rm_X4_keep, rm_X4_law, rm_X4_learnt, rm_X4_look, rm_X4_maze, rm_X4_net, rm_X4_own, rm_X4_plate, rm_X4_rest, rm_X4_right, rm_X4_ring, rm_X4_see, rm_X4_set, rm_X4_shortest, rm_X4_surely, rm_X4_take, rm_X4_tell, rm_X4_told, rm_X4_under, rm_X4_width, Bool.and_eq_true, Nat.ble_eq] at hcs hss ⊢; omega) rfl rfl rfl ?_
      dsimp only at hf
      refine g_aload_n hX dL_law_880 (lg_at 2 rfl) ?_
      refine g_aload_n hX dL_law_881 (lg_at 0 rfl) ?_
      refine g_iload_n hX dL_law_882 (lg_at 3 rfl) ?_
      refine g_iconst hX dL_law_883 (1 : Int32) (by decide) ?_
      refine g_iadd hX dL_law_884 ?_
      refine g_iald hX hf dL_law_885 (fun v885 hf => ?_)
      refine g_aload_n hX dL_law_886 (lg_at 0 rfl) ?_
      refine g_iload_n hX dL_law_887 (lg_at 3 rfl) ?_
      refine g_iconst hX dL_law_888 (2 : Int32) (by decide) ?_
      refine g_iadd hX dL_law_889 ?_
      refine g_iald hX hf dL_law_890 (fun v890 hf => ?_)
      refine g_aload_n hX dL_law_891 (lg_at 0 rfl) ?_
      refine g_iload_n hX dL_law_892 (lg_at 3 rfl) ?_
      refine g_iconst hX dL_law_893 (3 : Int32) (by decide) ?_
      refine g_iadd hX dL_law_894 ?_
      refine g_iald hX hf dL_law_895 (fun v895 hf => ?_)
      obtain ⟨k896, hk896, hf⟩ := ob_some hf
      obtain ⟨⟨v896, A896⟩, hc896, hf⟩ := ob_some hf
      refine h_callV hM [vi v885, vi v890, vi v895] dL_law_896 cs_SlimeNetLaw_130_5 hk896 (m_X4_surely hc896) (by simp only [roomOK, rm_L_law, rm_X0_alike, rm_X0_chance, rm_X0_count, rm_X0_end, rm_X0_fault, rm_X0_feed, rm_X0_fit, rm_X0_flow, rm_X0_good, rm_X0_hours, rm_X0_init, rm_X0_keep, rm_X0_law, rm_X0_learnt, rm_X0_look, rm_X0_maze, rm_X0_net, rm_X0_own, rm_X0_plate, rm_X0_rest, rm_X0_right, rm_X0_ring, rm_X0_see, rm_X0_set, rm_X0_shortest, rm_X0_surely, rm_X0_take, rm_X0_tell, rm_X0_told, rm_X0_under, rm_X0_width, rm_X4_alike, rm_X4_chance, rm_X4_count, rm_X4_end, rm_X4_fault, rm_X4_feed, rm_X4_fit, rm_X4_flow, rm_X4_good, rm_X4_hours, rm_X4_init, rm_X4_keep, rm_X4_law, rm_X4_learnt, rm_X4_look, rm_X4_maze, rm_X4_net, rm_X4_own, rm_X4_plate, rm_X4_rest, rm_X4_right, rm_X4_ring, rm_X4_see, rm_X4_set, rm_X4_shortest, rm_X4_surely, rm_X4_take, rm_X4_tell, rm_X4_told, rm_X4_under, rm_X4_width, Bool.and_eq_true, Nat.ble_eq] at hcs hss ⊢; omega) rfl rfl rfl ?_
      dsimp only at hf
      refine g_icmp_eq hX dL_law_899 940 hf (by decide) (fun c899 hf => ?_) (fun c899 hf => ?_)
      · exact g_wide (g_pick (w_f_L_law_940 hM hcs hss hf K) [0, 1, 2, 3] rfl) (by first | omega | (simp only [rm_X0_alike, rm_X0_chance, rm_X0_count, rm_X0_end, rm_X0_fault, rm_X0_feed, rm_X0_fit, rm_X0_flow, rm_X0_good, rm_X0_hours, rm_X0_init, rm_X0_keep, rm_X0_law, rm_X0_learnt, rm_X0_look, rm_X0_maze, rm_X0_net, rm_X0_own, rm_X0_plate, rm_X0_rest, rm_X0_right, rm_X0_ring, rm_X0_see, rm_X0_set, rm_X0_shortest, rm_X0_surely, rm_X0_take, rm_X0_tell, rm_X0_told, rm_X0_under, rm_X0_width, rm_X4_alike, rm_X4_chance, rm_X4_count, rm_X4_end, rm_X4_fault, rm_X4_feed, rm_X4_fit, rm_X4_flow, rm_X4_good, rm_X4_hours, rm_X4_init, rm_X4_keep, rm_X4_law, rm_X4_learnt, rm_X4_look, rm_X4_maze, rm_X4_net, rm_X4_own, rm_X4_plate, rm_X4_rest, rm_X4_right, rm_X4_ring, rm_X4_see, rm_X4_set, rm_X4_shortest, rm_X4_surely, rm_X4_take, rm_X4_tell, rm_X4_told, rm_X4_under, rm_X4_width]; omega)) (by first | omega | (simp only [rm_X0_alike, rm_X0_chance, rm_X0_count, rm_X0_end, rm_X0_fault, rm_X0_feed, rm_X0_fit, rm_X0_flow, rm_X0_good, rm_X0_hours, rm_X0_init, rm_X0_keep, rm_X0_law, rm_X0_learnt, rm_X0_look, rm_X0_maze, rm_X0_net, rm_X0_own, rm_X0_plate, rm_X0_rest, rm_X0_right, rm_X0_ring, rm_X0_see, rm_X0_set, rm_X0_shortest, rm_X0_surely, rm_X0_take, rm_X0_tell, rm_X0_told, rm_X0_under, rm_X0_width, rm_X4_alike, rm_X4_chance, rm_X4_count, rm_X4_end, rm_X4_fault, rm_X4_feed, rm_X4_fit, rm_X4_flow, rm_X4_good, rm_X4_hours, rm_X4_init, rm_X4_keep, rm_X4_law, rm_X4_learnt, rm_X4_look, rm_X4_maze, rm_X4_net, rm_X4_own, rm_X4_plate, rm_X4_rest, rm_X4_right, rm_X4_ring, rm_X4_see, rm_X4_set, rm_X4_shortest, rm_X4_surely, rm_X4_take, rm_X4_tell, rm_X4_told, rm_X4_under, rm_X4_width]; omega))
      · cases hf
        exact g_wide (g_pick (show G X _ _ _ _ _ _ from K) [] rfl) (by first | omega | (simp only [rm_X0_alike, rm_X0_chance, rm_X0_count, rm_X0_end, rm_X0_fault, rm_X0_feed, rm_X0_fit, rm_X0_flow, rm_X0_good, rm_X0_hours, rm_X0_init, rm_X0_keep, rm_X0_law, rm_X0_learnt, rm_X0_look, rm_X0_maze, rm_X0_net, rm_X0_own, rm_X0_plate, rm_X0_rest, rm_X0_right, rm_X0_ring, rm_X0_see, rm_X0_set, rm_X0_shortest, rm_X0_surely, rm_X0_take, rm_X0_tell, rm_X0_told, rm_X0_under, rm_X0_width, rm_X4_alike, rm_X4_chance, rm_X4_count, rm_X4_end, rm_X4_fault, rm_X4_feed, rm_X4_fit, rm_X4_flow, rm_X4_good, rm_X4_hours, rm_X4_init, rm_X4_keep, rm_X4_law, rm_X4_learnt, rm_X4_look, rm_X4_maze, rm_X4_net, rm_X4_own, rm_X4_plate, rm_X4_rest, rm_X4_right, rm_X4_ring, rm_X4_see, rm_X4_set, rm_X4_shortest, rm_X4_surely, rm_X4_take, rm_X4_tell, rm_X4_told, rm_X4_under, rm_X4_width]; omega)) (by first | omega | (simp only [rm_X0_alike, rm_X0_chance, rm_X0_count, rm_X0_end, rm_X0_fault, rm_X0_feed, rm_X0_fit, rm_X0_flow, rm_X0_good, rm_X0_hours, rm_X0_init, rm_X0_keep, rm_X0_law, rm_X0_learnt, rm_X0_look, rm_X0_maze, rm_X0_net, rm_X0_own, rm_X0_plate, rm_X0_rest, rm_X0_right, rm_X0_ring, rm_X0_see, rm_X0_set, rm_X0_shortest, rm_X0_surely, rm_X0_take, rm_X0_tell, rm_X0_told, rm_X0_under, rm_X0_width, rm_X4_alike, rm_X4_chance, rm_X4_count, rm_X4_end, rm_X4_fault, rm_X4_feed, rm_X4_fit, rm_X4_flow, rm_X4_good, rm_X4_hours, rm_X4_init, rm_X4_keep, rm_X4_law, rm_X4_learnt, rm_X4_look, rm_X4_maze, rm_X4_net, rm_X4_own, rm_X4_plate, rm_X4_rest, rm_X4_right, rm_X4_ring, rm_X4_see, rm_X4_set, rm_X4_shortest, rm_X4_surely, rm_X4_take, rm_X4_tell, rm_X4_told, rm_X4_under, rm_X4_width]; omega))
    rw [if_neg hc27] at hf
    by_cases hc28 : (v29 &&& (31 : Int32)) = (28 : Int32)
    · rw [if_pos hc28] at hf
      refine g_tblI hX dL_law_33 (28 : Int32) 28 (871) 904 (by decide) (by decide) rfl (by decide) hc28 ?_
      refine g_aload_n hX dL_law_904 (lg_at 1 rfl) ?_
      obtain ⟨k905, hk905, hf⟩ := ob_some hf
      obtain ⟨⟨v905, A905⟩, hc905, hf⟩ := ob_some hf
      refine h_callV hM [] dL_law_905 cs_SlimeNetLaw_131_1 hk905 (m_X0_look hc905) (by simp only [roomOK, rm_L_law, rm_X0_alike, rm_X0_chance, rm_X0_count, rm_X0_end, rm_X0_fault, rm_X0_feed, rm_X0_fit, rm_X0_flow, rm_X0_good, rm_X0_hours, rm_X0_init, rm_X0_keep, rm_X0_law, rm_X0_learnt, rm_X0_look, rm_X0_maze, rm_X0_net, rm_X0_own, rm_X0_plate, rm_X0_rest, rm_X0_right, rm_X0_ring, rm_X0_see, rm_X0_set, rm_X0_shortest, rm_X0_surely, rm_X0_take, rm_X0_tell, rm_X0_told, rm_X0_under, rm_X0_width, rm_X4_alike, rm_X4_chance, rm_X4_count, rm_X4_end, rm_X4_fault, rm_X4_feed, rm_X4_fit, rm_X4_flow, rm_X4_good, rm_X4_hours, rm_X4_init, rm_X4_keep, rm_X4_law, rm_X4_learnt, rm_X4_look, rm_X4_maze, rm_X4_net, rm_X4_own, rm_X4_plate, rm_X4_rest, rm_X4_right, rm_X4_ring, rm_X4_see, rm_X4_set, rm_X4_shortest, rm_X4_surely, rm_X4_take, rm_X4_tell, rm_X4_told, rm_X4_under, rm_X4_width, Bool.and_eq_true, Nat.ble_eq] at hcs hss ⊢; omega) rfl rfl rfl ?_
      dsimp only at hf
      refine g_aload_n hX dL_law_908 (lg_at 2 rfl) ?_
      obtain ⟨k909, hk909, hf⟩ := ob_some hf
      obtain ⟨⟨v909, A909⟩, hc909, hf⟩ := ob_some hf
      refine h_callV hM [] dL_law_909 cs_SlimeNetLaw_134_5 hk909 (m_X4_look hc909) (by simp only [roomOK, rm_L_law, rm_X0_alike, rm_X0_chance, rm_X0_count, rm_X0_end, rm_X0_fault, rm_X0_feed, rm_X0_fit, rm_X0_flow, rm_X0_good, rm_X0_hours, rm_X0_init, rm_X0_keep, rm_X0_law, rm_X0_learnt, rm_X0_look, rm_X0_maze, rm_X0_net, rm_X0_own, rm_X0_plate, rm_X0_rest, rm_X0_right, rm_X0_ring, rm_X0_see, rm_X0_set, rm_X0_shortest, rm_X0_surely, rm_X0_take, rm_X0_tell, rm_X0_told, rm_X0_under, rm_X0_width, rm_X4_alike, rm_X4_chance, rm_X4_count, rm_X4_end, rm_X4_fault, rm_X4_feed, rm_X4_fit, rm_X4_flow, rm_X4_good, rm_X4_hours, rm_X4_init, rm_X4_keep, rm_X4_law, rm_X4_learnt, rm_X4_look, rm_X4_maze, rm_X4_net, rm_X4_own, rm_X4_plate, rm_X4_rest, rm_X4_right, rm_X4_ring, rm_X4_see, rm_X4_set, rm_X4_shortest, rm_X4_surely, rm_X4_take, rm_X4_tell, rm_X4_told, rm_X4_under, rm_X4_width, Bool.and_eq_true, Nat.ble_eq] at hcs hss ⊢; omega) rfl rfl rfl ?_
      dsimp only at hf
      refine g_icmp_eq hX dL_law_912 940 hf (by decide) (fun c912 hf => ?_) (fun c912 hf => ?_)
      · exact g_wide (g_pick (w_f_L_law_940 hM hcs hss hf K) [0, 1, 2, 3] rfl) (by first | omega | (simp only [rm_X0_alike, rm_X0_chance, rm_X0_count, rm_X0_end, rm_X0_fault, rm_X0_feed, rm_X0_fit, rm_X0_flow, rm_X0_good, rm_X0_hours, rm_X0_init, rm_X0_keep, rm_X0_law, rm_X0_learnt, rm_X0_look, rm_X0_maze, rm_X0_net, rm_X0_own, rm_X0_plate, rm_X0_rest, rm_X0_right, rm_X0_ring, rm_X0_see, rm_X0_set, rm_X0_shortest, rm_X0_surely, rm_X0_take, rm_X0_tell, rm_X0_told, rm_X0_under, rm_X0_width, rm_X4_alike, rm_X4_chance, rm_X4_count, rm_X4_end, rm_X4_fault, rm_X4_feed, rm_X4_fit, rm_X4_flow, rm_X4_good, rm_X4_hours, rm_X4_init, rm_X4_keep, rm_X4_law, rm_X4_learnt, rm_X4_look, rm_X4_maze, rm_X4_net, rm_X4_own, rm_X4_plate, rm_X4_rest, rm_X4_right, rm_X4_ring, rm_X4_see, rm_X4_set, rm_X4_shortest, rm_X4_surely, rm_X4_take, rm_X4_tell, rm_X4_told, rm_X4_under, rm_X4_width]; omega)) (by first | omega | (simp only [rm_X0_alike, rm_X0_chance, rm_X0_count, rm_X0_end, rm_X0_fault, rm_X0_feed, rm_X0_fit, rm_X0_flow, rm_X0_good, rm_X0_hours, rm_X0_init, rm_X0_keep, rm_X0_law, rm_X0_learnt, rm_X0_look, rm_X0_maze, rm_X0_net, rm_X0_own, rm_X0_plate, rm_X0_rest, rm_X0_right, rm_X0_ring, rm_X0_see, rm_X0_set, rm_X0_shortest, rm_X0_surely, rm_X0_take, rm_X0_tell, rm_X0_told, rm_X0_under, rm_X0_width, rm_X4_alike, rm_X4_chance, rm_X4_count, rm_X4_end, rm_X4_fault, rm_X4_feed, rm_X4_fit, rm_X4_flow, rm_X4_good, rm_X4_hours, rm_X4_init, rm_X4_keep, rm_X4_law, rm_X4_learnt, rm_X4_look, rm_X4_maze, rm_X4_net, rm_X4_own, rm_X4_plate, rm_X4_rest, rm_X4_right, rm_X4_ring, rm_X4_see, rm_X4_set, rm_X4_shortest, rm_X4_surely, rm_X4_take, rm_X4_tell, rm_X4_told, rm_X4_under, rm_X4_width]; omega))
      · cases hf
        exact g_wide (g_pick (show G X _ _ _ _ _ _ from K) [] rfl) (by first | omega | (simp only [rm_X0_alike, rm_X0_chance, rm_X0_count, rm_X0_end, rm_X0_fault, rm_X0_feed, rm_X0_fit, rm_X0_flow, rm_X0_good, rm_X0_hours, rm_X0_init, rm_X0_keep, rm_X0_law, rm_X0_learnt, rm_X0_look, rm_X0_maze, rm_X0_net, rm_X0_own, rm_X0_plate, rm_X0_rest, rm_X0_right, rm_X0_ring, rm_X0_see, rm_X0_set, rm_X0_shortest, rm_X0_surely, rm_X0_take, rm_X0_tell, rm_X0_told, rm_X0_under, rm_X0_width, rm_X4_alike, rm_X4_chance, rm_X4_count, rm_X4_end, rm_X4_fault, rm_X4_feed, rm_X4_fit, rm_X4_flow, rm_X4_good, rm_X4_hours, rm_X4_init, rm_X4_keep, rm_X4_law, rm_X4_learnt, rm_X4_look, rm_X4_maze, rm_X4_net, rm_X4_own, rm_X4_plate, rm_X4_rest, rm_X4_right, rm_X4_ring, rm_X4_see, rm_X4_set, rm_X4_shortest, rm_X4_surely, rm_X4_take, rm_X4_tell, rm_X4_told, rm_X4_under, rm_X4_width]; omega)) (by first | omega | (simp only [rm_X0_alike, rm_X0_chance, rm_X0_count, rm_X0_end, rm_X0_fault, rm_X0_feed, rm_X0_fit, rm_X0_flow, rm_X0_good, rm_X0_hours, rm_X0_init, rm_X0_keep, rm_X0_law, rm_X0_learnt, rm_X0_look, rm_X0_maze, rm_X0_net, rm_X0_own, rm_X0_plate, rm_X0_rest, rm_X0_right, rm_X0_ring, rm_X0_see, rm_X0_set, rm_X0_shortest, rm_X0_surely, rm_X0_take, rm_X0_tell, rm_X0_told, rm_X0_under, rm_X0_width, rm_X4_alike, rm_X4_chance, rm_X4_count, rm_X4_end, rm_X4_fault, rm_X4_feed, rm_X4_fit, rm_X4_flow, rm_X4_good, rm_X4_hours, rm_X4_init, rm_X4_keep, rm_X4_law, rm_X4_learnt, rm_X4_look, rm_X4_maze, rm_X4_net, rm_X4_own, rm_X4_plate, rm_X4_rest, rm_X4_right, rm_X4_ring, rm_X4_see, rm_X4_set, rm_X4_shortest, rm_X4_surely, rm_X4_take, rm_X4_tell, rm_X4_told, rm_X4_under, rm_X4_width]; omega))
    rw [if_neg hc28] at hf
    by_cases hc29 : (v29 &&& (31 : Int32)) = (29 : Int32)
    · rw [if_pos hc29] at hf
      refine g_tblI hX dL_law_33 (29 : Int32) 29 (884) 917 (by decide) (by decide) rfl (by decide) hc29 ?_
      refine g_aload_n hX dL_law_917 (lg_at 1 rfl) ?_
      refine g_aload_n hX dL_law_918 (lg_at 0 rfl) ?_
      refine g_iload_n hX dL_law_919 (lg_at 3 rfl) ?_
      refine g_iconst hX dL_law_920 (1 : Int32) (by decide) ?_
      refine g_iadd hX dL_law_921 ?_
      refine g_iald hX hf dL_law_922 (fun v922 hf => ?_)
      obtain ⟨k923, hk923, hf⟩ := ob_some hf
      obtain ⟨v923, hc923, hf⟩ := ob_some hf
      refine h_callV hM [vi v922] dL_law_923 cs_SlimeNetLaw_135_1 hk923 (m_X0_count hc923) (by simp only [roomOK, rm_L_law, rm_X0_alike, rm_X0_chance, rm_X0_count, rm_X0_end, rm_X0_fault, rm_X0_feed, rm_X0_fit, rm_X0_flow, rm_X0_good, rm_X0_hours, rm_X0_init, rm_X0_keep, rm_X0_law, rm_X0_learnt, rm_X0_look, rm_X0_maze, rm_X0_net, rm_X0_own, rm_X0_plate, rm_X0_rest, rm_X0_right, rm_X0_ring, rm_X0_see, rm_X0_set, rm_X0_shortest, rm_X0_surely, rm_X0_take, rm_X0_tell, rm_X0_told, rm_X0_under, rm_X0_width, rm_X4_alike, rm_X4_chance, rm_X4_count, rm_X4_end, rm_X4_fault, rm_X4_feed, rm_X4_fit, rm_X4_flow, rm_X4_good, rm_X4_hours, rm_X4_init, rm_X4_keep, rm_X4_law, rm_X4_learnt, rm_X4_look, rm_X4_maze, rm_X4_net, rm_X4_own, rm_X4_plate, rm_X4_rest, rm_X4_right, rm_X4_ring, rm_X4_see, rm_X4_set, rm_X4_shortest, rm_X4_surely, rm_X4_take, rm_X4_tell, rm_X4_told, rm_X4_under, rm_X4_width, Bool.and_eq_true, Nat.ble_eq] at hcs hss ⊢; omega) rfl rfl rfl ?_
      refine g_aload_n hX dL_law_926 (lg_at 2 rfl) ?_
      refine g_aload_n hX dL_law_927 (lg_at 0 rfl) ?_
      refine g_iload_n hX dL_law_928 (lg_at 3 rfl) ?_
      refine g_iconst hX dL_law_929 (1 : Int32) (by decide) ?_
      refine g_iadd hX dL_law_930 ?_
      refine g_iald hX hf dL_law_931 (fun v931 hf => ?_)
      obtain ⟨k932, hk932, hf⟩ := ob_some hf
      obtain ⟨v932, hc932, hf⟩ := ob_some hf
      refine h_callV hM [vi v931] dL_law_932 cs_SlimeNetLaw_138_5 hk932 (m_X4_count hc932) (by simp only [roomOK, rm_L_law, rm_X0_alike, rm_X0_chance, rm_X0_count, rm_X0_end, rm_X0_fault, rm_X0_feed, rm_X0_fit, rm_X0_flow, rm_X0_good, rm_X0_hours, rm_X0_init, rm_X0_keep, rm_X0_law, rm_X0_learnt, rm_X0_look, rm_X0_maze, rm_X0_net, rm_X0_own, rm_X0_plate, rm_X0_rest, rm_X0_right, rm_X0_ring, rm_X0_see, rm_X0_set, rm_X0_shortest, rm_X0_surely, rm_X0_take, rm_X0_tell, rm_X0_told, rm_X0_under, rm_X0_width, rm_X4_alike, rm_X4_chance, rm_X4_count, rm_X4_end, rm_X4_fault, rm_X4_feed, rm_X4_fit, rm_X4_flow, rm_X4_good, rm_X4_hours, rm_X4_init, rm_X4_keep, rm_X4_law, rm_X4_learnt, rm_X4_look, rm_X4_maze, rm_X4_net, rm_X4_own, rm_X4_plate, rm_X4_rest, rm_X4_right, rm_X4_ring, rm_X4_see, rm_X4_set, rm_X4_shortest, rm_X4_surely, rm_X4_take, rm_X4_tell, rm_X4_told, rm_X4_under, rm_X4_width, Bool.and_eq_true, Nat.ble_eq] at hcs hss ⊢; omega) rfl rfl rfl ?_
      refine g_icmp_eq hX dL_law_935 940 hf (by decide) (fun c935 hf => ?_) (fun c935 hf => ?_)
      · exact g_wide (g_pick (w_f_L_law_940 hM hcs hss hf K) [0, 1, 2, 3] rfl) (by first | omega | (simp only [rm_X0_alike, rm_X0_chance, rm_X0_count, rm_X0_end, rm_X0_fault, rm_X0_feed, rm_X0_fit, rm_X0_flow, rm_X0_good, rm_X0_hours, rm_X0_init, rm_X0_keep, rm_X0_law, rm_X0_learnt, rm_X0_look, rm_X0_maze, rm_X0_net, rm_X0_own, rm_X0_plate, rm_X0_rest, rm_X0_right, rm_X0_ring, rm_X0_see, rm_X0_set, rm_X0_shortest, rm_X0_surely, rm_X0_take, rm_X0_tell, rm_X0_told, rm_X0_under, rm_X0_width, rm_X4_alike, rm_X4_chance, rm_X4_count, rm_X4_end, rm_X4_fault, rm_X4_feed, rm_X4_fit, rm_X4_flow, rm_X4_good, rm_X4_hours, rm_X4_init, rm_X4_keep, rm_X4_law, rm_X4_learnt, rm_X4_look, rm_X4_maze, rm_X4_net, rm_X4_own, rm_X4_plate, rm_X4_rest, rm_X4_right, rm_X4_ring, rm_X4_see, rm_X4_set, rm_X4_shortest, rm_X4_surely, rm_X4_take, rm_X4_tell, rm_X4_told, rm_X4_under, rm_X4_width]; omega)) (by first | omega | (simp only [rm_X0_alike, rm_X0_chance, rm_X0_count, rm_X0_end, rm_X0_fault, rm_X0_feed, rm_X0_fit, rm_X0_flow, rm_X0_good, rm_X0_hours, rm_X0_init, rm_X0_keep, rm_X0_law, rm_X0_learnt, rm_X0_look, rm_X0_maze, rm_X0_net, rm_X0_own, rm_X0_plate, rm_X0_rest, rm_X0_right, rm_X0_ring, rm_X0_see, rm_X0_set, rm_X0_shortest, rm_X0_surely, rm_X0_take, rm_X0_tell, rm_X0_told, rm_X0_under, rm_X0_width, rm_X4_alike, rm_X4_chance, rm_X4_count, rm_X4_end, rm_X4_fault, rm_X4_feed, rm_X4_fit, rm_X4_flow, rm_X4_good, rm_X4_hours, rm_X4_init, rm_X4_keep, rm_X4_law, rm_X4_learnt, rm_X4_look, rm_X4_maze, rm_X4_net, rm_X4_own, rm_X4_plate, rm_X4_rest, rm_X4_right, rm_X4_ring, rm_X4_see, rm_X4_set, rm_X4_shortest, rm_X4_surely, rm_X4_take, rm_X4_tell, rm_X4_told, rm_X4_under, rm_X4_width]; omega))
      · cases hf
        exact g_wide (g_pick (show G X _ _ _ _ _ _ from K) [] rfl) (by first | omega | (simp only [rm_X0_alike, rm_X0_chance, rm_X0_count, rm_X0_end, rm_X0_fault, rm_X0_feed, rm_X0_fit, rm_X0_flow, rm_X0_good, rm_X0_hours, rm_X0_init, rm_X0_keep, rm_X0_law, rm_X0_learnt, rm_X0_look, rm_X0_maze, rm_X0_net, rm_X0_own, rm_X0_plate, rm_X0_rest, rm_X0_right, rm_X0_ring, rm_X0_see, rm_X0_set, rm_X0_shortest, rm_X0_surely, rm_X0_take, rm_X0_tell, rm_X0_told, rm_X0_under, rm_X0_width, rm_X4_alike, rm_X4_chance, rm_X4_count, rm_X4_end, rm_X4_fault, rm_X4_feed, rm_X4_fit, rm_X4_flow, rm_X4_good, rm_X4_hours, rm_X4_init, rm_X4_keep, rm_X4_law, rm_X4_learnt, rm_X4_look, rm_X4_maze, rm_X4_net, rm_X4_own, rm_X4_plate, rm_X4_rest, rm_X4_right, rm_X4_ring, rm_X4_see, rm_X4_set, rm_X4_shortest, rm_X4_surely, rm_X4_take, rm_X4_tell, rm_X4_told, rm_X4_under, rm_X4_width]; omega)) (by first | omega | (simp only [rm_X0_alike, rm_X0_chance, rm_X0_count, rm_X0_end, rm_X0_fault, rm_X0_feed, rm_X0_fit, rm_X0_flow, rm_X0_good, rm_X0_hours, rm_X0_init, rm_X0_keep, rm_X0_law, rm_X0_learnt, rm_X0_look, rm_X0_maze, rm_X0_net, rm_X0_own, rm_X0_plate, rm_X0_rest, rm_X0_right, rm_X0_ring, rm_X0_see, rm_X0_set, rm_X0_shortest, rm_X0_surely, rm_X0_take, rm_X0_tell, rm_X0_told, rm_X0_under, rm_X0_width, rm_X4_alike, rm_X4_chance, rm_X4_count, rm_X4_end, rm_X4_fault, rm_X4_feed, rm_X4_fit, rm_X4_flow, rm_X4_good, rm_X4_hours, rm_X4_init, rm_X4_keep, rm_X4_law, rm_X4_learnt, rm_X4_look, rm_X4_maze, rm_X4_net, rm_X4_own, rm_X4_plate, rm_X4_rest, rm_X4_right, rm_X4_ring, rm_X4_see, rm_X4_set, rm_X4_shortest, rm_X4_surely, rm_X4_take, rm_X4_tell, rm_X4_told, rm_X4_under, rm_X4_width]; omega))
    rw [if_neg hc29] at hf
    cases hf

set_option maxRecDepth 100000 in
theorem w_l_L_law_18 {X : Ctx} (hM : MX X yL_law cL_law 4 "SlimeNetLaw" (some Jvm.ClassFile.FieldType.boolean) rm_L_law []) {x0 : Option Nat} {x1 : Option Nat} {x2 : Option Nat} {x3 : Int32} {A : AH} {out : Int32 × AH} (hf : l_L_law_18 x0 x1 x2 x3 A = some out) (hr : c_res X = r_L_law A out) : G X 108 59796 18 [(0, vr x0), (1, vr x1), (2, vr x2), (3, vi x3)] [] A := by
  have hX := hM.1
  unfold l_L_law_18 at hf
  obtain ⟨e, hw, hf⟩ := ob_some hf
  have key := whO_ind (fun n o => n ≤ 65 → k_L_law_18 X (108 + 710 * (65 - n)) (59796 + 5321 * (65 - n)) x0 x1 x2 o) (fun n st o hs K hn => w_s_L_law_18 hM (by show _ ≤ 601024; omega) (by show _ ≤ 7293034; omega) hs (by have := K (by omega); rw [show 108 + 710 * (65 - n) = 108 + 710 * (65 - (n + 1)) + 710 by omega, show 59796 + 5321 * (65 - n) = 59796 + 5321 * (65 - (n + 1)) + 5321 by omega] at this; exact this)) (fun n e h0 hn => ?_) hw ?_
  · exact g_wide (key (Nat.le_refl _)) (by omega) (by omega)
  · have h0 := h0 (by omega)
    revert h0
    exact k_L_law_18_mono (by omega) (by omega)
  intro _
  rcases e with A | A | A | A | A | A | A | A | A | A | A | A | A | A | A | A | A | A | A | A | A | A | A | A | A | A | A | A | A | A | A
  · dsimp only at hf
    show G X 46258 405661 229 [] [] A
    refine g_iconst hX dL_law_229 (0 : Int32) (by decide) ?_
    cases hf
    exact h_zret hM dL_law_230 hr rfl (by decide) rfl
  · dsimp only at hf
    show G X 46258 405661 252 [] [] A
    refine g_iconst hX dL_law_252 (0 : Int32) (by decide) ?_
    cases hf
    exact h_zret hM dL_law_253 hr rfl (by decide) rfl
  · dsimp only at hf
    show G X 46258 405661 265 [] [] A
    refine g_iconst hX dL_law_265 (0 : Int32) (by decide) ?_
    cases hf
    exact h_zret hM dL_law_266 hr rfl (by decide) rfl
  · dsimp only at hf
    show G X 46258 405661 288 [] [] A
    refine g_iconst hX dL_law_288 (0 : Int32) (by decide) ?_
    cases hf
    exact h_zret hM dL_law_289 hr rfl (by decide) rfl
  · dsimp only at hf
    show G X 46258 405661 311 [] [] A
    refine g_iconst hX dL_law_311 (0 : Int32) (by decide) ?_
    cases hf
    exact h_zret hM dL_law_312 hr rfl (by decide) rfl
  · dsimp only at hf
    show G X 46258 405661 334 [] [] A
    refine g_iconst hX dL_law_334 (0 : Int32) (by decide) ?_
    cases hf
    exact h_zret hM dL_law_335 hr rfl (by decide) rfl
  · dsimp only at hf
    show G X 46258 405661 357 [] [] A
    refine g_iconst hX dL_law_357 (0 : Int32) (by decide) ?_
    cases hf
    exact h_zret hM dL_law_358 hr rfl (by decide) rfl
  · dsimp only at hf
    show G X 46258 405661 390 [] [] A
    refine g_iconst hX dL_law_390 (0 : Int32) (by decide) ?_
    cases hf
    exact h_zret hM dL_law_391 hr rfl (by decide) rfl
  · dsimp only at hf
    show G X 46258 405661 423 [] [] A
    refine g_iconst hX dL_law_423 (0 : Int32) (by decide) ?_
    cases hf
    exact h_zret hM dL_law_424 hr rfl (by decide) rfl
  · dsimp only at hf
    show G X 46258 405661 447 [] [] A
    refine g_iconst hX dL_law_447 (0 : Int32) (by decide) ?_
    cases hf
    exact h_zret hM dL_law_448 hr rfl (by decide) rfl
  · dsimp only at hf
    show G X 46258 405661 471 [] [] A
    refine g_iconst hX dL_law_471 (0 : Int32) (by decide) ?_
    cases hf
    exact h_zret hM dL_law_472 hr rfl (by decide) rfl
  · dsimp only at hf
    show G X 46258 405661 494 [] [] A
    refine g_iconst hX dL_law_494 (0 : Int32) (by decide) ?_
    cases hf
    exact h_zret hM dL_law_495 hr rfl (by decide) rfl
  · dsimp only at hf
    show G X 46258 405661 507 [] [] A
    refine g_iconst hX dL_law_507 (0 : Int32) (by decide) ?_
    cases hf
    exact h_zret hM dL_law_508 hr rfl (by decide) rfl
  · dsimp only at hf
    show G X 46258 405661 520 [] [] A
    refine g_iconst hX dL_law_520 (0 : Int32) (by decide) ?_
    cases hf
    exact h_zret hM dL_law_521 hr rfl (by decide) rfl
  · dsimp only at hf
    show G X 46258 405661 543 [] [] A
    refine g_iconst hX dL_law_543 (0 : Int32) (by decide) ?_
    cases hf
    exact h_zret hM dL_law_544 hr rfl (by decide) rfl
  · dsimp only at hf
    show G X 46258 405661 566 [] [] A
    refine g_iconst hX dL_law_566 (0 : Int32) (by decide) ?_
    cases hf
    exact h_zret hM dL_law_567 hr rfl (by decide) rfl
  · dsimp only at hf
    show G X 46258 405661 589 [] [] A
    refine g_iconst hX dL_law_589 (0 : Int32) (by decide) ?_
    cases hf
    exact h_zret hM dL_law_590 hr rfl (by decide) rfl
  · dsimp only at hf
    show G X 46258 405661 622 [] [] A
    refine g_iconst hX dL_law_622 (0 : Int32) (by decide) ?_
    cases hf
    exact h_zret hM dL_law_623 hr rfl (by decide) rfl
  · dsimp only at hf
    show G X 46258 405661 645 [] [] A
    refine g_iconst hX dL_law_645 (0 : Int32) (by decide) ?_
    cases hf
    exact h_zret hM dL_law_646 hr rfl (by decide) rfl
  · dsimp only at hf
    show G X 46258 405661 658 [] [] A
    refine g_iconst hX dL_law_658 (0 : Int32) (by decide) ?_
    cases hf
    exact h_zret hM dL_law_659 hr rfl (by decide) rfl
  · dsimp only at hf
    show G X 46258 405661 691 [] [] A
    refine g_iconst hX dL_law_691 (0 : Int32) (by decide) ?_
    cases hf
    exact h_zret hM dL_law_692 hr rfl (by decide) rfl
  · dsimp only at hf
    show G X 46258 405661 704 [] [] A
    refine g_iconst hX dL_law_704 (0 : Int32) (by decide) ?_
    cases hf
    exact h_zret hM dL_law_705 hr rfl (by decide) rfl
  · dsimp only at hf
    show G X 46258 405661 727 [] [] A
    refine g_iconst hX dL_law_727 (0 : Int32) (by decide) ?_
    cases hf
    exact h_zret hM dL_law_728 hr rfl (by decide) rfl
  · dsimp only at hf
    show G X 46258 405661 740 [] [] A
    refine g_iconst hX dL_law_740 (0 : Int32) (by decide) ?_
    cases hf
    exact h_zret hM dL_law_741 hr rfl (by decide) rfl
  · dsimp only at hf
    show G X 46258 405661 783 [] [] A
    refine g_iconst hX dL_law_783 (0 : Int32) (by decide) ?_
    cases hf
    exact h_zret hM dL_law_784 hr rfl (by decide) rfl
  · dsimp only at hf
    show G X 46258 405661 826 [] [] A
    refine g_iconst hX dL_law_826 (0 : Int32) (by decide) ?_
    cases hf
    exact h_zret hM dL_law_827 hr rfl (by decide) rfl
  · dsimp only at hf
    show G X 46258 405661 859 [] [] A
    refine g_iconst hX dL_law_859 (0 : Int32) (by decide) ?_
    cases hf
    exact h_zret hM dL_law_860 hr rfl (by decide) rfl
  · dsimp only at hf
    show G X 46258 405661 902 [] [] A
    refine g_iconst hX dL_law_902 (0 : Int32) (by decide) ?_
    cases hf
    exact h_zret hM dL_law_903 hr rfl (by decide) rfl
  · dsimp only at hf
    show G X 46258 405661 915 [] [] A
    refine g_iconst hX dL_law_915 (0 : Int32) (by decide) ?_
    cases hf
    exact h_zret hM dL_law_916 hr rfl (by decide) rfl
  · dsimp only at hf
    show G X 46258 405661 938 [] [] A
    refine g_iconst hX dL_law_938 (0 : Int32) (by decide) ?_
    cases hf
    exact h_zret hM dL_law_939 hr rfl (by decide) rfl
  · dsimp only at hf
    show G X 46258 405661 946 [] [] A
    refine g_iconst hX dL_law_946 (1 : Int32) (by decide) ?_
    cases hf
    exact h_zret hM dL_law_947 hr rfl (by decide) rfl

set_option maxRecDepth 100000 in
theorem w_f_L_law {X : Ctx} (hM : MX X yL_law cL_law 4 "SlimeNetLaw" (some Jvm.ClassFile.FieldType.boolean) rm_L_law []) {x0 : Option Nat} {A : AH} {out : Int32 × AH} (hf : f_L_law x0 A = some out) (hr : c_res X = r_L_law A out) : G X 0 0 0 [(0, vr x0)] [] A := by
  have hX := hM.1
  unfold f_L_law at hf
  refine h_newF hM dL_law_0 (by decide) rfl (lw_LW q93) (lw_LW q94) (lw_LW q70) rfl hf (fun A0 hf => ?_)
  refine g_dup hX dL_law_3 rfl ?_
  obtain ⟨A4, hc4, hf⟩ := ob_some hf
  refine h_callI hM [] dL_law_4 cs_SlimeNetLaw_9_s (m_X0_init hc4) rfl rfl rfl rfl ?_
  refine g_astore_n hX dL_law_7 [(1, vr (some (hn A))), (0, vr x0)] (by decide) rfl ?_
  refine h_newF hM dL_law_8 (by decide) rfl (lw_LW q1024) (lw_LW q1025) (lw_LW q79) rfl hf (fun A8 hf => ?_)
  refine g_dup hX dL_law_11 rfl ?_
  obtain ⟨A12, hc12, hf⟩ := ob_some hf
  refine h_callI hM [] dL_law_12 cs_SlimeNetLaw_12_s (m_X4_init hc12) rfl rfl rfl rfl ?_
  refine g_astore_n hX dL_law_15 [(2, vr (some (hn A4))), (1, vr (some (hn A))), (0, vr x0)] (by decide) rfl ?_
  refine g_iconst hX dL_law_16 (0 : Int32) (by decide) ?_
  refine g_istore_n hX dL_law_17 [(3, vi (0 : Int32)), (2, vr (some (hn A4))), (1, vr (some (hn A))), (0, vr x0)] (by decide) rfl ?_
  exact g_pick (w_l_L_law_18 hM hf hr) [3, 2, 1, 0] rfl

theorem m_L_law {l : Launch} {x0 : Option Nat} {A : AH} {out : Int32 × AH} (h : f_L_law x0 A = some out) : MetF l yL_law (Cond.code yL_law cL_law 4 (some Jvm.ClassFile.FieldType.boolean)) rm_L_law [vr x0] A (r_L_law A out) :=
  metF_of rfl rfl (Nat.le_of_ble_eq_true rfl) fun X hX hl hR hnm hr h1 h2 hno => w_f_L_law (X := X) ⟨hX, hR, h1, h2, fun _ => ⟨hnm, hno⟩⟩ h hr

