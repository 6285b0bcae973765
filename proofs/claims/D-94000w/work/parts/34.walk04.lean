/-! SlimeNet$Slime.lay(III)V -/
def rm_X3_lay : Room := { frames := 11, cells := 0, slots := 0, locals := 1050 }
def r_X3_lay (_A : AH) (o : AH) : (Option AV × AH) ⊕ (Nat × AH) := .inl (none, o)
def k_X3_lay_8 (X : Ctx) (this : Nat) (x1 : Int32) (x2 : Int32) (x3 : Int32) : ((Int32 × AH) ⊕ (AH)) → Prop
  | .inl (x4, A) => G X 0 0 8 [(0, vr (some this)), (1, vi x1), (2, vi x2), (3, vi x3), (4, vi x4)] [] A
  | .inr A => G X 0 0 73 [(0, vr (some this)), (1, vi x1), (3, vi x3)] [] A

def k_X3_lay_92 (X : Ctx) (this : Nat) (x1 : Int32) (x3 : Int32) : ((Int32 × AH) ⊕ (AH)) → Prop
  | .inl (x4, A) => G X 0 0 92 [(0, vr (some this)), (1, vi x1), (3, vi x3), (4, vi x4)] [] A
  | .inr A => G X 0 0 261 [(0, vr (some this)), (1, vi x1), (3, vi x3)] [] A

def k_X3_lay_293 (X : Ctx) (this : Nat) (x3 : Int32) : ((Int32 × AH) ⊕ (AH)) → Prop
  | .inl (x4, A) => G X 0 0 293 [(0, vr (some this)), (3, vi x3), (4, vi x4)] [] A
  | .inr A => G X 0 0 344 [(0, vr (some this)), (3, vi x3)] [] A

def k_X3_lay_347 (X : Ctx) (this : Nat) (x3 : Int32) : ((Int32 × AH) ⊕ (AH)) → Prop
  | .inl (x4, A) => G X 0 0 347 [(0, vr (some this)), (3, vi x3), (4, vi x4)] [] A
  | .inr A => G X 0 0 443 [] [] A

set_option maxRecDepth 100000 in
theorem w_f_X3_lay_67 {X : Ctx} (hM : MX X yX3_lay cX3_lay 10 "SlimeNet$Slime" none rm_X3_lay []) {this : Nat} {x1 : Int32} {x2 : Int32} {x3 : Int32} {x4 : Int32} {A : AH} {out : (Int32 × AH) ⊕ (AH)} (hf : f_X3_lay_67 this x1 x2 x3 x4 A = some out) (K : k_X3_lay_8 X this x1 x2 x3 out) : G X 0 0 67 [(0, vr (some this)), (1, vi x1), (2, vi x2), (3, vi x3), (4, vi x4)] [] A := by
  have hX := hM.1
  unfold f_X3_lay_67 at hf
  refine g_iinc hX dX3_lay_67 (1 : Int32) (x4 + (1 : Int32)) [(4, vi (x4 + (1 : Int32))), (0, vr (some this)), (1, vi x1), (2, vi x2), (3, vi x3)] (by decide) rfl (lg_at 4 rfl) (by decide) rfl ?_
  refine g_goto hX dX3_lay_70 8 (by decide) ?_
  cases hf
  exact g_pick (show G X _ _ _ _ _ _ from K) [1, 2, 3, 4, 0] rfl

set_option maxRecDepth 100000 in
theorem w_f_X3_lay_255 {X : Ctx} (hM : MX X yX3_lay cX3_lay 10 "SlimeNet$Slime" none rm_X3_lay []) {this : Nat} {x1 : Int32} {x3 : Int32} {x4 : Int32} {A : AH} {out : (Int32 × AH) ⊕ (AH)} (hf : f_X3_lay_255 this x1 x3 x4 A = some out) (K : k_X3_lay_92 X this x1 x3 out) : G X 0 0 255 [(0, vr (some this)), (1, vi x1), (3, vi x3), (4, vi x4)] [] A := by
  have hX := hM.1
  unfold f_X3_lay_255 at hf
  refine g_iinc hX dX3_lay_255 (1 : Int32) (x4 + (1 : Int32)) [(4, vi (x4 + (1 : Int32))), (0, vr (some this)), (1, vi x1), (3, vi x3)] (by decide) rfl (lg_at 3 rfl) (by decide) rfl ?_
  refine g_goto hX dX3_lay_258 92 (by decide) ?_
  cases hf
  exact g_pick (show G X _ _ _ _ _ _ from K) [1, 2, 3, 0] rfl

set_option maxRecDepth 100000 in
theorem w_f_X3_lay_204 {X : Ctx} (hM : MX X yX3_lay cX3_lay 10 "SlimeNet$Slime" none rm_X3_lay []) {this : Nat} {x1 : Int32} {x3 : Int32} {x4 : Int32} {x6 : Int32} {x7 : Int32} {x8 : Int64} {A : AH} {out : (Int32 × AH) ⊕ (AH)} (hf : f_X3_lay_204 this x1 x3 x4 x6 x7 x8 A = some out) (K : k_X3_lay_92 X this x1 x3 out) : G X 0 0 204 [(0, vr (some this)), (1, vi x1), (3, vi x3), (4, vi x4), (6, vi x6), (7, vi x7), (8, vl x8)] [] A := by
  have hX := hM.1
  unfold f_X3_lay_204 at hf
  refine g_iload hX dX3_lay_204 (lg_at 4 rfl) ?_
  refine g_iconst hX dX3_lay_206 (-1 : Int32) (by decide) ?_
  refine g_icmp_eq hX dX3_lay_207 255 hf (by decide) (fun c207 hf => ?_) (fun c207 hf => ?_)
  · exact g_pick (w_f_X3_lay_255 hM hf K) [0, 1, 2, 3] rfl
  · refine g_iload hX dX3_lay_210 (lg_at 5 rfl) ?_
    refine g_iconst hX dX3_lay_212 (-1 : Int32) (by decide) ?_
    refine g_icmp_ne hX dX3_lay_213 219 hf (by decide) (fun c213 hf => ?_) (fun c213 hf => ?_)
    · refine g_aload_n hX dX3_lay_219 (lg_at 0 rfl) ?_
      refine g_getR hX hf fs_SlimeNet_Slime_21_4 rfl dX3_lay_220 (fun v220 hf => ?_)
      refine g_bipush hX dX3_lay_223 (6 : Int32) (by decide) ?_
      refine g_iload hX dX3_lay_225 (lg_at 4 rfl) ?_
      refine g_imul hX dX3_lay_227 ?_
      refine g_iload hX dX3_lay_228 (lg_at 5 rfl) ?_
      refine g_iadd hX dX3_lay_230 ?_
      refine g_dup2 hX dX3_lay_231 rfl rfl ?_
      refine g_lald hX hf dX3_lay_232 (fun v232 hf => ?_)
      refine g_lload hX dX3_lay_233 (lg_at 6 rfl) ?_
      refine g_lsub hX dX3_lay_235 ?_
      refine g_last hX hf dX3_lay_236 (fun A236 hf => ?_)
      refine g_aload_n hX dX3_lay_237 (lg_at 0 rfl) ?_
      refine g_getR hX hf fs_SlimeNet_Slime_21_4 rfl dX3_lay_238 (fun v238 hf => ?_)
      refine g_bipush hX dX3_lay_241 (6 : Int32) (by decide) ?_
      refine g_iload hX dX3_lay_243 (lg_at 5 rfl) ?_
      refine g_imul hX dX3_lay_245 ?_
      refine g_iload hX dX3_lay_246 (lg_at 4 rfl) ?_
      refine g_iadd hX dX3_lay_248 ?_
      refine g_dup2 hX dX3_lay_249 rfl rfl ?_
      refine g_lald hX hf dX3_lay_250 (fun v250 hf => ?_)
      refine g_lload hX dX3_lay_251 (lg_at 6 rfl) ?_
      refine g_lsub hX dX3_lay_253 ?_
      refine g_last hX hf dX3_lay_254 (fun A254 hf => ?_)
      exact g_pick (w_f_X3_lay_255 hM hf K) [0, 1, 2, 3] rfl
    · refine g_goto hX dX3_lay_216 255 (by decide) ?_
      exact g_pick (w_f_X3_lay_255 hM hf K) [0, 1, 2, 3] rfl

set_option maxRecDepth 100000 in
theorem w_f_X3_lay_180 {X : Ctx} (hM : MX X yX3_lay cX3_lay 10 "SlimeNet$Slime" none rm_X3_lay []) {this : Nat} {x1 : Int32} {x3 : Int32} {x4 : Int32} {x6 : Int32} {x7 : Int32} {x8 : Int64} {A : AH} {out : (Int32 × AH) ⊕ (AH)} (hf : f_X3_lay_180 this x1 x3 x4 x6 x7 x8 A = some out) (K : k_X3_lay_92 X this x1 x3 out) : G X 0 0 180 [(0, vr (some this)), (1, vi x1), (3, vi x3), (4, vi x4), (6, vi x6), (7, vi x7), (8, vl x8)] [] A := by
  have hX := hM.1
  unfold f_X3_lay_180 at hf
  refine g_iload hX dX3_lay_180 (lg_at 5 rfl) ?_
  refine g_iconst hX dX3_lay_182 (-1 : Int32) (by decide) ?_
  refine g_icmp_eq hX dX3_lay_183 204 hf (by decide) (fun c183 hf => ?_) (fun c183 hf => ?_)
  · exact g_pick (w_f_X3_lay_204 hM hf K) [0, 1, 2, 3, 4, 5, 6] rfl
  · refine g_aload_n hX dX3_lay_186 (lg_at 0 rfl) ?_
    refine g_getR hX hf fs_SlimeNet_Slime_21_4 rfl dX3_lay_187 (fun v187 hf => ?_)
    refine g_bipush hX dX3_lay_190 (6 : Int32) (by decide) ?_
    refine g_iload hX dX3_lay_192 (lg_at 5 rfl) ?_
    refine g_imul hX dX3_lay_194 ?_
    refine g_iload hX dX3_lay_195 (lg_at 5 rfl) ?_
    refine g_iadd hX dX3_lay_197 ?_
    refine g_dup2 hX dX3_lay_198 rfl rfl ?_
    refine g_lald hX hf dX3_lay_199 (fun v199 hf => ?_)
    refine g_lload hX dX3_lay_200 (lg_at 6 rfl) ?_
    refine g_ladd hX dX3_lay_202 ?_
    refine g_last hX hf dX3_lay_203 (fun A203 hf => ?_)
    exact g_pick (w_f_X3_lay_204 hM hf K) [0, 1, 2, 3, 4, 5, 6] rfl

set_option maxRecDepth 100000 in
theorem w_f_X3_lay_337 {X : Ctx} (hM : MX X yX3_lay cX3_lay 10 "SlimeNet$Slime" none rm_X3_lay []) {this : Nat} {x3 : Int32} {x4 : Int32} {t0 : Int64} {t1 : Int32} {t2 : Option Nat} {A : AH} {out : (Int32 × AH) ⊕ (AH)} (hf : f_X3_lay_337 this x3 x4 t0 t1 t2 A = some out) (K : k_X3_lay_293 X this x3 out) : G X 0 0 337 [(0, vr (some this)), (3, vi x3), (4, vi x4)] [vl t0, vi t1, vr t2] A := by
  have hX := hM.1
  unfold f_X3_lay_337 at hf
  refine g_last hX hf dX3_lay_337 (fun A337 hf => ?_)
  refine g_iinc hX dX3_lay_338 (1 : Int32) (x4 + (1 : Int32)) [(4, vi (x4 + (1 : Int32))), (0, vr (some this)), (3, vi x3)] (by decide) rfl (lg_at 2 rfl) (by decide) rfl ?_
  refine g_goto hX dX3_lay_341 293 (by decide) ?_
  cases hf
  exact g_pick (show G X _ _ _ _ _ _ from K) [1, 2, 0] rfl

set_option maxRecDepth 100000 in
theorem w_f_X3_lay_437 {X : Ctx} (hM : MX X yX3_lay cX3_lay 10 "SlimeNet$Slime" none rm_X3_lay []) {this : Nat} {x3 : Int32} {x4 : Int32} {A : AH} {out : (Int32 × AH) ⊕ (AH)} (hf : f_X3_lay_437 this x3 x4 A = some out) (K : k_X3_lay_347 X this x3 out) : G X 0 0 437 [(0, vr (some this)), (3, vi x3), (4, vi x4)] [] A := by
  have hX := hM.1
  unfold f_X3_lay_437 at hf
  refine g_iinc hX dX3_lay_437 (1 : Int32) (x4 + (1 : Int32)) [(4, vi (x4 + (1 : Int32))), (0, vr (some this)), (3, vi x3)] (by decide) rfl (lg_at 2 rfl) (by decide) rfl ?_
  refine g_goto hX dX3_lay_440 347 (by decide) ?_
  cases hf
  exact g_pick (show G X _ _ _ _ _ _ from K) [1, 2, 0] rfl

set_option maxRecDepth 100000 in
theorem w_s_X3_lay_347 {X : Ctx} (hM : MX X yX3_lay cX3_lay 10 "SlimeNet$Slime" none rm_X3_lay []) {this : Nat} {x3 : Int32} {st : Int32 × AH} {out : (Int32 × AH) ⊕ (AH)} (hf : s_X3_lay_347 this x3 st = some out) (K : k_X3_lay_347 X this x3 out) : k_X3_lay_347 X this x3 (.inl st) := by
  have hX := hM.1
  obtain ⟨x4, A⟩ := st
  unfold s_X3_lay_347 at hf
  dsimp only at hf
  show G X 0 0 347 [(0, vr (some this)), (3, vi x3), (4, vi x4)] [] A
  refine g_iload hX dX3_lay_347 (lg_at 2 rfl) ?_
  refine g_aload_n hX dX3_lay_349 (lg_at 0 rfl) ?_
  refine g_getR hX hf fs_SlimeNet_Slime_34_4 rfl dX3_lay_350 (fun v350 hf => ?_)
  refine g_getR hX hf fs_SlimeNet_Slime_52_3 rfl dX3_lay_353 (fun v353 hf => ?_)
  obtain ⟨k356, hk356, hf⟩ := ob_some hf
  obtain ⟨v356, hc356, hf⟩ := ob_some hf
  refine h_callV hM [] dX3_lay_356 cs_SlimeNet_Slime_56_8 hk356 (m_J4_size hc356) rfl rfl rfl rfl ?_
  refine g_icmp_ge hX dX3_lay_359 443 hf (by decide) (fun c359 hf => ?_) (fun c359 hf => ?_)
  · cases hf
    exact g_pick (show G X _ _ _ _ _ _ from K) [] rfl
  · refine g_aload_n hX dX3_lay_362 (lg_at 0 rfl) ?_
    refine g_getR hX hf fs_SlimeNet_Slime_34_4 rfl dX3_lay_363 (fun v363 hf => ?_)
    refine g_getR hX hf fs_SlimeNet_Slime_52_3 rfl dX3_lay_366 (fun v366 hf => ?_)
    refine g_iload hX dX3_lay_369 (lg_at 2 rfl) ?_
    obtain ⟨k371, hk371, hf⟩ := ob_some hf
    obtain ⟨v371, hc371, hf⟩ := ob_some hf
    refine h_callV hM [vi x4] dX3_lay_371 cs_SlimeNet_Slime_123_8 hk371 (m_J4_get hc371) rfl rfl rfl rfl ?_
    refine g_castC hX (by decide) rfl (lw_LW q823) hf dX3_lay_374 (fun hf => ?_)
    refine g_astore hX dX3_lay_377 [(5, vr v371), (0, vr (some this)), (3, vi x3), (4, vi x4)] (by decide) rfl ?_
    refine g_aload_n hX dX3_lay_379 (lg_at 1 rfl) ?_
    refine g_getR hX hf fs_SlimeNet_Slime_9_4 rfl dX3_lay_380 (fun v380 hf => ?_)
    refine g_iload hX dX3_lay_383 (lg_at 3 rfl) ?_
    refine g_iald hX hf dX3_lay_385 (fun v385 hf => ?_)
    refine g_if_le hX dX3_lay_386 437 hf (by decide) (fun c386 hf => ?_) (fun c386 hf => ?_)
    · exact g_pick (w_f_X3_lay_437 hM hf K) [1, 2, 3] rfl
    · refine g_iload_n hX dX3_lay_389 (lg_at 2 rfl) ?_
      refine g_aload hX dX3_lay_390 (lg_at 0 rfl) ?_
      refine g_getI hX hf fs_SlimeNet_Slime_127_7 rfl dX3_lay_392 (fun v392 hf => ?_)
      refine g_ishr hX dX3_lay_395 ?_
      refine g_iconst hX dX3_lay_396 (1 : Int32) (by decide) ?_
      refine g_iand hX dX3_lay_397 ?_
      refine g_iconst hX dX3_lay_398 (1 : Int32) (by decide) ?_
      refine g_icmp_ne hX dX3_lay_399 437 hf (by decide) (fun c399 hf => ?_) (fun c399 hf => ?_)
      · exact g_pick (w_f_X3_lay_437 hM hf K) [1, 2, 3] rfl
      · refine g_aload_n hX dX3_lay_402 (lg_at 1 rfl) ?_
        refine g_getR hX hf fs_SlimeNet_Slime_31_4 rfl dX3_lay_403 (fun v403 hf => ?_)
        refine g_iload hX dX3_lay_406 (lg_at 3 rfl) ?_
        refine g_aload_n hX dX3_lay_408 (lg_at 1 rfl) ?_
        refine g_aload hX dX3_lay_409 (lg_at 0 rfl) ?_
        obtain ⟨k411, hk411, hf⟩ := ob_some hf
        obtain ⟨v411, hc411, hf⟩ := ob_some hf
        refine h_callV hM [vr v371] dX3_lay_411 cs_SlimeNet_Slime_133_4 hk411 (m_X3_leads hc411) rfl rfl rfl rfl ?_
        refine g_aload_n hX dX3_lay_414 (lg_at 1 rfl) ?_
        refine g_getR hX hf fs_SlimeNet_Slime_28_4 rfl dX3_lay_415 (fun v415 hf => ?_)
        refine g_aload hX dX3_lay_418 (lg_at 0 rfl) ?_
        refine g_getI hX hf fs_SlimeNet_Slime_127_7 rfl dX3_lay_420 (fun v420 hf => ?_)
        refine g_lald hX hf dX3_lay_423 (fun v423 hf => ?_)
        refine g_aload_n hX dX3_lay_424 (lg_at 1 rfl) ?_
        refine g_getR hX hf fs_SlimeNet_Slime_28_4 rfl dX3_lay_425 (fun v425 hf => ?_)
        refine g_aload hX dX3_lay_428 (lg_at 0 rfl) ?_
        refine g_getI hX hf fs_SlimeNet_Slime_130_7 rfl dX3_lay_430 (fun v430 hf => ?_)
        refine g_lald hX hf dX3_lay_433 (fun v433 hf => ?_)
        refine g_lsub hX dX3_lay_434 ?_
        refine g_lmul hX dX3_lay_435 ?_
        refine g_last hX hf dX3_lay_436 (fun A436 hf => ?_)
        exact g_pick (w_f_X3_lay_437 hM hf K) [1, 2, 3] rfl

set_option maxRecDepth 100000 in
theorem w_l_X3_lay_347 {X : Ctx} (hM : MX X yX3_lay cX3_lay 10 "SlimeNet$Slime" none rm_X3_lay []) {this : Nat} {x3 : Int32} {x4 : Int32} {A : AH} {out : AH} (hf : l_X3_lay_347 this x3 x4 A = some out) (hr : c_res X = r_X3_lay A out) : G X 0 0 347 [(0, vr (some this)), (3, vi x3), (4, vi x4)] [] A := by
  have hX := hM.1
  unfold l_X3_lay_347 at hf
  obtain ⟨e, hw, hf⟩ := ob_some hf
  refine (whl_ind (k_X3_lay_347 X this x3) (fun st o hs K => w_s_X3_lay_347 hM hs K) hw ?_ : k_X3_lay_347 X this x3 (.inl (x4, A)))
  revert hf hw; generalize e = A; intro hw hf
  dsimp only at hf
  show G X 0 0 443 [] [] A
  cases hf
  exact h_vret hM dX3_lay_443 hr rfl rfl

set_option maxRecDepth 100000 in
theorem w_s_X3_lay_293 {X : Ctx} (hM : MX X yX3_lay cX3_lay 10 "SlimeNet$Slime" none rm_X3_lay []) {this : Nat} {x3 : Int32} {st : Int32 × AH} {out : (Int32 × AH) ⊕ (AH)} (hf : s_X3_lay_293 this x3 st = some out) (K : k_X3_lay_293 X this x3 out) : k_X3_lay_293 X this x3 (.inl st) := by
  have hX := hM.1
  obtain ⟨x4, A⟩ := st
  unfold s_X3_lay_293 at hf
  dsimp only at hf
  show G X 0 0 293 [(0, vr (some this)), (3, vi x3), (4, vi x4)] [] A
  refine g_iload hX dX3_lay_293 (lg_at 2 rfl) ?_
  refine g_aload_n hX dX3_lay_295 (lg_at 0 rfl) ?_
  refine g_getR hX hf fs_SlimeNet_Slime_34_4 rfl dX3_lay_296 (fun v296 hf => ?_)
  refine g_getI hX hf fs_SlimeNet_Slime_120_3 rfl dX3_lay_299 (fun v299 hf => ?_)
  refine g_icmp_ge hX dX3_lay_302 344 hf (by decide) (fun c302 hf => ?_) (fun c302 hf => ?_)
  · cases hf
    exact g_pick (show G X _ _ _ _ _ _ from K) [0, 1] rfl
  · refine g_aload_n hX dX3_lay_305 (lg_at 0 rfl) ?_
    refine g_getR hX hf fs_SlimeNet_Slime_28_4 rfl dX3_lay_306 (fun v306 hf => ?_)
    refine g_iload hX dX3_lay_309 (lg_at 2 rfl) ?_
    refine g_aload_n hX dX3_lay_311 (lg_at 0 rfl) ?_
    refine g_getR hX hf fs_SlimeNet_Slime_18_4 rfl dX3_lay_312 (fun v312 hf => ?_)
    refine g_iload hX dX3_lay_315 (lg_at 2 rfl) ?_
    refine g_iald hX hf dX3_lay_317 (fun v317 hf => ?_)
    refine g_iconst hX dX3_lay_318 (-1 : Int32) (by decide) ?_
    refine g_icmp_ne hX dX3_lay_319 326 hf (by decide) (fun c319 hf => ?_) (fun c319 hf => ?_)
    · refine g_aload_n hX dX3_lay_326 (lg_at 0 rfl) ?_
      refine g_aload_n hX dX3_lay_327 (lg_at 0 rfl) ?_
      refine g_getR hX hf fs_SlimeNet_Slime_18_4 rfl dX3_lay_328 (fun v328 hf => ?_)
      refine g_iload hX dX3_lay_331 (lg_at 2 rfl) ?_
      refine g_iald hX hf dX3_lay_333 (fun v333 hf => ?_)
      obtain ⟨k334, hk334, hf⟩ := ob_some hf
      obtain ⟨⟨v334, A334⟩, hc334, hf⟩ := ob_some hf
      refine h_callV hM [vi v333] dX3_lay_334 cs_SlimeNet_Slime_137_4 hk334 (m_X3_inPlace hc334) rfl rfl rfl rfl ?_
      dsimp only at hf
      exact g_pick (w_f_X3_lay_337 hM hf K) [0, 1, 2] rfl
    · refine g_lconst hX dX3_lay_322 (0 : Int64) (by decide) ?_
      refine g_goto hX dX3_lay_323 337 (by decide) ?_
      exact g_pick (w_f_X3_lay_337 hM hf K) [0, 1, 2] rfl

set_option maxRecDepth 100000 in
theorem w_l_X3_lay_293 {X : Ctx} (hM : MX X yX3_lay cX3_lay 10 "SlimeNet$Slime" none rm_X3_lay []) {this : Nat} {x3 : Int32} {x4 : Int32} {A : AH} {out : AH} (hf : l_X3_lay_293 this x3 x4 A = some out) (hr : c_res X = r_X3_lay A out) : G X 0 0 293 [(0, vr (some this)), (3, vi x3), (4, vi x4)] [] A := by
  have hX := hM.1
  unfold l_X3_lay_293 at hf
  obtain ⟨e, hw, hf⟩ := ob_some hf
  refine (whl_ind (k_X3_lay_293 X this x3) (fun st o hs K => w_s_X3_lay_293 hM hs K) hw ?_ : k_X3_lay_293 X this x3 (.inl (x4, A)))
  revert hf hw; generalize e = A; intro hw hf
  dsimp only at hf
  show G X 0 0 344 [(0, vr (some this)), (3, vi x3)] [] A
  refine g_iconst hX dX3_lay_344 (0 : Int32) (by decide) ?_
  refine g_istore hX dX3_lay_345 [(4, vi (0 : Int32)), (0, vr (some this)), (3, vi x3)] (by decide) rfl ?_
  exact g_pick (w_l_X3_lay_347 hM hf hr) [1, 2, 0] rfl

set_option maxRecDepth 100000 in
theorem w_s_X3_lay_92 {X : Ctx} (hM : MX X yX3_lay cX3_lay 10 "SlimeNet$Slime" none rm_X3_lay []) {this : Nat} {x1 : Int32} {x3 : Int32} {st : Int32 × AH} {out : (Int32 × AH) ⊕ (AH)} (hf : s_X3_lay_92 this x1 x3 st = some out) (K : k_X3_lay_92 X this x1 x3 out) : k_X3_lay_92 X this x1 x3 (.inl st) := by
  have hX := hM.1
  obtain ⟨x4, A⟩ := st
  unfold s_X3_lay_92 at hf
  dsimp only at hf
  show G X 0 0 92 [(0, vr (some this)), (1, vi x1), (3, vi x3), (4, vi x4)] [] A
  refine g_iload hX dX3_lay_92 (lg_at 3 rfl) ?_
  refine g_aload_n hX dX3_lay_94 (lg_at 0 rfl) ?_
  refine g_getR hX hf fs_SlimeNet_Slime_34_4 rfl dX3_lay_95 (fun v95 hf => ?_)
  refine g_getR hX hf fs_SlimeNet_Slime_52_3 rfl dX3_lay_98 (fun v98 hf => ?_)
  obtain ⟨k101, hk101, hf⟩ := ob_some hf
  obtain ⟨v101, hc101, hf⟩ := ob_some hf
  refine h_callV hM [] dX3_lay_101 cs_SlimeNet_Slime_56_8 hk101 (m_J4_size hc101) rfl rfl rfl rfl ?_
  refine g_icmp_ge hX dX3_lay_104 261 hf (by decide) (fun c104 hf => ?_) (fun c104 hf => ?_)
  · cases hf
    exact g_pick (show G X _ _ _ _ _ _ from K) [0, 1, 2] rfl
  · refine g_aload_n hX dX3_lay_107 (lg_at 0 rfl) ?_
    refine g_getR hX hf fs_SlimeNet_Slime_34_4 rfl dX3_lay_108 (fun v108 hf => ?_)
    refine g_getR hX hf fs_SlimeNet_Slime_52_3 rfl dX3_lay_111 (fun v111 hf => ?_)
    refine g_iload hX dX3_lay_114 (lg_at 3 rfl) ?_
    obtain ⟨k116, hk116, hf⟩ := ob_some hf
    obtain ⟨v116, hc116, hf⟩ := ob_some hf
    refine h_callV hM [vi x4] dX3_lay_116 cs_SlimeNet_Slime_123_8 hk116 (m_J4_get hc116) rfl rfl rfl rfl ?_
    refine g_castC hX (by decide) rfl (lw_LW q823) hf dX3_lay_119 (fun hf => ?_)
    refine g_astore hX dX3_lay_122 [(5, vr v116), (0, vr (some this)), (1, vi x1), (3, vi x3), (4, vi x4)] (by decide) rfl ?_
    refine g_aload_n hX dX3_lay_124 (lg_at 1 rfl) ?_
    refine g_getR hX hf fs_SlimeNet_Slime_18_4 rfl dX3_lay_125 (fun v125 hf => ?_)
    refine g_aload hX dX3_lay_128 (lg_at 0 rfl) ?_
    refine g_getI hX hf fs_SlimeNet_Slime_127_7 rfl dX3_lay_130 (fun v130 hf => ?_)
    refine g_iald hX hf dX3_lay_133 (fun v133 hf => ?_)
    refine g_istore hX dX3_lay_134 [(6, vi v133), (5, vr v116), (0, vr (some this)), (1, vi x1), (3, vi x3), (4, vi x4)] (by decide) rfl ?_
    refine g_aload_n hX dX3_lay_136 (lg_at 2 rfl) ?_
    refine g_getR hX hf fs_SlimeNet_Slime_18_4 rfl dX3_lay_137 (fun v137 hf => ?_)
    refine g_aload hX dX3_lay_140 (lg_at 1 rfl) ?_
    refine g_getI hX hf fs_SlimeNet_Slime_130_7 rfl dX3_lay_142 (fun v142 hf => ?_)
    refine g_iald hX hf dX3_lay_145 (fun v145 hf => ?_)
    refine g_istore hX dX3_lay_146 [(7, vi v145), (6, vi v133), (5, vr v116), (0, vr (some this)), (1, vi x1), (3, vi x3), (4, vi x4)] (by decide) rfl ?_
    refine g_aload_n hX dX3_lay_148 (lg_at 3 rfl) ?_
    refine g_aload hX dX3_lay_149 (lg_at 2 rfl) ?_
    obtain ⟨k151, hk151, hf⟩ := ob_some hf
    obtain ⟨v151, hc151, hf⟩ := ob_some hf
    refine h_callV hM [vr v116] dX3_lay_151 cs_SlimeNet_Slime_133_4 hk151 (m_X3_leads hc151) rfl rfl rfl rfl ?_
    refine g_lstore hX dX3_lay_154 [(8, vl v151), (7, vi v145), (6, vi v133), (5, vr v116), (0, vr (some this)), (1, vi x1), (3, vi x3), (4, vi x4)] (by decide) rfl ?_
    refine g_iload hX dX3_lay_156 (lg_at 2 rfl) ?_
    refine g_iconst hX dX3_lay_158 (-1 : Int32) (by decide) ?_
    refine g_icmp_eq hX dX3_lay_159 180 hf (by decide) (fun c159 hf => ?_) (fun c159 hf => ?_)
    · exact g_pick (w_f_X3_lay_180 hM hf K) [4, 5, 6, 7, 2, 1, 0] rfl
    · refine g_aload_n hX dX3_lay_162 (lg_at 4 rfl) ?_
      refine g_getR hX hf fs_SlimeNet_Slime_21_4 rfl dX3_lay_163 (fun v163 hf => ?_)
      refine g_bipush hX dX3_lay_166 (6 : Int32) (by decide) ?_
      refine g_iload hX dX3_lay_168 (lg_at 2 rfl) ?_
      refine g_imul hX dX3_lay_170 ?_
      refine g_iload hX dX3_lay_171 (lg_at 2 rfl) ?_
      refine g_iadd hX dX3_lay_173 ?_
      refine g_dup2 hX dX3_lay_174 rfl rfl ?_
      refine g_lald hX hf dX3_lay_175 (fun v175 hf => ?_)
      refine g_lload hX dX3_lay_176 (lg_at 0 rfl) ?_
      refine g_ladd hX dX3_lay_178 ?_
      refine g_last hX hf dX3_lay_179 (fun A179 hf => ?_)
      exact g_pick (w_f_X3_lay_180 hM hf K) [4, 5, 6, 7, 2, 1, 0] rfl

set_option maxRecDepth 100000 in
theorem w_l_X3_lay_92 {X : Ctx} (hM : MX X yX3_lay cX3_lay 10 "SlimeNet$Slime" none rm_X3_lay []) {this : Nat} {x1 : Int32} {x3 : Int32} {x4 : Int32} {A : AH} {out : AH} (hf : l_X3_lay_92 this x1 x3 x4 A = some out) (hr : c_res X = r_X3_lay A out) : G X 0 0 92 [(0, vr (some this)), (1, vi x1), (3, vi x3), (4, vi x4)] [] A := by
  have hX := hM.1
  unfold l_X3_lay_92 at hf
  obtain ⟨e, hw, hf⟩ := ob_some hf
  refine (whl_ind (k_X3_lay_92 X this x1 x3) (fun st o hs K => w_s_X3_lay_92 hM hs K) hw ?_ : k_X3_lay_92 X this x1 x3 (.inl (x4, A)))
  revert hf hw; generalize e = A; intro hw hf
  dsimp only at hf
  show G X 0 0 261 [(0, vr (some this)), (1, vi x1), (3, vi x3)] [] A
  refine g_aload_n hX dX3_lay_261 (lg_at 0 rfl) ?_
  refine g_getR hX hf fs_SlimeNet_Slime_25_4 rfl dX3_lay_262 (fun v262 hf => ?_)
  refine g_aload_n hX dX3_lay_265 (lg_at 0 rfl) ?_
  refine g_getR hX hf fs_SlimeNet_Slime_18_4 rfl dX3_lay_266 (fun v266 hf => ?_)
  refine g_iload_n hX dX3_lay_269 (lg_at 1 rfl) ?_
  refine g_iald hX hf dX3_lay_270 (fun v270 hf => ?_)
  refine g_lconst hX dX3_lay_271 (1 : Int64) (by decide) ?_
  refine g_last hX hf dX3_lay_272 (fun A272 hf => ?_)
  refine g_aload_n hX dX3_lay_273 (lg_at 0 rfl) ?_
  refine g_aload_n hX dX3_lay_274 (lg_at 0 rfl) ?_
  refine g_iconst hX dX3_lay_275 (0 : Int32) (by decide) ?_
  refine g_iconst hX dX3_lay_276 (1 : Int32) (by decide) ?_
  refine g_aload_n hX dX3_lay_277 (lg_at 0 rfl) ?_
  refine g_getI hX hf fs_SlimeNet_Slime_79_4 rfl dX3_lay_278 (fun v278 hf => ?_)
  refine g_ishl hX dX3_lay_281 ?_
  refine g_iconst hX dX3_lay_282 (1 : Int32) (by decide) ?_
  refine g_isub hX dX3_lay_283 ?_
  obtain ⟨k284, hk284, hf⟩ := ob_some hf
  obtain ⟨v284, hc284, hf⟩ := ob_some hf
  refine h_callV hM [vi (0 : Int32), vi (((1 : Int32) <<< (v278 &&& 31)) - (1 : Int32))] dX3_lay_284 cs_SlimeNet_Slime_82_4 hk284 (m_X3_minor 8 hc284) rfl rfl rfl rfl ?_
  refine g_putL hX hf fs_SlimeNet_Slime_96_4 ⟨_, rfl, Or.inl rfl⟩ rfl dX3_lay_287 (fun A287 hf => ?_)
  refine g_iconst hX dX3_lay_290 (0 : Int32) (by decide) ?_
  refine g_istore hX dX3_lay_291 [(4, vi (0 : Int32)), (0, vr (some this)), (1, vi x1), (3, vi x3)] (by decide) rfl ?_
  exact g_pick (w_l_X3_lay_293 hM hf hr) [1, 3, 0] rfl

set_option maxRecDepth 100000 in
theorem w_s_X3_lay_8 {X : Ctx} (hM : MX X yX3_lay cX3_lay 10 "SlimeNet$Slime" none rm_X3_lay []) {this : Nat} {x1 : Int32} {x2 : Int32} {x3 : Int32} {st : Int32 × AH} {out : (Int32 × AH) ⊕ (AH)} (hf : s_X3_lay_8 this x1 x2 x3 st = some out) (K : k_X3_lay_8 X this x1 x2 x3 out) : k_X3_lay_8 X this x1 x2 x3 (.inl st) := by
  have hX := hM.1
  obtain ⟨x4, A⟩ := st
  unfold s_X3_lay_8 at hf
  dsimp only at hf
  show G X 0 0 8 [(0, vr (some this)), (1, vi x1), (2, vi x2), (3, vi x3), (4, vi x4)] [] A
  refine g_iload hX dX3_lay_8 (lg_at 4 rfl) ?_
  refine g_aload_n hX dX3_lay_10 (lg_at 0 rfl) ?_
  refine g_getR hX hf fs_SlimeNet_Slime_34_4 rfl dX3_lay_11 (fun v11 hf => ?_)
  refine g_getI hX hf fs_SlimeNet_Slime_120_3 rfl dX3_lay_14 (fun v14 hf => ?_)
  refine g_icmp_ge hX dX3_lay_17 73 hf (by decide) (fun c17 hf => ?_) (fun c17 hf => ?_)
  · cases hf
    exact g_pick (show G X _ _ _ _ _ _ from K) [0, 1, 3] rfl
  · refine g_aload_n hX dX3_lay_20 (lg_at 0 rfl) ?_
    refine g_getR hX hf fs_SlimeNet_Slime_18_4 rfl dX3_lay_21 (fun v21 hf => ?_)
    refine g_iload hX dX3_lay_24 (lg_at 4 rfl) ?_
    refine g_iconst hX dX3_lay_26 (-1 : Int32) (by decide) ?_
    refine g_iast hX hf dX3_lay_27 (fun A27 hf => ?_)
    refine g_iload hX dX3_lay_28 (lg_at 4 rfl) ?_
    refine g_iload_n hX dX3_lay_30 (lg_at 2 rfl) ?_
    refine g_icmp_eq hX dX3_lay_31 67 hf (by decide) (fun c31 hf => ?_) (fun c31 hf => ?_)
    · exact g_pick (w_f_X3_lay_67 hM hf K) [0, 1, 2, 3, 4] rfl
    · refine g_iload_n hX dX3_lay_34 (lg_at 3 rfl) ?_
      refine g_iload hX dX3_lay_35 (lg_at 4 rfl) ?_
      refine g_ishr hX dX3_lay_37 ?_
      refine g_iconst hX dX3_lay_38 (1 : Int32) (by decide) ?_
      refine g_iand hX dX3_lay_39 ?_
      refine g_if_ne hX dX3_lay_40 46 hf (by decide) (fun c40 hf => ?_) (fun c40 hf => ?_)
      · refine g_aload_n hX dX3_lay_46 (lg_at 0 rfl) ?_
        refine g_getR hX hf fs_SlimeNet_Slime_18_4 rfl dX3_lay_47 (fun v47 hf => ?_)
        refine g_iload hX dX3_lay_50 (lg_at 4 rfl) ?_
        refine g_aload_n hX dX3_lay_52 (lg_at 0 rfl) ?_
        refine g_getI hX hf fs_SlimeNet_Slime_79_4 rfl dX3_lay_53 (fun v53 hf => ?_)
        refine g_iast hX hf dX3_lay_56 (fun A56 hf => ?_)
        refine g_aload_n hX dX3_lay_57 (lg_at 0 rfl) ?_
        refine g_dup hX dX3_lay_58 rfl ?_
        refine g_getI hX hf fs_SlimeNet_Slime_79_4 rfl dX3_lay_59 (fun v59 hf => ?_)
        refine g_iconst hX dX3_lay_62 (1 : Int32) (by decide) ?_
        refine g_iadd hX dX3_lay_63 ?_
        refine g_putI hX hf fs_SlimeNet_Slime_79_4 ⟨_, rfl, Or.inl rfl⟩ rfl dX3_lay_64 (fun A64 hf => ?_)
        exact g_pick (w_f_X3_lay_67 hM hf K) [0, 1, 2, 3, 4] rfl
      · refine g_goto hX dX3_lay_43 67 (by decide) ?_
        exact g_pick (w_f_X3_lay_67 hM hf K) [0, 1, 2, 3, 4] rfl

set_option maxRecDepth 100000 in
theorem w_l_X3_lay_8 {X : Ctx} (hM : MX X yX3_lay cX3_lay 10 "SlimeNet$Slime" none rm_X3_lay []) {this : Nat} {x1 : Int32} {x2 : Int32} {x3 : Int32} {x4 : Int32} {A : AH} {out : AH} (hf : l_X3_lay_8 this x1 x2 x3 x4 A = some out) (hr : c_res X = r_X3_lay A out) : G X 0 0 8 [(0, vr (some this)), (1, vi x1), (2, vi x2), (3, vi x3), (4, vi x4)] [] A := by
  have hX := hM.1
  unfold l_X3_lay_8 at hf
  obtain ⟨e, hw, hf⟩ := ob_some hf
  refine (whl_ind (k_X3_lay_8 X this x1 x2 x3) (fun st o hs K => w_s_X3_lay_8 hM hs K) hw ?_ : k_X3_lay_8 X this x1 x2 x3 (.inl (x4, A)))
  revert hf hw; generalize e = A; intro hw hf
  dsimp only at hf
  show G X 0 0 73 [(0, vr (some this)), (1, vi x1), (3, vi x3)] [] A
  refine g_aload_n hX dX3_lay_73 (lg_at 0 rfl) ?_
  refine g_getR hX hf fs_SlimeNet_Slime_21_4 rfl dX3_lay_74 (fun v74 hf => ?_)
  refine g_lconst hX dX3_lay_77 (0 : Int64) (by decide) ?_
  obtain ⟨A78, hc78, hf⟩ := ob_some hf
  refine h_callS hM [vr v74, vl (0 : Int64)] dX3_lay_78 cs_SlimeNet_Slime_90_s (m_J12_fill_2 hc78) rfl rfl rfl rfl ?_
  refine g_aload_n hX dX3_lay_81 (lg_at 0 rfl) ?_
  refine g_getR hX hf fs_SlimeNet_Slime_25_4 rfl dX3_lay_82 (fun v82 hf => ?_)
  refine g_lconst hX dX3_lay_85 (0 : Int64) (by decide) ?_
  obtain ⟨A86, hc86, hf⟩ := ob_some hf
  refine h_callS hM [vr v82, vl (0 : Int64)] dX3_lay_86 cs_SlimeNet_Slime_90_s (m_J12_fill_2 hc86) rfl rfl rfl rfl ?_
  refine g_iconst hX dX3_lay_89 (0 : Int32) (by decide) ?_
  refine g_istore hX dX3_lay_90 [(4, vi (0 : Int32)), (0, vr (some this)), (1, vi x1), (3, vi x3)] (by decide) rfl ?_
  exact g_pick (w_l_X3_lay_92 hM hf hr) [1, 2, 3, 0] rfl

set_option maxRecDepth 100000 in
theorem w_f_X3_lay {X : Ctx} (hM : MX X yX3_lay cX3_lay 10 "SlimeNet$Slime" none rm_X3_lay []) {this : Nat} {x1 : Int32} {x2 : Int32} {x3 : Int32} {A : AH} {out : AH} (hf : f_X3_lay this x1 x2 x3 A = some out) (hr : c_res X = r_X3_lay A out) : G X 0 0 0 [(0, vr (some this)), (1, vi x1), (2, vi x2), (3, vi x3)] [] A := by
  have hX := hM.1
  unfold f_X3_lay at hf
  refine g_aload_n hX dX3_lay_0 (lg_at 0 rfl) ?_
  refine g_iconst hX dX3_lay_1 (0 : Int32) (by decide) ?_
  refine g_putI hX hf fs_SlimeNet_Slime_79_4 ⟨_, rfl, Or.inl rfl⟩ rfl dX3_lay_2 (fun A2 hf => ?_)
  refine g_iconst hX dX3_lay_5 (0 : Int32) (by decide) ?_
  refine g_istore hX dX3_lay_6 [(4, vi (0 : Int32)), (0, vr (some this)), (1, vi x1), (2, vi x2), (3, vi x3)] (by decide) rfl ?_
  exact g_pick (w_l_X3_lay_8 hM hf hr) [1, 2, 3, 4, 0] rfl

theorem m_X3_lay {l : Launch} {this : Nat} {x1 : Int32} {x2 : Int32} {x3 : Int32} {A : AH} {out : AH} (h : f_X3_lay this x1 x2 x3 A = some out) : MetF l yX3_lay (Cond.code yX3_lay cX3_lay 10 none) rm_X3_lay [vr (some this), vi x1, vi x2, vi x3] A (r_X3_lay A out) :=
  metF_of rfl rfl (Nat.le_of_ble_eq_true rfl) fun X hX hl hR hnm hr h1 h2 hno => w_f_X3_lay (X := X) ⟨hX, hR, h1, h2, fun _ => ⟨hnm, hno⟩⟩ h hr

/-! SlimeNet$Slime.flow()V -/
def rm_X3_flow : Room := { frames := 12, cells := 0, slots := 0, locals := 1079 }
def r_X3_flow (_A : AH) (o : AH) : (Option AV × AH) ⊕ (Nat × AH) := .inl (none, o)
def k_X3_flow_39 (X : Ctx) (this : Nat) (A : AH) : ((Int32 × Int32) ⊕ (Int32 × Int32)) → Prop
  | .inl (x1, x2) => G X 0 0 39 [(0, vr (some this)), (1, vi x1), (2, vi x2)] [] A
  | .inr (x1, x2) => G X 0 0 74 [(0, vr (some this)), (1, vi x1), (2, vi x2)] [] A

set_option maxRecDepth 100000 in
theorem w_f_X3_flow_133 {X : Ctx} (hM : MX X yX3_flow cX3_flow 6 "SlimeNet$Slime" none rm_X3_flow []) {A : AH} {out : AH} (hf : f_X3_flow_133 A = some out) (hr : c_res X = r_X3_flow A out) : G X 0 0 133 [] [] A := by
  have hX := hM.1
  unfold f_X3_flow_133 at hf
  cases hf
  exact h_vret hM dX3_flow_133 hr rfl rfl

set_option maxRecDepth 100000 in
theorem w_s_X3_flow_39 {X : Ctx} (hM : MX X yX3_flow cX3_flow 6 "SlimeNet$Slime" none rm_X3_flow []) {this : Nat} {A : AH} {st : Int32 × Int32} {out : (Int32 × Int32) ⊕ (Int32 × Int32)} (hf : s_X3_flow_39 this A st = some out) (K : k_X3_flow_39 X this A out) : k_X3_flow_39 X this A (.inl st) := by
  have hX := hM.1
  obtain ⟨x1, x2⟩ := st
  unfold s_X3_flow_39 at hf
  dsimp only at hf
  show G X 0 0 39 [(0, vr (some this)), (1, vi x1), (2, vi x2)] [] A
  refine g_iload_n hX dX3_flow_39 (lg_at 1 rfl) ?_
  refine g_aload_n hX dX3_flow_40 (lg_at 0 rfl) ?_
  refine g_getR hX hf fs_SlimeNet_Slime_34_4 rfl dX3_flow_41 (fun v41 hf => ?_)
  refine g_getI hX hf fs_SlimeNet_Slime_103_3 rfl dX3_flow_44 (fun v44 hf => ?_)
  refine g_iconst hX dX3_flow_47 (1 : Int32) (by decide) ?_
  refine g_isub hX dX3_flow_48 ?_
  refine g_iload_n hX dX3_flow_49 (lg_at 2 rfl) ?_
  refine g_isub hX dX3_flow_50 ?_
  refine g_icmp_lt hX dX3_flow_51 74 hf (by decide) (fun c51 hf => ?_) (fun c51 hf => ?_)
  · cases hf
    exact g_pick (show G X _ _ _ _ _ _ from K) [0, 1, 2] rfl
  · refine g_iload_n hX dX3_flow_54 (lg_at 1 rfl) ?_
    refine g_aload_n hX dX3_flow_55 (lg_at 0 rfl) ?_
    refine g_getR hX hf fs_SlimeNet_Slime_34_4 rfl dX3_flow_56 (fun v56 hf => ?_)
    refine g_getI hX hf fs_SlimeNet_Slime_103_3 rfl dX3_flow_59 (fun v59 hf => ?_)
    refine g_iconst hX dX3_flow_62 (1 : Int32) (by decide) ?_
    refine g_isub hX dX3_flow_63 ?_
    refine g_iload_n hX dX3_flow_64 (lg_at 2 rfl) ?_
    refine g_isub hX dX3_flow_65 ?_
    refine g_isub hX dX3_flow_66 ?_
    refine g_istore_n hX dX3_flow_67 [(1, vi (x1 - ((v59 - (1 : Int32)) - x2))), (0, vr (some this)), (2, vi x2)] (by decide) rfl ?_
    refine g_iinc hX dX3_flow_68 (1 : Int32) (x2 + (1 : Int32)) [(2, vi (x2 + (1 : Int32))), (1, vi (x1 - ((v59 - (1 : Int32)) - x2))), (0, vr (some this))] (by decide) rfl (lg_at 2 rfl) (by decide) rfl ?_
    refine g_goto hX dX3_flow_71 39 (by decide) ?_
    cases hf
    exact g_pick (show G X _ _ _ _ _ _ from K) [2, 1, 0] rfl

set_option maxRecDepth 100000 in
theorem w_l_X3_flow_39 {X : Ctx} (hM : MX X yX3_flow cX3_flow 6 "SlimeNet$Slime" none rm_X3_flow []) {this : Nat} {x1 : Int32} {x2 : Int32} {A : AH} {out : AH} (hf : l_X3_flow_39 this x1 x2 A = some out) (hr : c_res X = r_X3_flow A out) : G X 0 0 39 [(0, vr (some this)), (1, vi x1), (2, vi x2)] [] A := by
  have hX := hM.1
  unfold l_X3_flow_39 at hf
  obtain ⟨e, hw, hf⟩ := ob_some hf
  refine (whl_ind (k_X3_flow_39 X this A) (fun st o hs K => w_s_X3_flow_39 hM hs K) hw ?_ : k_X3_flow_39 X this A (.inl (x1, x2)))
  obtain ⟨x1, x2⟩ := e
  dsimp only at hf
  show G X 0 0 74 [(0, vr (some this)), (1, vi x1), (2, vi x2)] [] A
  refine g_aload_n hX dX3_flow_74 (lg_at 0 rfl) ?_
  refine g_getR hX hf fs_SlimeNet_Slime_34_4 rfl dX3_flow_75 (fun v75 hf => ?_)
  refine g_getR hX hf fs_SlimeNet_Slime_106_3 rfl dX3_flow_78 (fun v78 hf => ?_)
  refine g_iload_n hX dX3_flow_81 (lg_at 2 rfl) ?_
  refine g_iald hX hf dX3_flow_82 (fun v82 hf => ?_)
  refine g_istore_n hX dX3_flow_83 [(3, vi v82), (0, vr (some this)), (1, vi x1), (2, vi x2)] (by decide) rfl ?_
  refine g_aload_n hX dX3_flow_84 (lg_at 1 rfl) ?_
  refine g_getR hX hf fs_SlimeNet_Slime_34_4 rfl dX3_flow_85 (fun v85 hf => ?_)
  refine g_getR hX hf fs_SlimeNet_Slime_106_3 rfl dX3_flow_88 (fun v88 hf => ?_)
  refine g_iload_n hX dX3_flow_91 (lg_at 3 rfl) ?_
  refine g_iconst hX dX3_flow_92 (1 : Int32) (by decide) ?_
  refine g_iadd hX dX3_flow_93 ?_
  refine g_iload_n hX dX3_flow_94 (lg_at 2 rfl) ?_
  refine g_iadd hX dX3_flow_95 ?_
  refine g_iald hX hf dX3_flow_96 (fun v96 hf => ?_)
  refine g_istore hX dX3_flow_97 [(4, vi v96), (3, vi v82), (0, vr (some this)), (1, vi x1), (2, vi x2)] (by decide) rfl ?_
  refine g_aload_n hX dX3_flow_99 (lg_at 2 rfl) ?_
  refine g_getR hX hf fs_SlimeNet_Slime_34_4 rfl dX3_flow_100 (fun v100 hf => ?_)
  refine g_aload_n hX dX3_flow_103 (lg_at 2 rfl) ?_
  obtain ⟨k104, hk104, hf⟩ := ob_some hf
  obtain ⟨v104, hc104, hf⟩ := ob_some hf
  refine h_callV hM [] dX3_flow_104 cs_SlimeNet_Slime_109_4 hk104 (m_X3_own hc104) rfl rfl rfl rfl ?_
  refine g_iload_n hX dX3_flow_107 (lg_at 1 rfl) ?_
  obtain ⟨k108, hk108, hf⟩ := ob_some hf
  obtain ⟨v108, hc108, hf⟩ := ob_some hf
  refine h_callV hM [vi v104, vi v82] dX3_flow_108 cs_SlimeNet_Slime_112_3 hk108 (m_X2_joined hc108) rfl rfl rfl rfl ?_
  refine g_istore hX dX3_flow_111 [(5, vi v108), (4, vi v96), (3, vi v82), (0, vr (some this)), (1, vi x1), (2, vi x2)] (by decide) rfl ?_
  refine g_iload hX dX3_flow_113 (lg_at 0 rfl) ?_
  refine g_iload hX dX3_flow_115 (lg_at 1 rfl) ?_
  refine g_ishr hX dX3_flow_117 ?_
  refine g_iconst hX dX3_flow_118 (1 : Int32) (by decide) ?_
  refine g_iand hX dX3_flow_119 ?_
  refine g_iconst hX dX3_flow_120 (1 : Int32) (by decide) ?_
  refine g_icmp_ne hX dX3_flow_121 133 hf (by decide) (fun c121 hf => ?_) (fun c121 hf => ?_)
  · exact g_pick (w_f_X3_flow_133 hM hf hr) [] rfl
  · refine g_aload_n hX dX3_flow_124 (lg_at 3 rfl) ?_
    refine g_iload_n hX dX3_flow_125 (lg_at 2 rfl) ?_
    refine g_iload hX dX3_flow_126 (lg_at 1 rfl) ?_
    refine g_iload hX dX3_flow_128 (lg_at 0 rfl) ?_
    obtain ⟨k130, hk130, hf⟩ := ob_some hf
    obtain ⟨A130, hc130, hf⟩ := ob_some hf
    refine h_callV hM [vi v82, vi v96, vi v108] dX3_flow_130 cs_SlimeNet_Slime_116_4 hk130 (m_X3_lay hc130) rfl rfl rfl rfl ?_
    exact g_pick (w_f_X3_flow_133 hM hf hr) [] rfl

set_option maxRecDepth 100000 in
theorem w_f_X3_flow {X : Ctx} (hM : MX X yX3_flow cX3_flow 6 "SlimeNet$Slime" none rm_X3_flow []) {this : Nat} {A : AH} {out : AH} (hf : f_X3_flow this A = some out) (hr : c_res X = r_X3_flow A out) : G X 0 0 0 [(0, vr (some this))] [] A := by
  have hX := hM.1
  unfold f_X3_flow at hf
  refine g_aload_n hX dX3_flow_0 (lg_at 0 rfl) ?_
  refine g_getR hX hf fs_SlimeNet_Slime_31_4 rfl dX3_flow_1 (fun v1 hf => ?_)
  refine g_lconst hX dX3_flow_4 (0 : Int64) (by decide) ?_
  obtain ⟨A5, hc5, hf⟩ := ob_some hf
  refine h_callS hM [vr v1, vl (0 : Int64)] dX3_flow_5 cs_SlimeNet_Slime_90_s (m_J12_fill_2 hc5) rfl rfl rfl rfl ?_
  refine g_aload_n hX dX3_flow_8 (lg_at 0 rfl) ?_
  refine g_lconst hX dX3_flow_9 (1 : Int64) (by decide) ?_
  refine g_putL hX hf fs_SlimeNet_Slime_96_4 ⟨_, rfl, Or.inl rfl⟩ rfl dX3_flow_10 (fun A10 hf => ?_)
  refine g_aload_n hX dX3_flow_13 (lg_at 0 rfl) ?_
  refine g_getR hX hf fs_SlimeNet_Slime_34_4 rfl dX3_flow_14 (fun v14 hf => ?_)
  obtain ⟨k17, hk17, hf⟩ := ob_some hf
  obtain ⟨v17, hc17, hf⟩ := ob_some hf
  refine h_callV hM [] dX3_flow_17 cs_SlimeNet_Slime_100_3 hk17 (m_X2_pairs hc17) rfl rfl rfl rfl ?_
  refine g_if_ne hX dX3_flow_20 24 hf (by decide) (fun c20 hf => ?_) (fun c20 hf => ?_)
  · refine g_aload_n hX dX3_flow_24 (lg_at 0 rfl) ?_
    refine g_getI hX hf fs_SlimeNet_Slime_49_4 rfl dX3_flow_25 (fun v25 hf => ?_)
    refine g_aload_n hX dX3_flow_28 (lg_at 0 rfl) ?_
    refine g_getR hX hf fs_SlimeNet_Slime_34_4 rfl dX3_flow_29 (fun v29 hf => ?_)
    obtain ⟨k32, hk32, hf⟩ := ob_some hf
    obtain ⟨v32, hc32, hf⟩ := ob_some hf
    refine h_callV hM [] dX3_flow_32 cs_SlimeNet_Slime_100_3 hk32 (m_X2_pairs hc32) rfl rfl rfl rfl ?_
    refine g_irem hX dX3_flow_35 hf (fun v35 _ hf => ?_)
    refine g_istore_n hX dX3_flow_36 [(1, vi v35), (0, vr (some this))] (by decide) rfl ?_
    refine g_iconst hX dX3_flow_37 (0 : Int32) (by decide) ?_
    refine g_istore_n hX dX3_flow_38 [(2, vi (0 : Int32)), (1, vi v35), (0, vr (some this))] (by decide) rfl ?_
    exact g_pick (w_l_X3_flow_39 hM hf hr) [2, 1, 0] rfl
  · cases hf
    exact h_vret hM dX3_flow_23 hr rfl rfl

theorem m_X3_flow {l : Launch} {this : Nat} {A : AH} {out : AH} (h : f_X3_flow this A = some out) : MetF l yX3_flow (Cond.code yX3_flow cX3_flow 6 none) rm_X3_flow [vr (some this)] A (r_X3_flow A out) :=
  metF_of rfl rfl (Nat.le_of_ble_eq_true rfl) fun X hX hl hR hnm hr h1 h2 hno => w_f_X3_flow (X := X) ⟨hX, hR, h1, h2, fun _ => ⟨hnm, hno⟩⟩ h hr

/-! SlimeNet.common(JJ)J -/
def rm_X0_common : Room := { frames := 1, cells := 0, slots := 0, locals := 24 }
def r_X0_common (A : AH) (o : Int64) : (Option AV × AH) ⊕ (Nat × AH) := .inl (some (vl o), A)
def k_X0_common_9 (X : Ctx) (A : AH) : ((Int64 × Int64) ⊕ (Int64)) → Prop
  | .inl (x4, x6) => G X 0 0 9 [(4, vl x4), (6, vl x6)] [] A
  | .inr x4 => G X 0 0 34 [(4, vl x4)] [] A

set_option maxRecDepth 100000 in
theorem w_s_X0_common_9 {X : Ctx} (hM : MX X yX0_common cX0_common 10 "SlimeNet" (some Jvm.ClassFile.FieldType.long) rm_X0_common []) {A : AH} {st : Int64 × Int64} {out : (Int64 × Int64) ⊕ (Int64)} (hf : s_X0_common_9 st = some out) (K : k_X0_common_9 X A out) : k_X0_common_9 X A (.inl st) := by
  have hX := hM.1
  obtain ⟨x4, x6⟩ := st
  unfold s_X0_common_9 at hf
  dsimp only at hf
  show G X 0 0 9 [(4, vl x4), (6, vl x6)] [] A
  refine g_lload hX dX0_common_9 (lg_at 1 rfl) ?_
  refine g_lconst hX dX0_common_11 (0 : Int64) (by decide) ?_
  refine g_lcmp hX dX0_common_12 ?_
  refine g_if_eq hX dX0_common_13 34 hf (by decide) (fun c13 hf => ?_) (fun c13 hf => ?_)
  · cases hf
    exact g_pick (show G X _ _ _ _ _ _ from K) [0] rfl
  · refine g_lload hX dX0_common_16 (lg_at 0 rfl) ?_
    refine g_lload hX dX0_common_18 (lg_at 1 rfl) ?_
    refine g_lrem hX dX0_common_20 hf (fun v20 _ hf => ?_)
    refine g_lstore hX dX0_common_21 [(8, vl v20), (4, vl x4), (6, vl x6)] (by decide) rfl ?_
    refine g_lload hX dX0_common_23 (lg_at 2 rfl) ?_
    refine g_lstore hX dX0_common_25 [(4, vl x6), (8, vl v20), (6, vl x6)] (by decide) rfl ?_
    refine g_lload hX dX0_common_27 (lg_at 1 rfl) ?_
    refine g_lstore hX dX0_common_29 [(6, vl v20), (4, vl x6), (8, vl v20)] (by decide) rfl ?_
    refine g_goto hX dX0_common_31 9 (by decide) ?_
    cases hf
    exact g_pick (show G X _ _ _ _ _ _ from K) [1, 0] rfl

set_option maxRecDepth 100000 in
theorem w_l_X0_common_9 {X : Ctx} (hM : MX X yX0_common cX0_common 10 "SlimeNet" (some Jvm.ClassFile.FieldType.long) rm_X0_common []) {x4 : Int64} {x6 : Int64} {A : AH} {out : Int64} (hf : l_X0_common_9 x4 x6 = some out) (hr : c_res X = r_X0_common A out) : G X 0 0 9 [(4, vl x4), (6, vl x6)] [] A := by
  have hX := hM.1
  unfold l_X0_common_9 at hf
  obtain ⟨e, hw, hf⟩ := ob_some hf
  refine (whl_ind (k_X0_common_9 X A) (fun st o hs K => w_s_X0_common_9 hM hs K) hw ?_ : k_X0_common_9 X A (.inl (x4, x6)))
  revert hf hw; generalize e = x4; intro hw hf
  dsimp only at hf
  show G X 0 0 34 [(4, vl x4)] [] A
  refine g_lload hX dX0_common_34 (lg_at 0 rfl) ?_
  cases hf
  exact h_lret hM dX0_common_36 hr rfl rfl

set_option maxRecDepth 100000 in
theorem w_f_X0_common {X : Ctx} (hM : MX X yX0_common cX0_common 10 "SlimeNet" (some Jvm.ClassFile.FieldType.long) rm_X0_common []) {x0 : Int64} {x2 : Int64} {A : AH} {out : Int64} (hf : f_X0_common x0 x2 = some out) (hr : c_res X = r_X0_common A out) : G X 0 0 0 [(0, vl x0), (2, vl x2)] [] A := by
  have hX := hM.1
  unfold f_X0_common at hf
  refine g_lload_n hX dX0_common_0 (lg_at 0 rfl) ?_
  refine g_mabs hM dX0_common_1 (lw_LW q843) (lw_LW q844) (lw_LW q80) (lw_LW q845) rfl rfl ?_
  refine g_lstore hX dX0_common_4 [(4, vl (abL x0)), (0, vl x0), (2, vl x2)] (by decide) rfl ?_
  refine g_lload_n hX dX0_common_6 (lg_at 2 rfl) ?_
  refine g_lstore hX dX0_common_7 [(6, vl x2), (4, vl (abL x0)), (0, vl x0), (2, vl x2)] (by decide) rfl ?_
  exact g_pick (w_l_X0_common_9 hM hf hr) [1, 0] rfl

theorem m_X0_common {l : Launch} {x0 : Int64} {x2 : Int64} {A : AH} {out : Int64} (h : f_X0_common x0 x2 = some out) : MetF l yX0_common (Cond.code yX0_common cX0_common 10 (some Jvm.ClassFile.FieldType.long)) rm_X0_common [vl x0, vl x2] A (r_X0_common A out) :=
  metF_of rfl rfl (Nat.le_of_ble_eq_true rfl) fun X hX hl hR hnm hr h1 h2 hno => w_f_X0_common (X := X) ⟨hX, hR, h1, h2, fun _ => ⟨hnm, hno⟩⟩ h hr

/-! SlimeNet.flow(I)J -/
def rm_X0_flow : Room := { frames := 13, cells := 0, slots := 0, locals := 1104 }
def r_X0_flow (_A : AH) (o : Int64 × AH) : (Option AV × AH) ⊕ (Nat × AH) := .inl (some (vl o.1), o.2)
set_option maxRecDepth 100000 in
theorem w_f_X0_flow {X : Ctx} (hM : MX X yX0_flow cX0_flow 2 "SlimeNet" (some Jvm.ClassFile.FieldType.long) rm_X0_flow []) {this : Nat} {x1 : Int32} {A : AH} {out : Int64 × AH} (hf : f_X0_flow this x1 A = some out) (hr : c_res X = r_X0_flow A out) : G X 0 0 0 [(0, vr (some this)), (1, vi x1)] [] A := by
  have hX := hM.1
  unfold f_X0_flow at hf
  refine g_aload_n hX dX0_flow_0 (lg_at 0 rfl) ?_
  refine g_iload_n hX dX0_flow_1 (lg_at 1 rfl) ?_
  obtain ⟨k2, hk2, hf⟩ := ob_some hf
  obtain ⟨v2, hc2, hf⟩ := ob_some hf
  refine h_callV hM [vi x1] dX0_flow_2 cs_SlimeNet_178_1 hk2 (m_X0_isPipe hc2) rfl rfl rfl rfl ?_
  refine g_if_ne hX dX0_flow_5 12 hf (by decide) (fun c5 hf => ?_) (fun c5 hf => ?_)
  · refine g_aload_n hX dX0_flow_12 (lg_at 0 rfl) ?_
    refine g_getR hX hf fs_SlimeNet_34_1 rfl dX0_flow_13 (fun v13 hf => ?_)
    obtain ⟨k16, hk16, hf⟩ := ob_some hf
    obtain ⟨A16, hc16, hf⟩ := ob_some hf
    refine h_callV hM [] dX0_flow_16 cs_SlimeNet_217_4 hk16 (m_X3_flow hc16) rfl rfl rfl rfl ?_
    refine g_aload_n hX dX0_flow_19 (lg_at 0 rfl) ?_
    refine g_getR hX hf fs_SlimeNet_34_1 rfl dX0_flow_20 (fun v20 hf => ?_)
    refine g_getR hX hf fs_SlimeNet_220_4 rfl dX0_flow_23 (fun v23 hf => ?_)
    refine g_iload_n hX dX0_flow_26 (lg_at 1 rfl) ?_
    refine g_lald hX hf dX0_flow_27 (fun v27 hf => ?_)
    refine g_aload_n hX dX0_flow_28 (lg_at 0 rfl) ?_
    refine g_getR hX hf fs_SlimeNet_34_1 rfl dX0_flow_29 (fun v29 hf => ?_)
    refine g_getR hX hf fs_SlimeNet_220_4 rfl dX0_flow_32 (fun v32 hf => ?_)
    refine g_iload_n hX dX0_flow_35 (lg_at 1 rfl) ?_
    refine g_lald hX hf dX0_flow_36 (fun v36 hf => ?_)
    refine g_aload_n hX dX0_flow_37 (lg_at 0 rfl) ?_
    refine g_getR hX hf fs_SlimeNet_34_1 rfl dX0_flow_38 (fun v38 hf => ?_)
    refine g_getL hX hf fs_SlimeNet_223_4 rfl dX0_flow_41 (fun v41 hf => ?_)
    obtain ⟨v44, hc44, hf⟩ := ob_some hf
    refine h_callS hM [vl v36, vl v41] dX0_flow_44 cs_SlimeNet_227_s (m_X0_common hc44) rfl rfl rfl rfl ?_
    refine g_ldiv hX dX0_flow_47 hf (fun v47 _ hf => ?_)
    cases hf
    exact h_lret hM dX0_flow_48 hr rfl rfl
  · refine g_ldc2 hX dX0_flow_8 (v := (-9000000000000000000 : Int64)) (lw_LW q801) ?_
    cases hf
    exact h_lret hM dX0_flow_11 hr rfl rfl

theorem m_X0_flow {l : Launch} {this : Nat} {x1 : Int32} {A : AH} {out : Int64 × AH} (h : f_X0_flow this x1 A = some out) : MetF l yX0_flow (Cond.code yX0_flow cX0_flow 2 (some Jvm.ClassFile.FieldType.long)) rm_X0_flow [vr (some this), vi x1] A (r_X0_flow A out) :=
  metF_of rfl rfl (Nat.le_of_ble_eq_true rfl) fun X hX hl hR hnm hr h1 h2 hno => w_f_X0_flow (X := X) ⟨hX, hR, h1, h2, fun _ => ⟨hnm, hno⟩⟩ h hr

/-! SlimeNetModel.widths([II)I -/
def rm_X4_widths : Room := { frames := 1, cells := 0, slots := 0, locals := 24 }
def r_X4_widths (A : AH) (o : Int32) : (Option AV × AH) ⊕ (Nat × AH) := .inl (some (vi o), A)
def k_X4_widths_4 (X : Ctx) (x0 : Option Nat) (x1 : Int32) (A : AH) : ((Int32 × Int32) ⊕ (Int32)) → Prop
  | .inl (x2, x3) => G X 0 0 4 [(0, vr x0), (1, vi x1), (2, vi x2), (3, vi x3)] [] A
  | .inr x2 => G X 0 0 31 [(2, vi x2)] [] A

set_option maxRecDepth 100000 in
theorem w_f_X4_widths_23 {X : Ctx} (hM : MX X yX4_widths cX4_widths 4 "SlimeNetModel" (some Jvm.ClassFile.FieldType.int) rm_X4_widths []) {x0 : Option Nat} {x1 : Int32} {x3 : Int32} {t0 : Int32} {t1 : Int32} {A : AH} {out : (Int32 × Int32) ⊕ (Int32)} (hf : f_X4_widths_23 x0 x1 x3 t0 t1 A = some out) (K : k_X4_widths_4 X x0 x1 A out) : G X 0 0 23 [(0, vr x0), (1, vi x1), (3, vi x3)] [vi t0, vi t1] A := by
  have hX := hM.1
  unfold f_X4_widths_23 at hf
  refine g_ior hX dX4_widths_23 ?_
  refine g_istore_n hX dX4_widths_24 [(2, vi (t1 ||| t0)), (0, vr x0), (1, vi x1), (3, vi x3)] (by decide) rfl ?_
  refine g_iinc hX dX4_widths_25 (1 : Int32) (x3 + (1 : Int32)) [(3, vi (x3 + (1 : Int32))), (2, vi (t1 ||| t0)), (0, vr x0), (1, vi x1)] (by decide) rfl (lg_at 3 rfl) (by decide) rfl ?_
  refine g_goto hX dX4_widths_28 4 (by decide) ?_
  cases hf
  exact g_pick (show G X _ _ _ _ _ _ from K) [2, 3, 1, 0] rfl

set_option maxRecDepth 100000 in
theorem w_s_X4_widths_4 {X : Ctx} (hM : MX X yX4_widths cX4_widths 4 "SlimeNetModel" (some Jvm.ClassFile.FieldType.int) rm_X4_widths []) {x0 : Option Nat} {x1 : Int32} {A : AH} {st : Int32 × Int32} {out : (Int32 × Int32) ⊕ (Int32)} (hf : s_X4_widths_4 x0 x1 A st = some out) (K : k_X4_widths_4 X x0 x1 A out) : k_X4_widths_4 X x0 x1 A (.inl st) := by
  have hX := hM.1
  obtain ⟨x2, x3⟩ := st
  unfold s_X4_widths_4 at hf
  dsimp only at hf
  show G X 0 0 4 [(0, vr x0), (1, vi x1), (2, vi x2), (3, vi x3)] [] A
  refine g_iload_n hX dX4_widths_4 (lg_at 3 rfl) ?_
  refine g_iload_n hX dX4_widths_5 (lg_at 1 rfl) ?_
  refine g_icmp_ge hX dX4_widths_6 31 hf (by decide) (fun c6 hf => ?_) (fun c6 hf => ?_)
  · cases hf
    exact g_pick (show G X _ _ _ _ _ _ from K) [2] rfl
  · refine g_iload_n hX dX4_widths_9 (lg_at 2 rfl) ?_
    refine g_aload_n hX dX4_widths_10 (lg_at 0 rfl) ?_
    refine g_iload_n hX dX4_widths_11 (lg_at 3 rfl) ?_
    refine g_iald hX hf dX4_widths_12 (fun v12 hf => ?_)
    refine g_if_le hX dX4_widths_13 22 hf (by decide) (fun c13 hf => ?_) (fun c13 hf => ?_)
    · refine g_iconst hX dX4_widths_22 (0 : Int32) (by decide) ?_
      exact g_pick (w_f_X4_widths_23 hM hf K) [0, 1, 3] rfl
    · refine g_iconst hX dX4_widths_16 (1 : Int32) (by decide) ?_
      refine g_iload_n hX dX4_widths_17 (lg_at 3 rfl) ?_
      refine g_ishl hX dX4_widths_18 ?_
      refine g_goto hX dX4_widths_19 23 (by decide) ?_
      exact g_pick (w_f_X4_widths_23 hM hf K) [0, 1, 3] rfl

set_option maxRecDepth 100000 in
theorem w_l_X4_widths_4 {X : Ctx} (hM : MX X yX4_widths cX4_widths 4 "SlimeNetModel" (some Jvm.ClassFile.FieldType.int) rm_X4_widths []) {x0 : Option Nat} {x1 : Int32} {x2 : Int32} {x3 : Int32} {A : AH} {out : Int32} (hf : l_X4_widths_4 x0 x1 x2 x3 A = some out) (hr : c_res X = r_X4_widths A out) : G X 0 0 4 [(0, vr x0), (1, vi x1), (2, vi x2), (3, vi x3)] [] A := by
  have hX := hM.1
  unfold l_X4_widths_4 at hf
  obtain ⟨e, hw, hf⟩ := ob_some hf
  refine (whl_ind (k_X4_widths_4 X x0 x1 A) (fun st o hs K => w_s_X4_widths_4 hM hs K) hw ?_ : k_X4_widths_4 X x0 x1 A (.inl (x2, x3)))
  revert hf hw; generalize e = x2; intro hw hf
  dsimp only at hf
  show G X 0 0 31 [(2, vi x2)] [] A
  refine g_iload_n hX dX4_widths_31 (lg_at 0 rfl) ?_
  cases hf
  exact h_iret hM dX4_widths_32 hr rfl rfl

set_option maxRecDepth 100000 in
theorem w_f_X4_widths {X : Ctx} (hM : MX X yX4_widths cX4_widths 4 "SlimeNetModel" (some Jvm.ClassFile.FieldType.int) rm_X4_widths []) {x0 : Option Nat} {x1 : Int32} {A : AH} {out : Int32} (hf : f_X4_widths x0 x1 A = some out) (hr : c_res X = r_X4_widths A out) : G X 0 0 0 [(0, vr x0), (1, vi x1)] [] A := by
  have hX := hM.1
  unfold f_X4_widths at hf
  refine g_iconst hX dX4_widths_0 (0 : Int32) (by decide) ?_
  refine g_istore_n hX dX4_widths_1 [(2, vi (0 : Int32)), (0, vr x0), (1, vi x1)] (by decide) rfl ?_
  refine g_iconst hX dX4_widths_2 (0 : Int32) (by decide) ?_
  refine g_istore_n hX dX4_widths_3 [(3, vi (0 : Int32)), (2, vi (0 : Int32)), (0, vr x0), (1, vi x1)] (by decide) rfl ?_
  exact g_pick (w_l_X4_widths_4 hM hf hr) [2, 3, 1, 0] rfl

theorem m_X4_widths {l : Launch} {x0 : Option Nat} {x1 : Int32} {A : AH} {out : Int32} (h : f_X4_widths x0 x1 A = some out) : MetF l yX4_widths (Cond.code yX4_widths cX4_widths 4 (some Jvm.ClassFile.FieldType.int)) rm_X4_widths [vr x0, vi x1] A (r_X4_widths A out) :=
  metF_of rfl rfl (Nat.le_of_ble_eq_true rfl) fun X hX hl hR hnm hr h1 h2 hno => w_f_X4_widths (X := X) ⟨hX, hR, h1, h2, fun _ => ⟨hnm, hno⟩⟩ h hr

/-! SlimeNetModel.reach(II)I -/
def rm_X4_reach : Room := { frames := 1, cells := 0, slots := 0, locals := 24 }
def r_X4_reach (A : AH) (o : Int32) : (Option AV × AH) ⊕ (Nat × AH) := .inl (some (vi o), A)
def k_X4_reach_7 (X : Ctx) (this : Nat) (x1 : Int32) (A : AH) : ((Int32 × Int32) ⊕ (Int32)) → Prop
  | .inl (x3, x4) => G X 0 0 7 [(0, vr (some this)), (1, vi x1), (3, vi x3), (4, vi x4)] [] A
  | .inr x3 => G X 0 0 99 [(3, vi x3)] [] A

def k_X4_reach_19 (X : Ctx) (this : Nat) (x1 : Int32) (x4 : Int32) (A : AH) : ((Int32 × Int32) ⊕ (Int32)) → Prop
  | .inl (x3, x5) => G X 0 0 19 [(0, vr (some this)), (1, vi x1), (3, vi x3), (4, vi x4), (5, vi x5)] [] A
  | .inr x3 => G X 0 0 96 [(0, vr (some this)), (1, vi x1), (3, vi x3), (4, vi x4)] [] A

set_option maxRecDepth 100000 in
theorem w_f_X4_reach_90 {X : Ctx} (hM : MX X yX4_reach cX4_reach 6 "SlimeNetModel" (some Jvm.ClassFile.FieldType.int) rm_X4_reach []) {this : Nat} {x1 : Int32} {x3 : Int32} {x4 : Int32} {x5 : Int32} {A : AH} {out : (Int32 × Int32) ⊕ (Int32)} (hf : f_X4_reach_90 this x1 x3 x4 x5 A = some out) (K : k_X4_reach_19 X this x1 x4 A out) : G X 0 0 90 [(0, vr (some this)), (1, vi x1), (3, vi x3), (4, vi x4), (5, vi x5)] [] A := by
  have hX := hM.1
  unfold f_X4_reach_90 at hf
  refine g_iinc hX dX4_reach_90 (1 : Int32) (x5 + (1 : Int32)) [(5, vi (x5 + (1 : Int32))), (0, vr (some this)), (1, vi x1), (3, vi x3), (4, vi x4)] (by decide) rfl (lg_at 4 rfl) (by decide) rfl ?_
  refine g_goto hX dX4_reach_93 19 (by decide) ?_
  cases hf
  exact g_pick (show G X _ _ _ _ _ _ from K) [1, 2, 3, 4, 0] rfl

set_option maxRecDepth 100000 in
theorem w_f_X4_reach_68 {X : Ctx} (hM : MX X yX4_reach cX4_reach 6 "SlimeNetModel" (some Jvm.ClassFile.FieldType.int) rm_X4_reach []) {this : Nat} {x1 : Int32} {x3 : Int32} {x4 : Int32} {x5 : Int32} {A : AH} {out : (Int32 × Int32) ⊕ (Int32)} (hf : f_X4_reach_68 this x1 x3 x4 x5 A = some out) (K : k_X4_reach_19 X this x1 x4 A out) : G X 0 0 68 [(0, vr (some this)), (1, vi x1), (3, vi x3), (4, vi x4), (5, vi x5)] [] A := by
  have hX := hM.1
  unfold f_X4_reach_68 at hf
  refine g_iload_n hX dX4_reach_68 (lg_at 2 rfl) ?_
  refine g_iconst hX dX4_reach_69 (1 : Int32) (by decide) ?_
  refine g_aload_n hX dX4_reach_70 (lg_at 0 rfl) ?_
  refine g_getR hX hf fs_SlimeNetModel_188_5 rfl dX4_reach_71 (fun v71 hf => ?_)
  refine g_iload hX dX4_reach_74 (lg_at 4 rfl) ?_
  refine g_iald hX hf dX4_reach_76 (fun v76 hf => ?_)
  refine g_ishl hX dX4_reach_77 ?_
  refine g_iconst hX dX4_reach_78 (1 : Int32) (by decide) ?_
  refine g_aload_n hX dX4_reach_79 (lg_at 0 rfl) ?_
  refine g_getR hX hf fs_SlimeNetModel_191_5 rfl dX4_reach_80 (fun v80 hf => ?_)
  refine g_iload hX dX4_reach_83 (lg_at 4 rfl) ?_
  refine g_iald hX hf dX4_reach_85 (fun v85 hf => ?_)
  refine g_ishl hX dX4_reach_86 ?_
  refine g_ior hX dX4_reach_87 ?_
  refine g_ior hX dX4_reach_88 ?_
  refine g_istore_n hX dX4_reach_89 [(3, vi (x3 ||| (((1 : Int32) <<< (v76 &&& 31)) ||| ((1 : Int32) <<< (v85 &&& 31))))), (0, vr (some this)), (1, vi x1), (4, vi x4), (5, vi x5)] (by decide) rfl ?_
  exact g_pick (w_f_X4_reach_90 hM hf K) [1, 2, 0, 3, 4] rfl

set_option maxRecDepth 100000 in
theorem w_s_X4_reach_19 {X : Ctx} (hM : MX X yX4_reach cX4_reach 6 "SlimeNetModel" (some Jvm.ClassFile.FieldType.int) rm_X4_reach []) {this : Nat} {x1 : Int32} {x4 : Int32} {A : AH} {st : Int32 × Int32} {out : (Int32 × Int32) ⊕ (Int32)} (hf : s_X4_reach_19 this x1 x4 A st = some out) (K : k_X4_reach_19 X this x1 x4 A out) : k_X4_reach_19 X this x1 x4 A (.inl st) := by
  have hX := hM.1
  obtain ⟨x3, x5⟩ := st
  unfold s_X4_reach_19 at hf
  dsimp only at hf
  show G X 0 0 19 [(0, vr (some this)), (1, vi x1), (3, vi x3), (4, vi x4), (5, vi x5)] [] A
  refine g_iload hX dX4_reach_19 (lg_at 4 rfl) ?_
  refine g_aload_n hX dX4_reach_21 (lg_at 0 rfl) ?_
  refine g_getI hX hf fs_SlimeNetModel_297_5 rfl dX4_reach_22 (fun v22 hf => ?_)
  refine g_icmp_ge hX dX4_reach_25 96 hf (by decide) (fun c25 hf => ?_) (fun c25 hf => ?_)
  · cases hf
    exact g_pick (show G X _ _ _ _ _ _ from K) [0, 1, 2, 3] rfl
  · refine g_iload_n hX dX4_reach_28 (lg_at 1 rfl) ?_
    refine g_iload hX dX4_reach_29 (lg_at 4 rfl) ?_
    refine g_ishr hX dX4_reach_31 ?_
    refine g_iconst hX dX4_reach_32 (1 : Int32) (by decide) ?_
    refine g_iand hX dX4_reach_33 ?_
    refine g_iconst hX dX4_reach_34 (1 : Int32) (by decide) ?_
    refine g_icmp_ne hX dX4_reach_35 90 hf (by decide) (fun c35 hf => ?_) (fun c35 hf => ?_)
    · exact g_pick (w_f_X4_reach_90 hM hf K) [0, 1, 2, 3, 4] rfl
    · refine g_iload_n hX dX4_reach_38 (lg_at 2 rfl) ?_
      refine g_aload_n hX dX4_reach_39 (lg_at 0 rfl) ?_
      refine g_getR hX hf fs_SlimeNetModel_188_5 rfl dX4_reach_40 (fun v40 hf => ?_)
      refine g_iload hX dX4_reach_43 (lg_at 4 rfl) ?_
      refine g_iald hX hf dX4_reach_45 (fun v45 hf => ?_)
      refine g_ishr hX dX4_reach_46 ?_
      refine g_iconst hX dX4_reach_47 (1 : Int32) (by decide) ?_
      refine g_iand hX dX4_reach_48 ?_
      refine g_iconst hX dX4_reach_49 (1 : Int32) (by decide) ?_
      refine g_icmp_eq hX dX4_reach_50 68 hf (by decide) (fun c50 hf => ?_) (fun c50 hf => ?_)
      · exact g_pick (w_f_X4_reach_68 hM hf K) [0, 1, 2, 3, 4] rfl
      · refine g_iload_n hX dX4_reach_53 (lg_at 2 rfl) ?_
        refine g_aload_n hX dX4_reach_54 (lg_at 0 rfl) ?_
        refine g_getR hX hf fs_SlimeNetModel_191_5 rfl dX4_reach_55 (fun v55 hf => ?_)
        refine g_iload hX dX4_reach_58 (lg_at 4 rfl) ?_
        refine g_iald hX hf dX4_reach_60 (fun v60 hf => ?_)
        refine g_ishr hX dX4_reach_61 ?_
        refine g_iconst hX dX4_reach_62 (1 : Int32) (by decide) ?_
        refine g_iand hX dX4_reach_63 ?_
        refine g_iconst hX dX4_reach_64 (1 : Int32) (by decide) ?_
        refine g_icmp_ne hX dX4_reach_65 90 hf (by decide) (fun c65 hf => ?_) (fun c65 hf => ?_)
        · exact g_pick (w_f_X4_reach_90 hM hf K) [0, 1, 2, 3, 4] rfl
        · exact g_pick (w_f_X4_reach_68 hM hf K) [0, 1, 2, 3, 4] rfl

set_option maxRecDepth 100000 in
theorem w_l_X4_reach_19 {X : Ctx} (hM : MX X yX4_reach cX4_reach 6 "SlimeNetModel" (some Jvm.ClassFile.FieldType.int) rm_X4_reach []) {this : Nat} {x1 : Int32} {x4 : Int32} {x3 : Int32} {x5 : Int32} {A : AH} {out : (Int32 × Int32) ⊕ (Int32)} (hf : l_X4_reach_19 this x1 x4 x3 x5 A = some out) (K : k_X4_reach_7 X this x1 A out) : G X 0 0 19 [(0, vr (some this)), (1, vi x1), (3, vi x3), (4, vi x4), (5, vi x5)] [] A := by
  have hX := hM.1
  unfold l_X4_reach_19 at hf
  obtain ⟨e, hw, hf⟩ := ob_some hf
  refine (whl_ind (k_X4_reach_19 X this x1 x4 A) (fun st o hs K => w_s_X4_reach_19 hM hs K) hw ?_ : k_X4_reach_19 X this x1 x4 A (.inl (x3, x5)))
  revert hf hw; generalize e = x3; intro hw hf
  dsimp only at hf
  show G X 0 0 96 [(0, vr (some this)), (1, vi x1), (3, vi x3), (4, vi x4)] [] A
  refine g_goto hX dX4_reach_96 7 (by decide) ?_
  cases hf
  exact g_pick (show G X _ _ _ _ _ _ from K) [0, 1, 2, 3] rfl

set_option maxRecDepth 100000 in
theorem w_s_X4_reach_7 {X : Ctx} (hM : MX X yX4_reach cX4_reach 6 "SlimeNetModel" (some Jvm.ClassFile.FieldType.int) rm_X4_reach []) {this : Nat} {x1 : Int32} {A : AH} {st : Int32 × Int32} {out : (Int32 × Int32) ⊕ (Int32)} (hf : s_X4_reach_7 this x1 A st = some out) (K : k_X4_reach_7 X this x1 A out) : k_X4_reach_7 X this x1 A (.inl st) := by
  have hX := hM.1
  obtain ⟨x3, x4⟩ := st
  unfold s_X4_reach_7 at hf
  dsimp only at hf
  show G X 0 0 7 [(0, vr (some this)), (1, vi x1), (3, vi x3), (4, vi x4)] [] A
  refine g_iload_n hX dX4_reach_7 (lg_at 2 rfl) ?_
  refine g_iload hX dX4_reach_8 (lg_at 3 rfl) ?_
  refine g_icmp_eq hX dX4_reach_10 99 hf (by decide) (fun c10 hf => ?_) (fun c10 hf => ?_)
  · cases hf
    exact g_pick (show G X _ _ _ _ _ _ from K) [2] rfl
  · refine g_iload_n hX dX4_reach_13 (lg_at 2 rfl) ?_
    refine g_istore hX dX4_reach_14 [(4, vi x3), (0, vr (some this)), (1, vi x1), (3, vi x3)] (by decide) rfl ?_
    refine g_iconst hX dX4_reach_16 (0 : Int32) (by decide) ?_
    refine g_istore hX dX4_reach_17 [(5, vi (0 : Int32)), (4, vi x3), (0, vr (some this)), (1, vi x1), (3, vi x3)] (by decide) rfl ?_
    exact g_pick (w_l_X4_reach_19 hM hf K) [2, 3, 4, 1, 0] rfl

set_option maxRecDepth 100000 in
theorem w_l_X4_reach_7 {X : Ctx} (hM : MX X yX4_reach cX4_reach 6 "SlimeNetModel" (some Jvm.ClassFile.FieldType.int) rm_X4_reach []) {this : Nat} {x1 : Int32} {x3 : Int32} {x4 : Int32} {A : AH} {out : Int32} (hf : l_X4_reach_7 this x1 x3 x4 A = some out) (hr : c_res X = r_X4_reach A out) : G X 0 0 7 [(0, vr (some this)), (1, vi x1), (3, vi x3), (4, vi x4)] [] A := by
  have hX := hM.1
  unfold l_X4_reach_7 at hf
  obtain ⟨e, hw, hf⟩ := ob_some hf
  refine (whl_ind (k_X4_reach_7 X this x1 A) (fun st o hs K => w_s_X4_reach_7 hM hs K) hw ?_ : k_X4_reach_7 X this x1 A (.inl (x3, x4)))
  revert hf hw; generalize e = x3; intro hw hf
  dsimp only at hf
  show G X 0 0 99 [(3, vi x3)] [] A
  refine g_iload_n hX dX4_reach_99 (lg_at 0 rfl) ?_
  cases hf
  exact h_iret hM dX4_reach_100 hr rfl rfl

set_option maxRecDepth 100000 in
theorem w_f_X4_reach {X : Ctx} (hM : MX X yX4_reach cX4_reach 6 "SlimeNetModel" (some Jvm.ClassFile.FieldType.int) rm_X4_reach []) {this : Nat} {x1 : Int32} {x2 : Int32} {A : AH} {out : Int32} (hf : f_X4_reach this x1 x2 A = some out) (hr : c_res X = r_X4_reach A out) : G X 0 0 0 [(0, vr (some this)), (1, vi x1), (2, vi x2)] [] A := by
  have hX := hM.1
  unfold f_X4_reach at hf
  refine g_iconst hX dX4_reach_0 (1 : Int32) (by decide) ?_
  refine g_iload_n hX dX4_reach_1 (lg_at 2 rfl) ?_
  refine g_ishl hX dX4_reach_2 ?_
  refine g_istore_n hX dX4_reach_3 [(3, vi ((1 : Int32) <<< (x2 &&& 31))), (0, vr (some this)), (1, vi x1), (2, vi x2)] (by decide) rfl ?_
  refine g_iconst hX dX4_reach_4 (0 : Int32) (by decide) ?_
  refine g_istore hX dX4_reach_5 [(4, vi (0 : Int32)), (3, vi ((1 : Int32) <<< (x2 &&& 31))), (0, vr (some this)), (1, vi x1), (2, vi x2)] (by decide) rfl ?_
  exact g_pick (w_l_X4_reach_7 hM hf hr) [2, 3, 1, 0] rfl

theorem m_X4_reach {l : Launch} {this : Nat} {x1 : Int32} {x2 : Int32} {A : AH} {out : Int32} (h : f_X4_reach this x1 x2 A = some out) : MetF l yX4_reach (Cond.code yX4_reach cX4_reach 6 (some Jvm.ClassFile.FieldType.int)) rm_X4_reach [vr (some this), vi x1, vi x2] A (r_X4_reach A out) :=
  metF_of rfl rfl (Nat.le_of_ble_eq_true rfl) fun X hX hl hR hnm hr h1 h2 hno => w_f_X4_reach (X := X) ⟨hX, hR, h1, h2, fun _ => ⟨hnm, hno⟩⟩ h hr

/-! SlimeNetModel.addTree(III)V -/
def rm_X4_addTree : Room := { frames := 1, cells := 0, slots := 0, locals := 24 }
def r_X4_addTree (_A : AH) (o : AH) : (Option AV × AH) ⊕ (Nat × AH) := .inl (none, o)
def k_X4_addTree_6 (X : Ctx) (this : Nat) (x1 : Int32) (x2 : Int32) (x3 : Int32) (A : AH) : ((Int64 × Int32) ⊕ (Int64)) → Prop
  | .inl (x4, x6) => G X 0 0 6 [(0, vr (some this)), (1, vi x1), (2, vi x2), (3, vi x3), (4, vl x4), (6, vi x6)] [] A
  | .inr x4 => G X 0 0 44 [(0, vr (some this)), (1, vi x1), (2, vi x2), (3, vi x3), (4, vl x4)] [] A

def k_X4_addTree_84 (X : Ctx) (this : Nat) (x1 : Int32) (x4 : Int64) (x6 : Int32) (x7 : Int32) : ((Int32 × AH) ⊕ (AH)) → Prop
  | .inl (x8, A) => G X 0 0 84 [(0, vr (some this)), (1, vi x1), (4, vl x4), (6, vi x6), (7, vi x7), (8, vi x8)] [] A
  | .inr A => G X 0 0 192 [] [] A

set_option maxRecDepth 100000 in
theorem w_f_X4_addTree_38 {X : Ctx} (hM : MX X yX4_addTree cX4_addTree 12 "SlimeNetModel" none rm_X4_addTree []) {this : Nat} {x1 : Int32} {x2 : Int32} {x3 : Int32} {x4 : Int64} {x6 : Int32} {A : AH} {out : (Int64 × Int32) ⊕ (Int64)} (hf : f_X4_addTree_38 this x1 x2 x3 x4 x6 A = some out) (K : k_X4_addTree_6 X this x1 x2 x3 A out) : G X 0 0 38 [(0, vr (some this)), (1, vi x1), (2, vi x2), (3, vi x3), (4, vl x4), (6, vi x6)] [] A := by
  have hX := hM.1
  unfold f_X4_addTree_38 at hf
  refine g_iinc hX dX4_addTree_38 (1 : Int32) (x6 + (1 : Int32)) [(6, vi (x6 + (1 : Int32))), (0, vr (some this)), (1, vi x1), (2, vi x2), (3, vi x3), (4, vl x4)] (by decide) rfl (lg_at 5 rfl) (by decide) rfl ?_
  refine g_goto hX dX4_addTree_41 6 (by decide) ?_
  cases hf
  exact g_pick (show G X _ _ _ _ _ _ from K) [1, 2, 3, 4, 5, 0] rfl

set_option maxRecDepth 100000 in
theorem w_f_X4_addTree_186 {X : Ctx} (hM : MX X yX4_addTree cX4_addTree 12 "SlimeNetModel" none rm_X4_addTree []) {this : Nat} {x1 : Int32} {x4 : Int64} {x6 : Int32} {x7 : Int32} {x8 : Int32} {A : AH} {out : (Int32 × AH) ⊕ (AH)} (hf : f_X4_addTree_186 this x1 x4 x6 x7 x8 A = some out) (K : k_X4_addTree_84 X this x1 x4 x6 x7 out) : G X 0 0 186 [(0, vr (some this)), (1, vi x1), (4, vl x4), (6, vi x6), (7, vi x7), (8, vi x8)] [] A := by
  have hX := hM.1
  unfold f_X4_addTree_186 at hf
  refine g_iinc hX dX4_addTree_186 (1 : Int32) (x8 + (1 : Int32)) [(8, vi (x8 + (1 : Int32))), (0, vr (some this)), (1, vi x1), (4, vl x4), (6, vi x6), (7, vi x7)] (by decide) rfl (lg_at 5 rfl) (by decide) rfl ?_
  refine g_goto hX dX4_addTree_189 84 (by decide) ?_
  cases hf
  exact g_pick (show G X _ _ _ _ _ _ from K) [1, 2, 3, 4, 5, 0] rfl

set_option maxRecDepth 100000 in
theorem w_f_X4_addTree_184 {X : Ctx} (hM : MX X yX4_addTree cX4_addTree 12 "SlimeNetModel" none rm_X4_addTree []) {this : Nat} {x1 : Int32} {x4 : Int64} {x6 : Int32} {x7 : Int32} {x8 : Int32} {t0 : Int64} {t1 : Int64} {t2 : Int32} {t3 : Option Nat} {A : AH} {out : (Int32 × AH) ⊕ (AH)} (hf : f_X4_addTree_184 this x1 x4 x6 x7 x8 t0 t1 t2 t3 A = some out) (K : k_X4_addTree_84 X this x1 x4 x6 x7 out) : G X 0 0 184 [(0, vr (some this)), (1, vi x1), (4, vl x4), (6, vi x6), (7, vi x7), (8, vi x8)] [vl t0, vl t1, vi t2, vr t3] A := by
  have hX := hM.1
  unfold f_X4_addTree_184 at hf
  refine g_ladd hX dX4_addTree_184 ?_
  refine g_last hX hf dX4_addTree_185 (fun A185 hf => ?_)
  exact g_pick (w_f_X4_addTree_186 hM hf K) [0, 1, 2, 3, 4, 5] rfl

set_option maxRecDepth 100000 in
theorem w_f_X4_addTree_159 {X : Ctx} (hM : MX X yX4_addTree cX4_addTree 12 "SlimeNetModel" none rm_X4_addTree []) {this : Nat} {x1 : Int32} {x4 : Int64} {x6 : Int32} {x7 : Int32} {x8 : Int32} {x10 : Int32} {t0 : Int32} {A : AH} {out : (Int32 × AH) ⊕ (AH)} (hf : f_X4_addTree_159 this x1 x4 x6 x7 x8 x10 t0 A = some out) (K : k_X4_addTree_84 X this x1 x4 x6 x7 out) : G X 0 0 159 [(0, vr (some this)), (1, vi x1), (4, vl x4), (6, vi x6), (7, vi x7), (8, vi x8), (10, vi x10)] [vi t0] A := by
  have hX := hM.1
  unfold f_X4_addTree_159 at hf
  refine g_istore hX dX4_addTree_159 [(11, vi t0), (0, vr (some this)), (1, vi x1), (4, vl x4), (6, vi x6), (7, vi x7), (8, vi x8), (10, vi x10)] (by decide) rfl ?_
  refine g_aload_n hX dX4_addTree_161 (lg_at 1 rfl) ?_
  refine g_getR hX hf fs_SlimeNetModel_212_5 rfl dX4_addTree_162 (fun v162 hf => ?_)
  refine g_iload hX dX4_addTree_165 (lg_at 6 rfl) ?_
  refine g_dup2 hX dX4_addTree_167 rfl rfl ?_
  refine g_lald hX hf dX4_addTree_168 (fun v168 hf => ?_)
  refine g_iload hX dX4_addTree_169 (lg_at 0 rfl) ?_
  refine g_iload hX dX4_addTree_171 (lg_at 7 rfl) ?_
  refine g_icmp_ne hX dX4_addTree_173 181 hf (by decide) (fun c173 hf => ?_) (fun c173 hf => ?_)
  · refine g_lload hX dX4_addTree_181 (lg_at 3 rfl) ?_
    refine g_lneg hX dX4_addTree_183 ?_
    exact g_pick (w_f_X4_addTree_184 hM hf K) [1, 2, 3, 4, 5, 6] rfl
  · refine g_lload hX dX4_addTree_176 (lg_at 3 rfl) ?_
    refine g_goto hX dX4_addTree_178 184 (by decide) ?_
    exact g_pick (w_f_X4_addTree_184 hM hf K) [1, 2, 3, 4, 5, 6] rfl

set_option maxRecDepth 100000 in
theorem w_f_X4_addTree_127 {X : Ctx} (hM : MX X yX4_addTree cX4_addTree 12 "SlimeNetModel" none rm_X4_addTree []) {this : Nat} {x1 : Int32} {x4 : Int64} {x6 : Int32} {x7 : Int32} {x8 : Int32} {x9 : Int32} {t0 : Int32} {A : AH} {out : (Int32 × AH) ⊕ (AH)} (hf : f_X4_addTree_127 this x1 x4 x6 x7 x8 x9 t0 A = some out) (K : k_X4_addTree_84 X this x1 x4 x6 x7 out) : G X 0 0 127 [(0, vr (some this)), (1, vi x1), (4, vl x4), (6, vi x6), (7, vi x7), (8, vi x8), (9, vi x9)] [vi t0] A := by
  have hX := hM.1
  unfold f_X4_addTree_127 at hf
  refine g_istore hX dX4_addTree_127 [(10, vi t0), (0, vr (some this)), (1, vi x1), (4, vl x4), (6, vi x6), (7, vi x7), (8, vi x8), (9, vi x9)] (by decide) rfl ?_
  refine g_iload hX dX4_addTree_129 (lg_at 7 rfl) ?_
  refine g_iload hX dX4_addTree_131 (lg_at 0 rfl) ?_
  refine g_icmp_ne hX dX4_addTree_133 139 hf (by decide) (fun c133 hf => ?_) (fun c133 hf => ?_)
  · refine g_aload_n hX dX4_addTree_139 (lg_at 1 rfl) ?_
    refine g_getR hX hf fs_SlimeNetModel_206_5 rfl dX4_addTree_140 (fun v140 hf => ?_)
    refine g_iload_n hX dX4_addTree_143 (lg_at 2 rfl) ?_
    refine g_iald hX hf dX4_addTree_144 (fun v144 hf => ?_)
    refine g_iload hX dX4_addTree_145 (lg_at 6 rfl) ?_
    refine g_ishr hX dX4_addTree_147 ?_
    refine g_iconst hX dX4_addTree_148 (1 : Int32) (by decide) ?_
    refine g_iand hX dX4_addTree_149 ?_
    refine g_iconst hX dX4_addTree_150 (1 : Int32) (by decide) ?_
    refine g_icmp_ne hX dX4_addTree_151 158 hf (by decide) (fun c151 hf => ?_) (fun c151 hf => ?_)
    · refine g_iconst hX dX4_addTree_158 (0 : Int32) (by decide) ?_
      exact g_pick (w_f_X4_addTree_159 hM hf K) [1, 2, 3, 4, 5, 6, 0] rfl
    · refine g_iconst hX dX4_addTree_154 (1 : Int32) (by decide) ?_
      refine g_goto hX dX4_addTree_155 159 (by decide) ?_
      exact g_pick (w_f_X4_addTree_159 hM hf K) [1, 2, 3, 4, 5, 6, 0] rfl
  · refine g_goto hX dX4_addTree_136 186 (by decide) ?_
    exact g_pick (w_f_X4_addTree_186 hM hf K) [1, 2, 3, 4, 5, 6] rfl

set_option maxRecDepth 100000 in
theorem w_f_X4_addTree_109 {X : Ctx} (hM : MX X yX4_addTree cX4_addTree 12 "SlimeNetModel" none rm_X4_addTree []) {this : Nat} {x1 : Int32} {x4 : Int64} {x6 : Int32} {x7 : Int32} {x8 : Int32} {t0 : Int32} {A : AH} {out : (Int32 × AH) ⊕ (AH)} (hf : f_X4_addTree_109 this x1 x4 x6 x7 x8 t0 A = some out) (K : k_X4_addTree_84 X this x1 x4 x6 x7 out) : G X 0 0 109 [(0, vr (some this)), (1, vi x1), (4, vl x4), (6, vi x6), (7, vi x7), (8, vi x8)] [vi t0] A := by
  have hX := hM.1
  unfold f_X4_addTree_109 at hf
  refine g_istore hX dX4_addTree_109 [(9, vi t0), (0, vr (some this)), (1, vi x1), (4, vl x4), (6, vi x6), (7, vi x7), (8, vi x8)] (by decide) rfl ?_
  refine g_iload hX dX4_addTree_111 (lg_at 5 rfl) ?_
  refine g_iload hX dX4_addTree_113 (lg_at 6 rfl) ?_
  refine g_ishr hX dX4_addTree_115 ?_
  refine g_iconst hX dX4_addTree_116 (1 : Int32) (by decide) ?_
  refine g_iand hX dX4_addTree_117 ?_
  refine g_iconst hX dX4_addTree_118 (1 : Int32) (by decide) ?_
  refine g_icmp_ne hX dX4_addTree_119 126 hf (by decide) (fun c119 hf => ?_) (fun c119 hf => ?_)
  · refine g_iconst hX dX4_addTree_126 (0 : Int32) (by decide) ?_
    exact g_pick (w_f_X4_addTree_127 hM hf K) [1, 2, 3, 4, 5, 6, 0] rfl
  · refine g_iconst hX dX4_addTree_122 (1 : Int32) (by decide) ?_
    refine g_goto hX dX4_addTree_123 127 (by decide) ?_
    exact g_pick (w_f_X4_addTree_127 hM hf K) [1, 2, 3, 4, 5, 6, 0] rfl

set_option maxRecDepth 100000 in
theorem w_s_X4_addTree_84 {X : Ctx} (hM : MX X yX4_addTree cX4_addTree 12 "SlimeNetModel" none rm_X4_addTree []) {this : Nat} {x1 : Int32} {x4 : Int64} {x6 : Int32} {x7 : Int32} {st : Int32 × AH} {out : (Int32 × AH) ⊕ (AH)} (hf : s_X4_addTree_84 this x1 x4 x6 x7 st = some out) (K : k_X4_addTree_84 X this x1 x4 x6 x7 out) : k_X4_addTree_84 X this x1 x4 x6 x7 (.inl st) := by
  have hX := hM.1
  obtain ⟨x8, A⟩ := st
  unfold s_X4_addTree_84 at hf
  dsimp only at hf
  show G X 0 0 84 [(0, vr (some this)), (1, vi x1), (4, vl x4), (6, vi x6), (7, vi x7), (8, vi x8)] [] A
  refine g_iload hX dX4_addTree_84 (lg_at 5 rfl) ?_
  refine g_aload_n hX dX4_addTree_86 (lg_at 0 rfl) ?_
  refine g_getI hX hf fs_SlimeNetModel_297_5 rfl dX4_addTree_87 (fun v87 hf => ?_)
  refine g_icmp_ge hX dX4_addTree_90 192 hf (by decide) (fun c90 hf => ?_) (fun c90 hf => ?_)
  · cases hf
    exact g_pick (show G X _ _ _ _ _ _ from K) [] rfl
  · refine g_iload hX dX4_addTree_93 (lg_at 3 rfl) ?_
    refine g_iload hX dX4_addTree_95 (lg_at 5 rfl) ?_
    refine g_ishr hX dX4_addTree_97 ?_
    refine g_iconst hX dX4_addTree_98 (1 : Int32) (by decide) ?_
    refine g_iand hX dX4_addTree_99 ?_
    refine g_iconst hX dX4_addTree_100 (1 : Int32) (by decide) ?_
    refine g_icmp_ne hX dX4_addTree_101 108 hf (by decide) (fun c101 hf => ?_) (fun c101 hf => ?_)
    · refine g_iconst hX dX4_addTree_108 (0 : Int32) (by decide) ?_
      exact g_pick (w_f_X4_addTree_109 hM hf K) [0, 1, 2, 3, 4, 5] rfl
    · refine g_iconst hX dX4_addTree_104 (1 : Int32) (by decide) ?_
      refine g_goto hX dX4_addTree_105 109 (by decide) ?_
      exact g_pick (w_f_X4_addTree_109 hM hf K) [0, 1, 2, 3, 4, 5] rfl

set_option maxRecDepth 100000 in
theorem w_l_X4_addTree_84 {X : Ctx} (hM : MX X yX4_addTree cX4_addTree 12 "SlimeNetModel" none rm_X4_addTree []) {this : Nat} {x1 : Int32} {x4 : Int64} {x6 : Int32} {x7 : Int32} {x8 : Int32} {A : AH} {out : AH} (hf : l_X4_addTree_84 this x1 x4 x6 x7 x8 A = some out) (hr : c_res X = r_X4_addTree A out) : G X 0 0 84 [(0, vr (some this)), (1, vi x1), (4, vl x4), (6, vi x6), (7, vi x7), (8, vi x8)] [] A := by
  have hX := hM.1
  unfold l_X4_addTree_84 at hf
  obtain ⟨e, hw, hf⟩ := ob_some hf
  refine (whl_ind (k_X4_addTree_84 X this x1 x4 x6 x7) (fun st o hs K => w_s_X4_addTree_84 hM hs K) hw ?_ : k_X4_addTree_84 X this x1 x4 x6 x7 (.inl (x8, A)))
  revert hf hw; generalize e = A; intro hw hf
  dsimp only at hf
  show G X 0 0 192 [] [] A
  cases hf
  exact h_vret hM dX4_addTree_192 hr rfl rfl

set_option maxRecDepth 100000 in
theorem w_s_X4_addTree_6 {X : Ctx} (hM : MX X yX4_addTree cX4_addTree 12 "SlimeNetModel" none rm_X4_addTree []) {this : Nat} {x1 : Int32} {x2 : Int32} {x3 : Int32} {A : AH} {st : Int64 × Int32} {out : (Int64 × Int32) ⊕ (Int64)} (hf : s_X4_addTree_6 this x1 x2 x3 A st = some out) (K : k_X4_addTree_6 X this x1 x2 x3 A out) : k_X4_addTree_6 X this x1 x2 x3 A (.inl st) := by
  have hX := hM.1
  obtain ⟨x4, x6⟩ := st
  unfold s_X4_addTree_6 at hf
  dsimp only at hf
  show G X 0 0 6 [(0, vr (some this)), (1, vi x1), (2, vi x2), (3, vi x3), (4, vl x4), (6, vi x6)] [] A
  refine g_iload hX dX4_addTree_6 (lg_at 5 rfl) ?_
  refine g_aload_n hX dX4_addTree_8 (lg_at 0 rfl) ?_
  refine g_getI hX hf fs_SlimeNetModel_297_5 rfl dX4_addTree_9 (fun v9 hf => ?_)
  refine g_icmp_ge hX dX4_addTree_12 44 hf (by decide) (fun c12 hf => ?_) (fun c12 hf => ?_)
  · cases hf
    exact g_pick (show G X _ _ _ _ _ _ from K) [0, 1, 2, 3, 4] rfl
  · refine g_iload_n hX dX4_addTree_15 (lg_at 1 rfl) ?_
    refine g_iload hX dX4_addTree_16 (lg_at 5 rfl) ?_
    refine g_ishr hX dX4_addTree_18 ?_
    refine g_iconst hX dX4_addTree_19 (1 : Int32) (by decide) ?_
    refine g_iand hX dX4_addTree_20 ?_
    refine g_iconst hX dX4_addTree_21 (1 : Int32) (by decide) ?_
    refine g_icmp_ne hX dX4_addTree_22 38 hf (by decide) (fun c22 hf => ?_) (fun c22 hf => ?_)
    · exact g_pick (w_f_X4_addTree_38 hM hf K) [0, 1, 2, 3, 4, 5] rfl
    · refine g_lload hX dX4_addTree_25 (lg_at 4 rfl) ?_
      refine g_aload_n hX dX4_addTree_27 (lg_at 0 rfl) ?_
      refine g_getR hX hf fs_SlimeNetModel_209_5 rfl dX4_addTree_28 (fun v28 hf => ?_)
      refine g_iload hX dX4_addTree_31 (lg_at 5 rfl) ?_
      refine g_iald hX hf dX4_addTree_33 (fun v33 hf => ?_)
      refine g_i2l hX dX4_addTree_34 ?_
      refine g_lmul hX dX4_addTree_35 ?_
      refine g_lstore hX dX4_addTree_36 [(4, vl (x4 * (Int32.toInt64 v33))), (0, vr (some this)), (1, vi x1), (2, vi x2), (3, vi x3), (6, vi x6)] (by decide) rfl ?_
      exact g_pick (w_f_X4_addTree_38 hM hf K) [1, 2, 3, 4, 0, 5] rfl

set_option maxRecDepth 100000 in
theorem w_l_X4_addTree_6 {X : Ctx} (hM : MX X yX4_addTree cX4_addTree 12 "SlimeNetModel" none rm_X4_addTree []) {this : Nat} {x1 : Int32} {x2 : Int32} {x3 : Int32} {x4 : Int64} {x6 : Int32} {A : AH} {out : AH} (hf : l_X4_addTree_6 this x1 x2 x3 x4 x6 A = some out) (hr : c_res X = r_X4_addTree A out) : G X 0 0 6 [(0, vr (some this)), (1, vi x1), (2, vi x2), (3, vi x3), (4, vl x4), (6, vi x6)] [] A := by
  have hX := hM.1
  unfold l_X4_addTree_6 at hf
  obtain ⟨e, hw, hf⟩ := ob_some hf
  refine (whl_ind (k_X4_addTree_6 X this x1 x2 x3 A) (fun st o hs K => w_s_X4_addTree_6 hM hs K) hw ?_ : k_X4_addTree_6 X this x1 x2 x3 A (.inl (x4, x6)))
  revert hf hw; generalize e = x4; intro hw hf
  dsimp only at hf
  show G X 0 0 44 [(0, vr (some this)), (1, vi x1), (2, vi x2), (3, vi x3), (4, vl x4)] [] A
  refine g_aload_n hX dX4_addTree_44 (lg_at 0 rfl) ?_
  refine g_dup hX dX4_addTree_45 rfl ?_
  refine g_getL hX hf fs_SlimeNetModel_347_5 rfl dX4_addTree_46 (fun v46 hf => ?_)
  refine g_lload hX dX4_addTree_49 (lg_at 4 rfl) ?_
  refine g_ladd hX dX4_addTree_51 ?_
  refine g_putL hX hf fs_SlimeNetModel_347_5 ⟨_, rfl, Or.inl rfl⟩ rfl dX4_addTree_52 (fun A52 hf => ?_)
  refine g_aload_n hX dX4_addTree_55 (lg_at 0 rfl) ?_
  refine g_getR hX hf fs_SlimeNetModel_203_5 rfl dX4_addTree_56 (fun v56 hf => ?_)
  refine g_bipush hX dX4_addTree_59 (6 : Int32) (by decide) ?_
  refine g_iload_n hX dX4_addTree_61 (lg_at 1 rfl) ?_
  refine g_imul hX dX4_addTree_62 ?_
  refine g_iload_n hX dX4_addTree_63 (lg_at 2 rfl) ?_
  refine g_iadd hX dX4_addTree_64 ?_
  refine g_iald hX hf dX4_addTree_65 (fun v65 hf => ?_)
  refine g_istore hX dX4_addTree_66 [(6, vi v65), (0, vr (some this)), (1, vi x1), (2, vi x2), (3, vi x3), (4, vl x4)] (by decide) rfl ?_
  refine g_aload_n hX dX4_addTree_68 (lg_at 1 rfl) ?_
  refine g_getR hX hf fs_SlimeNetModel_203_5 rfl dX4_addTree_69 (fun v69 hf => ?_)
  refine g_bipush hX dX4_addTree_72 (6 : Int32) (by decide) ?_
  refine g_iload_n hX dX4_addTree_74 (lg_at 2 rfl) ?_
  refine g_imul hX dX4_addTree_75 ?_
  refine g_iload_n hX dX4_addTree_76 (lg_at 4 rfl) ?_
  refine g_iadd hX dX4_addTree_77 ?_
  refine g_iald hX hf dX4_addTree_78 (fun v78 hf => ?_)
  refine g_istore hX dX4_addTree_79 [(7, vi v78), (6, vi v65), (0, vr (some this)), (1, vi x1), (2, vi x2), (3, vi x3), (4, vl x4)] (by decide) rfl ?_
  refine g_iconst hX dX4_addTree_81 (0 : Int32) (by decide) ?_
  refine g_istore hX dX4_addTree_82 [(8, vi (0 : Int32)), (7, vi v78), (6, vi v65), (0, vr (some this)), (1, vi x1), (2, vi x2), (3, vi x3), (4, vl x4)] (by decide) rfl ?_
  exact g_pick (w_l_X4_addTree_84 hM hf hr) [3, 4, 7, 2, 1, 0] rfl

set_option maxRecDepth 100000 in
theorem w_f_X4_addTree {X : Ctx} (hM : MX X yX4_addTree cX4_addTree 12 "SlimeNetModel" none rm_X4_addTree []) {this : Nat} {x1 : Int32} {x2 : Int32} {x3 : Int32} {A : AH} {out : AH} (hf : f_X4_addTree this x1 x2 x3 A = some out) (hr : c_res X = r_X4_addTree A out) : G X 0 0 0 [(0, vr (some this)), (1, vi x1), (2, vi x2), (3, vi x3)] [] A := by
  have hX := hM.1
  unfold f_X4_addTree at hf
  refine g_lconst hX dX4_addTree_0 (1 : Int64) (by decide) ?_
  refine g_lstore hX dX4_addTree_1 [(4, vl (1 : Int64)), (0, vr (some this)), (1, vi x1), (2, vi x2), (3, vi x3)] (by decide) rfl ?_
  refine g_iconst hX dX4_addTree_3 (0 : Int32) (by decide) ?_
  refine g_istore hX dX4_addTree_4 [(6, vi (0 : Int32)), (4, vl (1 : Int64)), (0, vr (some this)), (1, vi x1), (2, vi x2), (3, vi x3)] (by decide) rfl ?_
  exact g_pick (w_l_X4_addTree_6 hM hf hr) [2, 3, 4, 5, 1, 0] rfl

theorem m_X4_addTree {l : Launch} {this : Nat} {x1 : Int32} {x2 : Int32} {x3 : Int32} {A : AH} {out : AH} (h : f_X4_addTree this x1 x2 x3 A = some out) : MetF l yX4_addTree (Cond.code yX4_addTree cX4_addTree 12 none) rm_X4_addTree [vr (some this), vi x1, vi x2, vi x3] A (r_X4_addTree A out) :=
  metF_of rfl rfl (Nat.le_of_ble_eq_true rfl) fun X hX hl hR hnm hr h1 h2 hno => w_f_X4_addTree (X := X) ⟨hX, hR, h1, h2, fun _ => ⟨hnm, hno⟩⟩ h hr

/-! SlimeNetModel.findFlows([I[II)V -/
def rm_X4_findFlows : Room := { frames := 2, cells := 0, slots := 0, locals := 55 }
def r_X4_findFlows (_A : AH) (o : AH) : (Option AV × AH) ⊕ (Nat × AH) := .inl (none, o)
def k_X4_findFlows_8 (X : Ctx) (this : Nat) (x1 : Option Nat) (x2 : Option Nat) (x3 : Int32) : ((Int32 × AH) ⊕ (AH)) → Prop
  | .inl (x4, A) => G X 0 0 8 [(0, vr (some this)), (1, vr x1), (2, vr x2), (3, vi x3), (4, vi x4)] [] A
  | .inr A => G X 0 0 31 [(0, vr (some this)), (1, vr x1), (2, vr x2), (3, vi x3)] [] A

def k_X4_findFlows_51 (X : Ctx) (this : Nat) (x1 : Option Nat) (x2 : Option Nat) (A : AH) : ((Int32 × Int32) ⊕ (Int32 × Int32)) → Prop
  | .inl (x4, x5) => G X 0 0 51 [(0, vr (some this)), (1, vr x1), (2, vr x2), (4, vi x4), (5, vi x5)] [] A
  | .inr (x4, x5) => G X 0 0 85 [(0, vr (some this)), (1, vr x1), (2, vr x2), (4, vi x4), (5, vi x5)] [] A

def k_X4_findFlows_142 (X : Ctx) (this : Nat) (x1 : Option Nat) (x2 : Option Nat) (x6 : Int32) (x7 : Int32) (x8 : Int32) (x9 : Int32) : ((Int32 × AH) ⊕ (AH)) → Prop
  | .inl (x10, A) => G X 0 0 142 [(0, vr (some this)), (1, vr x1), (2, vr x2), (6, vi x6), (7, vi x7), (8, vi x8), (9, vi x9), (10, vi x10)] [] A
  | .inr A => G X 0 0 220 [(0, vr (some this)), (6, vi x6), (7, vi x7), (8, vi x8), (9, vi x9)] [] A

def k_X4_findFlows_229 (X : Ctx) (this : Nat) (x6 : Int32) (x7 : Int32) (x8 : Int32) (x9 : Int32) : ((Int32 × AH) ⊕ (AH)) → Prop
  | .inl (x10, A) => G X 0 0 229 [(0, vr (some this)), (6, vi x6), (7, vi x7), (8, vi x8), (9, vi x9), (10, vi x10)] [] A
  | .inr A => G X 0 0 268 [] [] A

set_option maxRecDepth 100000 in
theorem w_f_X4_findFlows_204 {X : Ctx} (hM : MX X yX4_findFlows cX4_findFlows 12 "SlimeNetModel" none rm_X4_findFlows []) {this : Nat} {x1 : Option Nat} {x2 : Option Nat} {x6 : Int32} {x7 : Int32} {x8 : Int32} {x9 : Int32} {x10 : Int32} {t0 : Int32} {t1 : Int32} {t2 : Int32} {t3 : Option Nat} {A : AH} {out : (Int32 × AH) ⊕ (AH)} (hf : f_X4_findFlows_204 this x1 x2 x6 x7 x8 x9 x10 t0 t1 t2 t3 A = some out) (K : k_X4_findFlows_142 X this x1 x2 x6 x7 x8 x9 out) : G X 0 0 204 [(0, vr (some this)), (1, vr x1), (2, vr x2), (6, vi x6), (7, vi x7), (8, vi x8), (9, vi x9), (10, vi x10)] [vi t0, vi t1, vi t2, vr t3] A := by
  have hX := hM.1
  unfold f_X4_findFlows_204 at hf
  refine g_imul hX dX4_findFlows_204 ?_
  refine g_aload_n hX dX4_findFlows_205 (lg_at 0 rfl) ?_
  refine g_getR hX hf fs_SlimeNetModel_194_5 rfl dX4_findFlows_206 (fun v206 hf => ?_)
  refine g_iload hX dX4_findFlows_209 (lg_at 7 rfl) ?_
  refine g_iald hX hf dX4_findFlows_211 (fun v211 hf => ?_)
  refine g_idiv hX dX4_findFlows_212 hf (fun v212 _ hf => ?_)
  refine g_iast hX hf dX4_findFlows_213 (fun A213 hf => ?_)
  refine g_iinc hX dX4_findFlows_214 (1 : Int32) (x10 + (1 : Int32)) [(10, vi (x10 + (1 : Int32))), (0, vr (some this)), (1, vr x1), (2, vr x2), (6, vi x6), (7, vi x7), (8, vi x8), (9, vi x9)] (by decide) rfl (lg_at 7 rfl) (by decide) rfl ?_
  refine g_goto hX dX4_findFlows_217 142 (by decide) ?_
  cases hf
  exact g_pick (show G X _ _ _ _ _ _ from K) [1, 2, 3, 4, 5, 6, 7, 0] rfl

set_option maxRecDepth 100000 in
theorem w_f_X4_findFlows_180 {X : Ctx} (hM : MX X yX4_findFlows cX4_findFlows 12 "SlimeNetModel" none rm_X4_findFlows []) {this : Nat} {x1 : Option Nat} {x2 : Option Nat} {x6 : Int32} {x7 : Int32} {x8 : Int32} {x9 : Int32} {x10 : Int32} {t0 : Int32} {A : AH} {out : (Int32 × AH) ⊕ (AH)} (hf : f_X4_findFlows_180 this x1 x2 x6 x7 x8 x9 x10 t0 A = some out) (K : k_X4_findFlows_142 X this x1 x2 x6 x7 x8 x9 out) : G X 0 0 180 [(0, vr (some this)), (1, vr x1), (2, vr x2), (6, vi x6), (7, vi x7), (8, vi x8), (9, vi x9), (10, vi x10)] [vi t0] A := by
  have hX := hM.1
  unfold f_X4_findFlows_180 at hf
  refine g_istore hX dX4_findFlows_180 [(11, vi t0), (0, vr (some this)), (1, vr x1), (2, vr x2), (6, vi x6), (7, vi x7), (8, vi x8), (9, vi x9), (10, vi x10)] (by decide) rfl ?_
  refine g_aload_n hX dX4_findFlows_182 (lg_at 1 rfl) ?_
  refine g_getR hX hf fs_SlimeNetModel_209_5 rfl dX4_findFlows_183 (fun v183 hf => ?_)
  refine g_iload hX dX4_findFlows_186 (lg_at 8 rfl) ?_
  refine g_aload_n hX dX4_findFlows_188 (lg_at 2 rfl) ?_
  refine g_iload hX dX4_findFlows_189 (lg_at 8 rfl) ?_
  refine g_iald hX hf dX4_findFlows_191 (fun v191 hf => ?_)
  refine g_iload hX dX4_findFlows_192 (lg_at 0 rfl) ?_
  refine g_if_eq hX dX4_findFlows_194 202 hf (by decide) (fun c194 hf => ?_) (fun c194 hf => ?_)
  · refine g_bipush hX dX4_findFlows_202 (24 : Int32) (by decide) ?_
    exact g_pick (w_f_X4_findFlows_204 hM hf K) [1, 2, 3, 4, 5, 6, 7, 8] rfl
  · refine g_bipush hX dX4_findFlows_197 (12 : Int32) (by decide) ?_
    refine g_goto hX dX4_findFlows_199 204 (by decide) ?_
    exact g_pick (w_f_X4_findFlows_204 hM hf K) [1, 2, 3, 4, 5, 6, 7, 8] rfl

set_option maxRecDepth 100000 in
theorem w_f_X4_findFlows_179 {X : Ctx} (hM : MX X yX4_findFlows cX4_findFlows 12 "SlimeNetModel" none rm_X4_findFlows []) {this : Nat} {x1 : Option Nat} {x2 : Option Nat} {x6 : Int32} {x7 : Int32} {x8 : Int32} {x9 : Int32} {x10 : Int32} {A : AH} {out : (Int32 × AH) ⊕ (AH)} (hf : f_X4_findFlows_179 this x1 x2 x6 x7 x8 x9 x10 A = some out) (K : k_X4_findFlows_142 X this x1 x2 x6 x7 x8 x9 out) : G X 0 0 179 [(0, vr (some this)), (1, vr x1), (2, vr x2), (6, vi x6), (7, vi x7), (8, vi x8), (9, vi x9), (10, vi x10)] [] A := by
  have hX := hM.1
  unfold f_X4_findFlows_179 at hf
  refine g_iconst hX dX4_findFlows_179 (0 : Int32) (by decide) ?_
  exact g_pick (w_f_X4_findFlows_180 hM hf K) [0, 1, 2, 3, 4, 5, 6, 7] rfl

set_option maxRecDepth 100000 in
theorem w_f_X4_findFlows_256 {X : Ctx} (hM : MX X yX4_findFlows cX4_findFlows 12 "SlimeNetModel" none rm_X4_findFlows []) {this : Nat} {x6 : Int32} {x7 : Int32} {x8 : Int32} {x9 : Int32} {x10 : Int32} {A : AH} {out : (Int32 × AH) ⊕ (AH)} (hf : f_X4_findFlows_256 this x6 x7 x8 x9 x10 A = some out) (K : k_X4_findFlows_229 X this x6 x7 x8 x9 out) : G X 0 0 256 [(0, vr (some this)), (6, vi x6), (7, vi x7), (8, vi x8), (9, vi x9), (10, vi x10)] [] A := by
  have hX := hM.1
  unfold f_X4_findFlows_256 at hf
  refine g_iload hX dX4_findFlows_256 (lg_at 5 rfl) ?_
  refine g_iconst hX dX4_findFlows_258 (1 : Int32) (by decide) ?_
  refine g_isub hX dX4_findFlows_259 ?_
  refine g_iload hX dX4_findFlows_260 (lg_at 3 rfl) ?_
  refine g_iand hX dX4_findFlows_262 ?_
  refine g_istore hX dX4_findFlows_263 [(10, vi ((x10 - (1 : Int32)) &&& x8)), (0, vr (some this)), (6, vi x6), (7, vi x7), (8, vi x8), (9, vi x9)] (by decide) rfl ?_
  refine g_goto hX dX4_findFlows_265 229 (by decide) ?_
  cases hf
  exact g_pick (show G X _ _ _ _ _ _ from K) [1, 2, 3, 4, 5, 0] rfl

set_option maxRecDepth 100000 in
theorem w_s_X4_findFlows_229 {X : Ctx} (hM : MX X yX4_findFlows cX4_findFlows 12 "SlimeNetModel" none rm_X4_findFlows []) {this : Nat} {x6 : Int32} {x7 : Int32} {x8 : Int32} {x9 : Int32} {st : Int32 × AH} {out : (Int32 × AH) ⊕ (AH)} (hf : s_X4_findFlows_229 this x6 x7 x8 x9 st = some out) (K : k_X4_findFlows_229 X this x6 x7 x8 x9 out) : k_X4_findFlows_229 X this x6 x7 x8 x9 (.inl st) := by
  have hX := hM.1
  obtain ⟨x10, A⟩ := st
  unfold s_X4_findFlows_229 at hf
  dsimp only at hf
  show G X 0 0 229 [(0, vr (some this)), (6, vi x6), (7, vi x7), (8, vi x8), (9, vi x9), (10, vi x10)] [] A
  refine g_iload hX dX4_findFlows_229 (lg_at 5 rfl) ?_
  refine g_if_le hX dX4_findFlows_231 268 hf (by decide) (fun c231 hf => ?_) (fun c231 hf => ?_)
  · cases hf
    exact g_pick (show G X _ _ _ _ _ _ from K) [] rfl
  · refine g_aload_n hX dX4_findFlows_234 (lg_at 0 rfl) ?_
    refine g_getR hX hf fs_SlimeNetModel_200_5 rfl dX4_findFlows_235 (fun v235 hf => ?_)
    refine g_iload hX dX4_findFlows_238 (lg_at 5 rfl) ?_
    refine g_iald hX hf dX4_findFlows_240 (fun v240 hf => ?_)
    refine g_iload hX dX4_findFlows_241 (lg_at 4 rfl) ?_
    refine g_icmp_ne hX dX4_findFlows_243 256 hf (by decide) (fun c243 hf => ?_) (fun c243 hf => ?_)
    · exact g_pick (w_f_X4_findFlows_256 hM hf K) [0, 1, 2, 3, 4, 5] rfl
    · refine g_aload_n hX dX4_findFlows_246 (lg_at 0 rfl) ?_
      refine g_iload hX dX4_findFlows_247 (lg_at 5 rfl) ?_
      refine g_iload hX dX4_findFlows_249 (lg_at 1 rfl) ?_
      refine g_iload hX dX4_findFlows_251 (lg_at 2 rfl) ?_
      obtain ⟨k253, hk253, hf⟩ := ob_some hf
      obtain ⟨A253, hc253, hf⟩ := ob_some hf
      refine h_callV hM [vi x10, vi x6, vi x7] dX4_findFlows_253 cs_SlimeNetModel_358_5 hk253 (m_X4_addTree hc253) rfl rfl rfl rfl ?_
      exact g_pick (w_f_X4_findFlows_256 hM hf K) [0, 1, 2, 3, 4, 5] rfl

set_option maxRecDepth 100000 in
theorem w_l_X4_findFlows_229 {X : Ctx} (hM : MX X yX4_findFlows cX4_findFlows 12 "SlimeNetModel" none rm_X4_findFlows []) {this : Nat} {x6 : Int32} {x7 : Int32} {x8 : Int32} {x9 : Int32} {x10 : Int32} {A : AH} {out : AH} (hf : l_X4_findFlows_229 this x6 x7 x8 x9 x10 A = some out) (hr : c_res X = r_X4_findFlows A out) : G X 0 0 229 [(0, vr (some this)), (6, vi x6), (7, vi x7), (8, vi x8), (9, vi x9), (10, vi x10)] [] A := by
  have hX := hM.1
  unfold l_X4_findFlows_229 at hf
  obtain ⟨e, hw, hf⟩ := ob_some hf
  refine (whl_ind (k_X4_findFlows_229 X this x6 x7 x8 x9) (fun st o hs K => w_s_X4_findFlows_229 hM hs K) hw ?_ : k_X4_findFlows_229 X this x6 x7 x8 x9 (.inl (x10, A)))
  revert hf hw; generalize e = A; intro hw hf
  dsimp only at hf
  show G X 0 0 268 [] [] A
  cases hf
  exact h_vret hM dX4_findFlows_268 hr rfl rfl

set_option maxRecDepth 100000 in
theorem w_s_X4_findFlows_142 {X : Ctx} (hM : MX X yX4_findFlows cX4_findFlows 12 "SlimeNetModel" none rm_X4_findFlows []) {this : Nat} {x1 : Option Nat} {x2 : Option Nat} {x6 : Int32} {x7 : Int32} {x8 : Int32} {x9 : Int32} {st : Int32 × AH} {out : (Int32 × AH) ⊕ (AH)} (hf : s_X4_findFlows_142 this x1 x2 x6 x7 x8 x9 st = some out) (K : k_X4_findFlows_142 X this x1 x2 x6 x7 x8 x9 out) : k_X4_findFlows_142 X this x1 x2 x6 x7 x8 x9 (.inl st) := by
  have hX := hM.1
  obtain ⟨x10, A⟩ := st
  unfold s_X4_findFlows_142 at hf
  dsimp only at hf
  show G X 0 0 142 [(0, vr (some this)), (1, vr x1), (2, vr x2), (6, vi x6), (7, vi x7), (8, vi x8), (9, vi x9), (10, vi x10)] [] A
  refine g_iload hX dX4_findFlows_142 (lg_at 7 rfl) ?_
  refine g_aload_n hX dX4_findFlows_144 (lg_at 0 rfl) ?_
  refine g_getI hX hf fs_SlimeNetModel_297_5 rfl dX4_findFlows_145 (fun v145 hf => ?_)
  refine g_icmp_ge hX dX4_findFlows_148 220 hf (by decide) (fun c148 hf => ?_) (fun c148 hf => ?_)
  · cases hf
    exact g_pick (show G X _ _ _ _ _ _ from K) [0, 3, 4, 5, 6] rfl
  · refine g_aload_n hX dX4_findFlows_151 (lg_at 0 rfl) ?_
    refine g_getI hX hf fs_SlimeNetModel_303_5 rfl dX4_findFlows_152 (fun v152 hf => ?_)
    refine g_iload hX dX4_findFlows_155 (lg_at 7 rfl) ?_
    refine g_ishr hX dX4_findFlows_157 ?_
    refine g_iconst hX dX4_findFlows_158 (1 : Int32) (by decide) ?_
    refine g_iand hX dX4_findFlows_159 ?_
    refine g_iconst hX dX4_findFlows_160 (1 : Int32) (by decide) ?_
    refine g_icmp_ne hX dX4_findFlows_161 179 hf (by decide) (fun c161 hf => ?_) (fun c161 hf => ?_)
    · exact g_pick (w_f_X4_findFlows_179 hM hf K) [0, 1, 2, 3, 4, 5, 6, 7] rfl
    · refine g_aload_n hX dX4_findFlows_164 (lg_at 2 rfl) ?_
      refine g_iload hX dX4_findFlows_165 (lg_at 7 rfl) ?_
      refine g_iald hX hf dX4_findFlows_167 (fun v167 hf => ?_)
      refine g_aload_n hX dX4_findFlows_168 (lg_at 0 rfl) ?_
      refine g_getI hX hf fs_SlimeNetModel_186_5 rfl dX4_findFlows_169 (fun v169 hf => ?_)
      refine g_icmp_ge hX dX4_findFlows_172 179 hf (by decide) (fun c172 hf => ?_) (fun c172 hf => ?_)
      · exact g_pick (w_f_X4_findFlows_179 hM hf K) [0, 1, 2, 3, 4, 5, 6, 7] rfl
      · refine g_iconst hX dX4_findFlows_175 (1 : Int32) (by decide) ?_
        refine g_goto hX dX4_findFlows_176 180 (by decide) ?_
        exact g_pick (w_f_X4_findFlows_180 hM hf K) [0, 1, 2, 3, 4, 5, 6, 7] rfl

set_option maxRecDepth 100000 in
theorem w_l_X4_findFlows_142 {X : Ctx} (hM : MX X yX4_findFlows cX4_findFlows 12 "SlimeNetModel" none rm_X4_findFlows []) {this : Nat} {x1 : Option Nat} {x2 : Option Nat} {x6 : Int32} {x7 : Int32} {x8 : Int32} {x9 : Int32} {x10 : Int32} {A : AH} {out : AH} (hf : l_X4_findFlows_142 this x1 x2 x6 x7 x8 x9 x10 A = some out) (hr : c_res X = r_X4_findFlows A out) : G X 0 0 142 [(0, vr (some this)), (1, vr x1), (2, vr x2), (6, vi x6), (7, vi x7), (8, vi x8), (9, vi x9), (10, vi x10)] [] A := by
  have hX := hM.1
  unfold l_X4_findFlows_142 at hf
  obtain ⟨e, hw, hf⟩ := ob_some hf
  refine (whl_ind (k_X4_findFlows_142 X this x1 x2 x6 x7 x8 x9) (fun st o hs K => w_s_X4_findFlows_142 hM hs K) hw ?_ : k_X4_findFlows_142 X this x1 x2 x6 x7 x8 x9 (.inl (x10, A)))
  revert hf hw; generalize e = A; intro hw hf
  dsimp only at hf
  show G X 0 0 220 [(0, vr (some this)), (6, vi x6), (7, vi x7), (8, vi x8), (9, vi x9)] [] A
  refine g_aload_n hX dX4_findFlows_220 (lg_at 0 rfl) ?_
  refine g_lconst hX dX4_findFlows_221 (0 : Int64) (by decide) ?_
  refine g_putL hX hf fs_SlimeNetModel_347_5 ⟨_, rfl, Or.inl rfl⟩ rfl dX4_findFlows_222 (fun A222 hf => ?_)
  refine g_iload hX dX4_findFlows_225 (lg_at 3 rfl) ?_
  refine g_istore hX dX4_findFlows_227 [(10, vi x8), (0, vr (some this)), (6, vi x6), (7, vi x7), (8, vi x8), (9, vi x9)] (by decide) rfl ?_
  exact g_pick (w_l_X4_findFlows_229 hM hf hr) [1, 2, 3, 4, 5, 0] rfl

set_option maxRecDepth 100000 in
theorem w_s_X4_findFlows_51 {X : Ctx} (hM : MX X yX4_findFlows cX4_findFlows 12 "SlimeNetModel" none rm_X4_findFlows []) {this : Nat} {x1 : Option Nat} {x2 : Option Nat} {A : AH} {st : Int32 × Int32} {out : (Int32 × Int32) ⊕ (Int32 × Int32)} (hf : s_X4_findFlows_51 this x1 x2 A st = some out) (K : k_X4_findFlows_51 X this x1 x2 A out) : k_X4_findFlows_51 X this x1 x2 A (.inl st) := by
  have hX := hM.1
  obtain ⟨x4, x5⟩ := st
  unfold s_X4_findFlows_51 at hf
  dsimp only at hf
  show G X 0 0 51 [(0, vr (some this)), (1, vr x1), (2, vr x2), (4, vi x4), (5, vi x5)] [] A
  refine g_iload hX dX4_findFlows_51 (lg_at 3 rfl) ?_
  refine g_aload_n hX dX4_findFlows_53 (lg_at 0 rfl) ?_
  refine g_getI hX hf fs_SlimeNetModel_300_5 rfl dX4_findFlows_54 (fun v54 hf => ?_)
  refine g_iconst hX dX4_findFlows_57 (1 : Int32) (by decide) ?_
  refine g_isub hX dX4_findFlows_58 ?_
  refine g_iload hX dX4_findFlows_59 (lg_at 4 rfl) ?_
  refine g_isub hX dX4_findFlows_61 ?_
  refine g_icmp_lt hX dX4_findFlows_62 85 hf (by decide) (fun c62 hf => ?_) (fun c62 hf => ?_)
  · cases hf
    exact g_pick (show G X _ _ _ _ _ _ from K) [0, 1, 2, 3, 4] rfl
  · refine g_iload hX dX4_findFlows_65 (lg_at 3 rfl) ?_
    refine g_aload_n hX dX4_findFlows_67 (lg_at 0 rfl) ?_
    refine g_getI hX hf fs_SlimeNetModel_300_5 rfl dX4_findFlows_68 (fun v68 hf => ?_)
    refine g_iconst hX dX4_findFlows_71 (1 : Int32) (by decide) ?_
    refine g_isub hX dX4_findFlows_72 ?_
    refine g_iload hX dX4_findFlows_73 (lg_at 4 rfl) ?_
    refine g_isub hX dX4_findFlows_75 ?_
    refine g_isub hX dX4_findFlows_76 ?_
    refine g_istore hX dX4_findFlows_77 [(4, vi (x4 - ((v68 - (1 : Int32)) - x5))), (0, vr (some this)), (1, vr x1), (2, vr x2), (5, vi x5)] (by decide) rfl ?_
    refine g_iinc hX dX4_findFlows_79 (1 : Int32) (x5 + (1 : Int32)) [(5, vi (x5 + (1 : Int32))), (4, vi (x4 - ((v68 - (1 : Int32)) - x5))), (0, vr (some this)), (1, vr x1), (2, vr x2)] (by decide) rfl (lg_at 4 rfl) (by decide) rfl ?_
    refine g_goto hX dX4_findFlows_82 51 (by decide) ?_
    cases hf
    exact g_pick (show G X _ _ _ _ _ _ from K) [2, 3, 4, 1, 0] rfl

set_option maxRecDepth 100000 in
theorem w_l_X4_findFlows_51 {X : Ctx} (hM : MX X yX4_findFlows cX4_findFlows 12 "SlimeNetModel" none rm_X4_findFlows []) {this : Nat} {x1 : Option Nat} {x2 : Option Nat} {x4 : Int32} {x5 : Int32} {A : AH} {out : AH} (hf : l_X4_findFlows_51 this x1 x2 x4 x5 A = some out) (hr : c_res X = r_X4_findFlows A out) : G X 0 0 51 [(0, vr (some this)), (1, vr x1), (2, vr x2), (4, vi x4), (5, vi x5)] [] A := by
  have hX := hM.1
  unfold l_X4_findFlows_51 at hf
  obtain ⟨e, hw, hf⟩ := ob_some hf
  refine (whl_ind (k_X4_findFlows_51 X this x1 x2 A) (fun st o hs K => w_s_X4_findFlows_51 hM hs K) hw ?_ : k_X4_findFlows_51 X this x1 x2 A (.inl (x4, x5)))
  obtain ⟨x4, x5⟩ := e
  dsimp only at hf
  show G X 0 0 85 [(0, vr (some this)), (1, vr x1), (2, vr x2), (4, vi x4), (5, vi x5)] [] A
  refine g_aload_n hX dX4_findFlows_85 (lg_at 0 rfl) ?_
  refine g_getR hX hf fs_SlimeNetModel_197_5 rfl dX4_findFlows_86 (fun v86 hf => ?_)
  refine g_iload hX dX4_findFlows_89 (lg_at 4 rfl) ?_
  refine g_iald hX hf dX4_findFlows_91 (fun v91 hf => ?_)
  refine g_istore hX dX4_findFlows_92 [(6, vi v91), (0, vr (some this)), (1, vr x1), (2, vr x2), (4, vi x4), (5, vi x5)] (by decide) rfl ?_
  refine g_aload_n hX dX4_findFlows_94 (lg_at 1 rfl) ?_
  refine g_getR hX hf fs_SlimeNetModel_197_5 rfl dX4_findFlows_95 (fun v95 hf => ?_)
  refine g_iload hX dX4_findFlows_98 (lg_at 5 rfl) ?_
  refine g_iconst hX dX4_findFlows_100 (1 : Int32) (by decide) ?_
  refine g_iadd hX dX4_findFlows_101 ?_
  refine g_iload hX dX4_findFlows_102 (lg_at 4 rfl) ?_
  refine g_iadd hX dX4_findFlows_104 ?_
  refine g_iald hX hf dX4_findFlows_105 (fun v105 hf => ?_)
  refine g_istore hX dX4_findFlows_106 [(7, vi v105), (6, vi v91), (0, vr (some this)), (1, vr x1), (2, vr x2), (4, vi x4), (5, vi x5)] (by decide) rfl ?_
  refine g_aload_n hX dX4_findFlows_108 (lg_at 3 rfl) ?_
  refine g_aload_n hX dX4_findFlows_109 (lg_at 2 rfl) ?_
  refine g_getI hX hf fs_SlimeNetModel_297_5 rfl dX4_findFlows_110 (fun v110 hf => ?_)
  obtain ⟨v113, hc113, hf⟩ := ob_some hf
  refine h_callS hM [vr x1, vi v110] dX4_findFlows_113 cs_SlimeNetModel_351_s (m_X4_widths hc113) rfl rfl rfl rfl ?_
  refine g_istore hX dX4_findFlows_116 [(8, vi v113), (7, vi v105), (6, vi v91), (0, vr (some this)), (1, vr x1), (2, vr x2), (4, vi x4), (5, vi x5)] (by decide) rfl ?_
  refine g_aload_n hX dX4_findFlows_118 (lg_at 3 rfl) ?_
  refine g_iload hX dX4_findFlows_119 (lg_at 0 rfl) ?_
  refine g_iload hX dX4_findFlows_121 (lg_at 2 rfl) ?_
  obtain ⟨k123, hk123, hf⟩ := ob_some hf
  obtain ⟨v123, hc123, hf⟩ := ob_some hf
  refine h_callV hM [vi v113, vi v91] dX4_findFlows_123 cs_SlimeNetModel_355_5 hk123 (m_X4_reach hc123) rfl rfl rfl rfl ?_
  refine g_istore hX dX4_findFlows_126 [(9, vi v123), (8, vi v113), (7, vi v105), (6, vi v91), (0, vr (some this)), (1, vr x1), (2, vr x2), (4, vi x4), (5, vi x5)] (by decide) rfl ?_
  refine g_iload hX dX4_findFlows_128 (lg_at 0 rfl) ?_
  refine g_iload hX dX4_findFlows_130 (lg_at 2 rfl) ?_
  refine g_ishr hX dX4_findFlows_132 ?_
  refine g_iconst hX dX4_findFlows_133 (1 : Int32) (by decide) ?_
  refine g_iand hX dX4_findFlows_134 ?_
  refine g_if_ne hX dX4_findFlows_135 139 hf (by decide) (fun c135 hf => ?_) (fun c135 hf => ?_)
  · refine g_iconst hX dX4_findFlows_139 (0 : Int32) (by decide) ?_
    refine g_istore hX dX4_findFlows_140 [(10, vi (0 : Int32)), (9, vi v123), (8, vi v113), (7, vi v105), (6, vi v91), (0, vr (some this)), (1, vr x1), (2, vr x2), (4, vi x4), (5, vi x5)] (by decide) rfl ?_
    exact g_pick (w_l_X4_findFlows_142 hM hf hr) [5, 6, 7, 4, 3, 2, 1, 0] rfl
  · cases hf
    exact h_vret hM dX4_findFlows_138 hr rfl rfl

set_option maxRecDepth 100000 in
theorem w_s_X4_findFlows_8 {X : Ctx} (hM : MX X yX4_findFlows cX4_findFlows 12 "SlimeNetModel" none rm_X4_findFlows []) {this : Nat} {x1 : Option Nat} {x2 : Option Nat} {x3 : Int32} {st : Int32 × AH} {out : (Int32 × AH) ⊕ (AH)} (hf : s_X4_findFlows_8 this x1 x2 x3 st = some out) (K : k_X4_findFlows_8 X this x1 x2 x3 out) : k_X4_findFlows_8 X this x1 x2 x3 (.inl st) := by
  have hX := hM.1
  obtain ⟨x4, A⟩ := st
  unfold s_X4_findFlows_8 at hf
  dsimp only at hf
  show G X 0 0 8 [(0, vr (some this)), (1, vr x1), (2, vr x2), (3, vi x3), (4, vi x4)] [] A
  refine g_iload hX dX4_findFlows_8 (lg_at 4 rfl) ?_
  refine g_aload_n hX dX4_findFlows_10 (lg_at 0 rfl) ?_
  refine g_getI hX hf fs_SlimeNetModel_297_5 rfl dX4_findFlows_11 (fun v11 hf => ?_)
  refine g_icmp_ge hX dX4_findFlows_14 31 hf (by decide) (fun c14 hf => ?_) (fun c14 hf => ?_)
  · cases hf
    exact g_pick (show G X _ _ _ _ _ _ from K) [0, 1, 2, 3] rfl
  · refine g_aload_n hX dX4_findFlows_17 (lg_at 0 rfl) ?_
    refine g_getR hX hf fs_SlimeNetModel_212_5 rfl dX4_findFlows_18 (fun v18 hf => ?_)
    refine g_iload hX dX4_findFlows_21 (lg_at 4 rfl) ?_
    refine g_lconst hX dX4_findFlows_23 (0 : Int64) (by decide) ?_
    refine g_last hX hf dX4_findFlows_24 (fun A24 hf => ?_)
    refine g_iinc hX dX4_findFlows_25 (1 : Int32) (x4 + (1 : Int32)) [(4, vi (x4 + (1 : Int32))), (0, vr (some this)), (1, vr x1), (2, vr x2), (3, vi x3)] (by decide) rfl (lg_at 4 rfl) (by decide) rfl ?_
    refine g_goto hX dX4_findFlows_28 8 (by decide) ?_
    cases hf
    exact g_pick (show G X _ _ _ _ _ _ from K) [1, 2, 3, 4, 0] rfl

set_option maxRecDepth 100000 in
theorem w_l_X4_findFlows_8 {X : Ctx} (hM : MX X yX4_findFlows cX4_findFlows 12 "SlimeNetModel" none rm_X4_findFlows []) {this : Nat} {x1 : Option Nat} {x2 : Option Nat} {x3 : Int32} {x4 : Int32} {A : AH} {out : AH} (hf : l_X4_findFlows_8 this x1 x2 x3 x4 A = some out) (hr : c_res X = r_X4_findFlows A out) : G X 0 0 8 [(0, vr (some this)), (1, vr x1), (2, vr x2), (3, vi x3), (4, vi x4)] [] A := by
  have hX := hM.1
  unfold l_X4_findFlows_8 at hf
  obtain ⟨e, hw, hf⟩ := ob_some hf
  refine (whl_ind (k_X4_findFlows_8 X this x1 x2 x3) (fun st o hs K => w_s_X4_findFlows_8 hM hs K) hw ?_ : k_X4_findFlows_8 X this x1 x2 x3 (.inl (x4, A)))
  revert hf hw; generalize e = A; intro hw hf
  dsimp only at hf
  show G X 0 0 31 [(0, vr (some this)), (1, vr x1), (2, vr x2), (3, vi x3)] [] A
  refine g_aload_n hX dX4_findFlows_31 (lg_at 0 rfl) ?_
  refine g_getI hX hf fs_SlimeNetModel_300_5 rfl dX4_findFlows_32 (fun v32 hf => ?_)
  refine g_iconst hX dX4_findFlows_35 (2 : Int32) (by decide) ?_
  refine g_icmp_ge hX dX4_findFlows_36 40 hf (by decide) (fun c36 hf => ?_) (fun c36 hf => ?_)
  · refine g_iload_n hX dX4_findFlows_40 (lg_at 3 rfl) ?_
    refine g_aload_n hX dX4_findFlows_41 (lg_at 0 rfl) ?_
    obtain ⟨k42, hk42, hf⟩ := ob_some hf
    obtain ⟨v42, hc42, hf⟩ := ob_some hf
    refine h_callV hM [] dX4_findFlows_42 cs_SlimeNetModel_336_5 hk42 (m_X4_pairs hc42) rfl rfl rfl rfl ?_
    refine g_irem hX dX4_findFlows_45 hf (fun v45 _ hf => ?_)
    refine g_istore hX dX4_findFlows_46 [(4, vi v45), (0, vr (some this)), (1, vr x1), (2, vr x2), (3, vi x3)] (by decide) rfl ?_
    refine g_iconst hX dX4_findFlows_48 (0 : Int32) (by decide) ?_
    refine g_istore hX dX4_findFlows_49 [(5, vi (0 : Int32)), (4, vi v45), (0, vr (some this)), (1, vr x1), (2, vr x2), (3, vi x3)] (by decide) rfl ?_
    exact g_pick (w_l_X4_findFlows_51 hM hf hr) [2, 3, 4, 1, 0] rfl
  · cases hf
    exact h_vret hM dX4_findFlows_39 hr rfl rfl

set_option maxRecDepth 100000 in
theorem w_f_X4_findFlows {X : Ctx} (hM : MX X yX4_findFlows cX4_findFlows 12 "SlimeNetModel" none rm_X4_findFlows []) {this : Nat} {x1 : Option Nat} {x2 : Option Nat} {x3 : Int32} {A : AH} {out : AH} (hf : f_X4_findFlows this x1 x2 x3 A = some out) (hr : c_res X = r_X4_findFlows A out) : G X 0 0 0 [(0, vr (some this)), (1, vr x1), (2, vr x2), (3, vi x3)] [] A := by
  have hX := hM.1
  unfold f_X4_findFlows at hf
  refine g_aload_n hX dX4_findFlows_0 (lg_at 0 rfl) ?_
  refine g_lconst hX dX4_findFlows_1 (1 : Int64) (by decide) ?_
  refine g_putL hX hf fs_SlimeNetModel_347_5 ⟨_, rfl, Or.inl rfl⟩ rfl dX4_findFlows_2 (fun A2 hf => ?_)
  refine g_iconst hX dX4_findFlows_5 (0 : Int32) (by decide) ?_
  refine g_istore hX dX4_findFlows_6 [(4, vi (0 : Int32)), (0, vr (some this)), (1, vr x1), (2, vr x2), (3, vi x3)] (by decide) rfl ?_
  exact g_pick (w_l_X4_findFlows_8 hM hf hr) [1, 2, 3, 4, 0] rfl

theorem m_X4_findFlows {l : Launch} {this : Nat} {x1 : Option Nat} {x2 : Option Nat} {x3 : Int32} {A : AH} {out : AH} (h : f_X4_findFlows this x1 x2 x3 A = some out) : MetF l yX4_findFlows (Cond.code yX4_findFlows cX4_findFlows 12 none) rm_X4_findFlows [vr (some this), vr x1, vr x2, vi x3] A (r_X4_findFlows A out) :=
  metF_of rfl rfl (Nat.le_of_ble_eq_true rfl) fun X hX hl hR hnm hr h1 h2 hno => w_f_X4_findFlows (X := X) ⟨hX, hR, h1, h2, fun _ => ⟨hnm, hno⟩⟩ h hr

/-! SlimeNetModel.common(JJ)J -/
def rm_X4_common : Room := { frames := 1, cells := 0, slots := 0, locals := 24 }
def r_X4_common (A : AH) (o : Int64) : (Option AV × AH) ⊕ (Nat × AH) := .inl (some (vl o), A)
def k_X4_common_17 (X : Ctx) (A : AH) : ((Int64 × Int64) ⊕ (Int64)) → Prop
  | .inl (x4, x6) => G X 0 0 17 [(4, vl x4), (6, vl x6)] [] A
  | .inr x4 => G X 0 0 42 [(4, vl x4)] [] A

set_option maxRecDepth 100000 in
theorem w_s_X4_common_17 {X : Ctx} (hM : MX X yX4_common cX4_common 10 "SlimeNetModel" (some Jvm.ClassFile.FieldType.long) rm_X4_common []) {A : AH} {st : Int64 × Int64} {out : (Int64 × Int64) ⊕ (Int64)} (hf : s_X4_common_17 st = some out) (K : k_X4_common_17 X A out) : k_X4_common_17 X A (.inl st) := by
  have hX := hM.1
  obtain ⟨x4, x6⟩ := st
  unfold s_X4_common_17 at hf
  dsimp only at hf
  show G X 0 0 17 [(4, vl x4), (6, vl x6)] [] A
  refine g_lload hX dX4_common_17 (lg_at 1 rfl) ?_
  refine g_lconst hX dX4_common_19 (0 : Int64) (by decide) ?_
  refine g_lcmp hX dX4_common_20 ?_
  refine g_if_eq hX dX4_common_21 42 hf (by decide) (fun c21 hf => ?_) (fun c21 hf => ?_)
  · cases hf
    exact g_pick (show G X _ _ _ _ _ _ from K) [0] rfl
  · refine g_lload hX dX4_common_24 (lg_at 0 rfl) ?_
    refine g_lload hX dX4_common_26 (lg_at 1 rfl) ?_
    refine g_lrem hX dX4_common_28 hf (fun v28 _ hf => ?_)
    refine g_lstore hX dX4_common_29 [(8, vl v28), (4, vl x4), (6, vl x6)] (by decide) rfl ?_
    refine g_lload hX dX4_common_31 (lg_at 2 rfl) ?_
    refine g_lstore hX dX4_common_33 [(4, vl x6), (8, vl v28), (6, vl x6)] (by decide) rfl ?_
    refine g_lload hX dX4_common_35 (lg_at 1 rfl) ?_
    refine g_lstore hX dX4_common_37 [(6, vl v28), (4, vl x6), (8, vl v28)] (by decide) rfl ?_
    refine g_goto hX dX4_common_39 17 (by decide) ?_
    cases hf
    exact g_pick (show G X _ _ _ _ _ _ from K) [1, 0] rfl

set_option maxRecDepth 100000 in
theorem w_l_X4_common_17 {X : Ctx} (hM : MX X yX4_common cX4_common 10 "SlimeNetModel" (some Jvm.ClassFile.FieldType.long) rm_X4_common []) {x4 : Int64} {x6 : Int64} {A : AH} {out : Int64} (hf : l_X4_common_17 x4 x6 = some out) (hr : c_res X = r_X4_common A out) : G X 0 0 17 [(4, vl x4), (6, vl x6)] [] A := by
  have hX := hM.1
  unfold l_X4_common_17 at hf
  obtain ⟨e, hw, hf⟩ := ob_some hf
  refine (whl_ind (k_X4_common_17 X A) (fun st o hs K => w_s_X4_common_17 hM hs K) hw ?_ : k_X4_common_17 X A (.inl (x4, x6)))
  revert hf hw; generalize e = x4; intro hw hf
  dsimp only at hf
  show G X 0 0 42 [(4, vl x4)] [] A
  refine g_lload hX dX4_common_42 (lg_at 0 rfl) ?_
  cases hf
  exact h_lret hM dX4_common_44 hr rfl rfl

set_option maxRecDepth 100000 in
theorem w_f_X4_common_12 {X : Ctx} (hM : MX X yX4_common cX4_common 10 "SlimeNetModel" (some Jvm.ClassFile.FieldType.long) rm_X4_common []) {x2 : Int64} {t0 : Int64} {A : AH} {out : Int64} (hf : f_X4_common_12 x2 t0 = some out) (hr : c_res X = r_X4_common A out) : G X 0 0 12 [(2, vl x2)] [vl t0] A := by
  have hX := hM.1
  unfold f_X4_common_12 at hf
  refine g_lstore hX dX4_common_12 [(4, vl t0), (2, vl x2)] (by decide) rfl ?_
  refine g_lload_n hX dX4_common_14 (lg_at 1 rfl) ?_
  refine g_lstore hX dX4_common_15 [(6, vl x2), (4, vl t0), (2, vl x2)] (by decide) rfl ?_
  exact g_pick (w_l_X4_common_17 hM hf hr) [1, 0] rfl

set_option maxRecDepth 100000 in
theorem w_f_X4_common {X : Ctx} (hM : MX X yX4_common cX4_common 10 "SlimeNetModel" (some Jvm.ClassFile.FieldType.long) rm_X4_common []) {x0 : Int64} {x2 : Int64} {A : AH} {out : Int64} (hf : f_X4_common x0 x2 = some out) (hr : c_res X = r_X4_common A out) : G X 0 0 0 [(0, vl x0), (2, vl x2)] [] A := by
  have hX := hM.1
  unfold f_X4_common at hf
  refine g_lload_n hX dX4_common_0 (lg_at 0 rfl) ?_
  refine g_lconst hX dX4_common_1 (0 : Int64) (by decide) ?_
  refine g_lcmp hX dX4_common_2 ?_
  refine g_if_ge hX dX4_common_3 11 hf (by decide) (fun c3 hf => ?_) (fun c3 hf => ?_)
  · refine g_lload_n hX dX4_common_11 (lg_at 0 rfl) ?_
    exact g_pick (w_f_X4_common_12 hM hf hr) [1] rfl
  · refine g_lload_n hX dX4_common_6 (lg_at 0 rfl) ?_
    refine g_lneg hX dX4_common_7 ?_
    refine g_goto hX dX4_common_8 12 (by decide) ?_
    exact g_pick (w_f_X4_common_12 hM hf hr) [1] rfl

theorem m_X4_common {l : Launch} {x0 : Int64} {x2 : Int64} {A : AH} {out : Int64} (h : f_X4_common x0 x2 = some out) : MetF l yX4_common (Cond.code yX4_common cX4_common 10 (some Jvm.ClassFile.FieldType.long)) rm_X4_common [vl x0, vl x2] A (r_X4_common A out) :=
  metF_of rfl rfl (Nat.le_of_ble_eq_true rfl) fun X hX hl hR hnm hr h1 h2 hno => w_f_X4_common (X := X) ⟨hX, hR, h1, h2, fun _ => ⟨hnm, hno⟩⟩ h hr

/-! SlimeNetModel.flow(I)J -/
def rm_X4_flow : Room := { frames := 3, cells := 0, slots := 0, locals := 86 }
def r_X4_flow (_A : AH) (o : Int64 × AH) : (Option AV × AH) ⊕ (Nat × AH) := .inl (some (vl o.1), o.2)
set_option maxRecDepth 100000 in
theorem w_f_X4_flow {X : Ctx} (hM : MX X yX4_flow cX4_flow 2 "SlimeNetModel" (some Jvm.ClassFile.FieldType.long) rm_X4_flow []) {this : Nat} {x1 : Int32} {A : AH} {out : Int64 × AH} (hf : f_X4_flow this x1 A = some out) (hr : c_res X = r_X4_flow A out) : G X 0 0 0 [(0, vr (some this)), (1, vi x1)] [] A := by
  have hX := hM.1
  unfold f_X4_flow at hf
  refine g_aload_n hX dX4_flow_0 (lg_at 0 rfl) ?_
  refine g_iload_n hX dX4_flow_1 (lg_at 1 rfl) ?_
  obtain ⟨k2, hk2, hf⟩ := ob_some hf
  obtain ⟨v2, hc2, hf⟩ := ob_some hf
  refine h_callV hM [vi x1] dX4_flow_2 cs_SlimeNetModel_365_5 hk2 (m_X4_isPipe hc2) rfl rfl rfl rfl ?_
  refine g_if_ne hX dX4_flow_5 12 hf (by decide) (fun c5 hf => ?_) (fun c5 hf => ?_)
  · refine g_aload_n hX dX4_flow_12 (lg_at 0 rfl) ?_
    refine g_aload_n hX dX4_flow_13 (lg_at 0 rfl) ?_
    refine g_getR hX hf fs_SlimeNetModel_215_5 rfl dX4_flow_14 (fun v14 hf => ?_)
    refine g_aload_n hX dX4_flow_17 (lg_at 0 rfl) ?_
    refine g_getR hX hf fs_SlimeNetModel_217_5 rfl dX4_flow_18 (fun v18 hf => ?_)
    refine g_aload_n hX dX4_flow_21 (lg_at 0 rfl) ?_
    refine g_getI hX hf fs_SlimeNetModel_362_5 rfl dX4_flow_22 (fun v22 hf => ?_)
    obtain ⟨k25, hk25, hf⟩ := ob_some hf
    obtain ⟨A25, hc25, hf⟩ := ob_some hf
    refine h_callV hM [vr v14, vr v18, vi v22] dX4_flow_25 cs_SlimeNetModel_370_5 hk25 (m_X4_findFlows hc25) rfl rfl rfl rfl ?_
    refine g_aload_n hX dX4_flow_28 (lg_at 0 rfl) ?_
    refine g_getR hX hf fs_SlimeNetModel_212_5 rfl dX4_flow_29 (fun v29 hf => ?_)
    refine g_iload_n hX dX4_flow_32 (lg_at 1 rfl) ?_
    refine g_lald hX hf dX4_flow_33 (fun v33 hf => ?_)
    refine g_aload_n hX dX4_flow_34 (lg_at 0 rfl) ?_
    refine g_getR hX hf fs_SlimeNetModel_212_5 rfl dX4_flow_35 (fun v35 hf => ?_)
    refine g_iload_n hX dX4_flow_38 (lg_at 1 rfl) ?_
    refine g_lald hX hf dX4_flow_39 (fun v39 hf => ?_)
    refine g_aload_n hX dX4_flow_40 (lg_at 0 rfl) ?_
    refine g_getL hX hf fs_SlimeNetModel_347_5 rfl dX4_flow_41 (fun v41 hf => ?_)
    obtain ⟨v44, hc44, hf⟩ := ob_some hf
    refine h_callS hM [vl v39, vl v41] dX4_flow_44 cs_SlimeNetModel_374_s (m_X4_common hc44) rfl rfl rfl rfl ?_
    refine g_ldiv hX dX4_flow_47 hf (fun v47 _ hf => ?_)
    cases hf
    exact h_lret hM dX4_flow_48 hr rfl rfl
  · refine g_ldc2 hX dX4_flow_8 (v := (-9000000000000000000 : Int64)) (lw_LW q1402) ?_
    cases hf
    exact h_lret hM dX4_flow_11 hr rfl rfl

theorem m_X4_flow {l : Launch} {this : Nat} {x1 : Int32} {A : AH} {out : Int64 × AH} (h : f_X4_flow this x1 A = some out) : MetF l yX4_flow (Cond.code yX4_flow cX4_flow 2 (some Jvm.ClassFile.FieldType.long)) rm_X4_flow [vr (some this), vi x1] A (r_X4_flow A out) :=
  metF_of rfl rfl (Nat.le_of_ble_eq_true rfl) fun X hX hl hR hnm hr h1 h2 hno => w_f_X4_flow (X := X) ⟨hX, hR, h1, h2, fun _ => ⟨hnm, hno⟩⟩ h hr

/-! SlimeNet.under(I)J -/
def rm_X0_under : Room := { frames := 13, cells := 0, slots := 0, locals := 1104 }
def r_X0_under (_A : AH) (o : Int64 × AH) : (Option AV × AH) ⊕ (Nat × AH) := .inl (some (vl o.1), o.2)
set_option maxRecDepth 100000 in
theorem w_f_X0_under {X : Ctx} (hM : MX X yX0_under cX0_under 2 "SlimeNet" (some Jvm.ClassFile.FieldType.long) rm_X0_under []) {this : Nat} {x1 : Int32} {A : AH} {out : Int64 × AH} (hf : f_X0_under this x1 A = some out) (hr : c_res X = r_X0_under A out) : G X 0 0 0 [(0, vr (some this)), (1, vi x1)] [] A := by
  have hX := hM.1
  unfold f_X0_under at hf
  refine g_aload_n hX dX0_under_0 (lg_at 0 rfl) ?_
  refine g_iload_n hX dX0_under_1 (lg_at 1 rfl) ?_
  obtain ⟨k2, hk2, hf⟩ := ob_some hf
  obtain ⟨v2, hc2, hf⟩ := ob_some hf
  refine h_callV hM [vi x1] dX0_under_2 cs_SlimeNet_178_1 hk2 (m_X0_isPipe hc2) rfl rfl rfl rfl ?_
  refine g_if_ne hX dX0_under_5 10 hf (by decide) (fun c5 hf => ?_) (fun c5 hf => ?_)
  · refine g_aload_n hX dX0_under_10 (lg_at 0 rfl) ?_
    refine g_getR hX hf fs_SlimeNet_34_1 rfl dX0_under_11 (fun v11 hf => ?_)
    obtain ⟨k14, hk14, hf⟩ := ob_some hf
    obtain ⟨A14, hc14, hf⟩ := ob_some hf
    refine h_callV hM [] dX0_under_14 cs_SlimeNet_217_4 hk14 (m_X3_flow hc14) rfl rfl rfl rfl ?_
    refine g_aload_n hX dX0_under_17 (lg_at 0 rfl) ?_
    refine g_getR hX hf fs_SlimeNet_34_1 rfl dX0_under_18 (fun v18 hf => ?_)
    refine g_getL hX hf fs_SlimeNet_223_4 rfl dX0_under_21 (fun v21 hf => ?_)
    refine g_aload_n hX dX0_under_24 (lg_at 0 rfl) ?_
    refine g_getR hX hf fs_SlimeNet_34_1 rfl dX0_under_25 (fun v25 hf => ?_)
    refine g_getR hX hf fs_SlimeNet_220_4 rfl dX0_under_28 (fun v28 hf => ?_)
    refine g_iload_n hX dX0_under_31 (lg_at 1 rfl) ?_
    refine g_lald hX hf dX0_under_32 (fun v32 hf => ?_)
    refine g_aload_n hX dX0_under_33 (lg_at 0 rfl) ?_
    refine g_getR hX hf fs_SlimeNet_34_1 rfl dX0_under_34 (fun v34 hf => ?_)
    refine g_getL hX hf fs_SlimeNet_223_4 rfl dX0_under_37 (fun v37 hf => ?_)
    obtain ⟨v40, hc40, hf⟩ := ob_some hf
    refine h_callS hM [vl v32, vl v37] dX0_under_40 cs_SlimeNet_227_s (m_X0_common hc40) rfl rfl rfl rfl ?_
    refine g_ldiv hX dX0_under_43 hf (fun v43 _ hf => ?_)
    cases hf
    exact h_lret hM dX0_under_44 hr rfl rfl
  · refine g_lconst hX dX0_under_8 (0 : Int64) (by decide) ?_
    cases hf
    exact h_lret hM dX0_under_9 hr rfl rfl

theorem m_X0_under {l : Launch} {this : Nat} {x1 : Int32} {A : AH} {out : Int64 × AH} (h : f_X0_under this x1 A = some out) : MetF l yX0_under (Cond.code yX0_under cX0_under 2 (some Jvm.ClassFile.FieldType.long)) rm_X0_under [vr (some this), vi x1] A (r_X0_under A out) :=
  metF_of rfl rfl (Nat.le_of_ble_eq_true rfl) fun X hX hl hR hnm hr h1 h2 hno => w_f_X0_under (X := X) ⟨hX, hR, h1, h2, fun _ => ⟨hnm, hno⟩⟩ h hr

/-! SlimeNetModel.under(I)J -/
def rm_X4_under : Room := { frames := 3, cells := 0, slots := 0, locals := 86 }
def r_X4_under (_A : AH) (o : Int64 × AH) : (Option AV × AH) ⊕ (Nat × AH) := .inl (some (vl o.1), o.2)
set_option maxRecDepth 100000 in
theorem w_f_X4_under {X : Ctx} (hM : MX X yX4_under cX4_under 2 "SlimeNetModel" (some Jvm.ClassFile.FieldType.long) rm_X4_under []) {this : Nat} {x1 : Int32} {A : AH} {out : Int64 × AH} (hf : f_X4_under this x1 A = some out) (hr : c_res X = r_X4_under A out) : G X 0 0 0 [(0, vr (some this)), (1, vi x1)] [] A := by
  have hX := hM.1
  unfold f_X4_under at hf
  refine g_aload_n hX dX4_under_0 (lg_at 0 rfl) ?_
  refine g_iload_n hX dX4_under_1 (lg_at 1 rfl) ?_
  obtain ⟨k2, hk2, hf⟩ := ob_some hf
  obtain ⟨v2, hc2, hf⟩ := ob_some hf
  refine h_callV hM [vi x1] dX4_under_2 cs_SlimeNetModel_365_5 hk2 (m_X4_isPipe hc2) rfl rfl rfl rfl ?_
  refine g_if_ne hX dX4_under_5 10 hf (by decide) (fun c5 hf => ?_) (fun c5 hf => ?_)
  · refine g_aload_n hX dX4_under_10 (lg_at 0 rfl) ?_
    refine g_aload_n hX dX4_under_11 (lg_at 0 rfl) ?_
    refine g_getR hX hf fs_SlimeNetModel_215_5 rfl dX4_under_12 (fun v12 hf => ?_)
    refine g_aload_n hX dX4_under_15 (lg_at 0 rfl) ?_
    refine g_getR hX hf fs_SlimeNetModel_217_5 rfl dX4_under_16 (fun v16 hf => ?_)
    refine g_aload_n hX dX4_under_19 (lg_at 0 rfl) ?_
    refine g_getI hX hf fs_SlimeNetModel_362_5 rfl dX4_under_20 (fun v20 hf => ?_)
    obtain ⟨k23, hk23, hf⟩ := ob_some hf
    obtain ⟨A23, hc23, hf⟩ := ob_some hf
    refine h_callV hM [vr v12, vr v16, vi v20] dX4_under_23 cs_SlimeNetModel_370_5 hk23 (m_X4_findFlows hc23) rfl rfl rfl rfl ?_
    refine g_aload_n hX dX4_under_26 (lg_at 0 rfl) ?_
    refine g_getL hX hf fs_SlimeNetModel_347_5 rfl dX4_under_27 (fun v27 hf => ?_)
    refine g_aload_n hX dX4_under_30 (lg_at 0 rfl) ?_
    refine g_getR hX hf fs_SlimeNetModel_212_5 rfl dX4_under_31 (fun v31 hf => ?_)
    refine g_iload_n hX dX4_under_34 (lg_at 1 rfl) ?_
    refine g_lald hX hf dX4_under_35 (fun v35 hf => ?_)
    refine g_aload_n hX dX4_under_36 (lg_at 0 rfl) ?_
    refine g_getL hX hf fs_SlimeNetModel_347_5 rfl dX4_under_37 (fun v37 hf => ?_)
    obtain ⟨v40, hc40, hf⟩ := ob_some hf
    refine h_callS hM [vl v35, vl v37] dX4_under_40 cs_SlimeNetModel_374_s (m_X4_common hc40) rfl rfl rfl rfl ?_
    refine g_ldiv hX dX4_under_43 hf (fun v43 _ hf => ?_)
    cases hf
    exact h_lret hM dX4_under_44 hr rfl rfl
  · refine g_lconst hX dX4_under_8 (0 : Int64) (by decide) ?_
    cases hf
    exact h_lret hM dX4_under_9 hr rfl rfl

theorem m_X4_under {l : Launch} {this : Nat} {x1 : Int32} {A : AH} {out : Int64 × AH} (h : f_X4_under this x1 A = some out) : MetF l yX4_under (Cond.code yX4_under cX4_under 2 (some Jvm.ClassFile.FieldType.long)) rm_X4_under [vr (some this), vi x1] A (r_X4_under A out) :=
  metF_of rfl rfl (Nat.le_of_ble_eq_true rfl) fun X hX hl hR hnm hr h1 h2 hno => w_f_X4_under (X := X) ⟨hX, hR, h1, h2, fun _ => ⟨hnm, hno⟩⟩ h hr

/-! SlimeNet$Slime.live()V -/
def rm_X3_live : Room := { frames := 13, cells := 0, slots := 0, locals := 1104 }
def r_X3_live (_A : AH) (o : AH) : (Option AV × AH) ⊕ (Nat × AH) := .inl (none, o)
def k_X3_live_6 (X : Ctx) (this : Nat) : ((Int32 × AH) ⊕ (AH)) → Prop
  | .inl (x1, A) => G X 0 0 6 [(0, vr (some this)), (1, vi x1)] [] A
  | .inr A => G X 0 0 186 [(0, vr (some this))] [] A

set_option maxRecDepth 100000 in
theorem w_f_X3_live_180 {X : Ctx} (hM : MX X yX3_live cX3_live 4 "SlimeNet$Slime" none rm_X3_live []) {this : Nat} {x1 : Int32} {A : AH} {out : (Int32 × AH) ⊕ (AH)} (hf : f_X3_live_180 this x1 A = some out) (K : k_X3_live_6 X this out) : G X 0 0 180 [(0, vr (some this)), (1, vi x1)] [] A := by
  have hX := hM.1
  unfold f_X3_live_180 at hf
  refine g_iinc hX dX3_live_180 (1 : Int32) (x1 + (1 : Int32)) [(1, vi (x1 + (1 : Int32))), (0, vr (some this))] (by decide) rfl (lg_at 1 rfl) (by decide) rfl ?_
  refine g_goto hX dX3_live_183 6 (by decide) ?_
  cases hf
  exact g_pick (show G X _ _ _ _ _ _ from K) [1, 0] rfl

set_option maxRecDepth 100000 in
theorem w_f_X3_live_179 {X : Ctx} (hM : MX X yX3_live cX3_live 4 "SlimeNet$Slime" none rm_X3_live []) {this : Nat} {x1 : Int32} {t0 : Int32} {t1 : Int32} {t2 : Option Nat} {A : AH} {out : (Int32 × AH) ⊕ (AH)} (hf : f_X3_live_179 this x1 t0 t1 t2 A = some out) (K : k_X3_live_6 X this out) : G X 0 0 179 [(0, vr (some this)), (1, vi x1)] [vi t0, vi t1, vr t2] A := by
  have hX := hM.1
  unfold f_X3_live_179 at hf
  refine g_iast hX hf dX3_live_179 (fun A179 hf => ?_)
  exact g_pick (w_f_X3_live_180 hM hf K) [0, 1] rfl

set_option maxRecDepth 100000 in
theorem w_f_X3_live_167 {X : Ctx} (hM : MX X yX3_live cX3_live 4 "SlimeNet$Slime" none rm_X3_live []) {this : Nat} {x1 : Int32} {t0 : Int32} {t1 : Option Nat} {A : AH} {out : (Int32 × AH) ⊕ (AH)} (hf : f_X3_live_167 this x1 t0 t1 A = some out) (K : k_X3_live_6 X this out) : G X 0 0 167 [(0, vr (some this)), (1, vi x1)] [vi t0, vr t1] A := by
  have hX := hM.1
  unfold f_X3_live_167 at hf
  refine g_iconst hX dX3_live_167 (0 : Int32) (by decide) ?_
  refine g_aload_n hX dX3_live_168 (lg_at 0 rfl) ?_
  refine g_getR hX hf fs_SlimeNet_Slime_15_4 rfl dX3_live_169 (fun v169 hf => ?_)
  refine g_iload_n hX dX3_live_172 (lg_at 1 rfl) ?_
  refine g_iald hX hf dX3_live_173 (fun v173 hf => ?_)
  refine g_iconst hX dX3_live_174 (1 : Int32) (by decide) ?_
  refine g_isub hX dX3_live_175 ?_
  refine g_mmax hM dX3_live_176 (lw_LW q862) (lw_LW q689) (lw_LW q80) (lw_LW q690) rfl rfl ?_
  exact g_pick (w_f_X3_live_179 hM hf K) [0, 1] rfl

set_option maxRecDepth 100000 in
theorem w_f_X3_live_105 {X : Ctx} (hM : MX X yX3_live cX3_live 4 "SlimeNet$Slime" none rm_X3_live []) {this : Nat} {x1 : Int32} {x2 : Int64} {A : AH} {out : (Int32 × AH) ⊕ (AH)} (hf : f_X3_live_105 this x1 x2 A = some out) (K : k_X3_live_6 X this out) : G X 0 0 105 [(0, vr (some this)), (1, vi x1), (2, vl x2)] [] A := by
  have hX := hM.1
  unfold f_X3_live_105 at hf
  refine g_aload_n hX dX3_live_105 (lg_at 0 rfl) ?_
  refine g_getR hX hf fs_SlimeNet_Slime_34_4 rfl dX3_live_106 (fun v106 hf => ?_)
  refine g_getR hX hf fs_SlimeNet_Slime_52_3 rfl dX3_live_109 (fun v109 hf => ?_)
  refine g_iload_n hX dX3_live_112 (lg_at 1 rfl) ?_
  obtain ⟨k113, hk113, hf⟩ := ob_some hf
  obtain ⟨v113, hc113, hf⟩ := ob_some hf
  refine h_callV hM [vi x1] dX3_live_113 cs_SlimeNet_Slime_123_8 hk113 (m_J4_get hc113) rfl rfl rfl rfl ?_
  refine g_castC hX (by decide) rfl (lw_LW q823) hf dX3_live_116 (fun hf => ?_)
  refine g_getI hX hf fs_SlimeNet_Slime_64_7 rfl dX3_live_119 (fun v119 hf => ?_)
  refine g_if_eq hX dX3_live_122 180 hf (by decide) (fun c122 hf => ?_) (fun c122 hf => ?_)
  · exact g_pick (w_f_X3_live_180 hM hf K) [0, 1] rfl
  · refine g_aload_n hX dX3_live_125 (lg_at 0 rfl) ?_
    refine g_getR hX hf fs_SlimeNet_Slime_15_4 rfl dX3_live_126 (fun v126 hf => ?_)
    refine g_iload_n hX dX3_live_129 (lg_at 1 rfl) ?_
    refine g_lload_n hX dX3_live_130 (lg_at 2 rfl) ?_
    refine g_aload_n hX dX3_live_131 (lg_at 0 rfl) ?_
    refine g_getI hX hf fs_SlimeNet_Slime_48_4 rfl dX3_live_132 (fun v132 hf => ?_)
    refine g_i2l hX dX3_live_135 ?_
    refine g_aload_n hX dX3_live_136 (lg_at 0 rfl) ?_
    refine g_getL hX hf fs_SlimeNet_Slime_96_4 rfl dX3_live_137 (fun v137 hf => ?_)
    refine g_lmul hX dX3_live_140 ?_
    refine g_lcmp hX dX3_live_141 ?_
    refine g_if_lt hX dX3_live_142 167 hf (by decide) (fun c142 hf => ?_) (fun c142 hf => ?_)
    · exact g_pick (w_f_X3_live_167 hM hf K) [0, 1] rfl
    · refine g_lload_n hX dX3_live_145 (lg_at 2 rfl) ?_
      refine g_lconst hX dX3_live_146 (0 : Int64) (by decide) ?_
      refine g_lcmp hX dX3_live_147 ?_
      refine g_if_le hX dX3_live_148 167 hf (by decide) (fun c148 hf => ?_) (fun c148 hf => ?_)
      · exact g_pick (w_f_X3_live_167 hM hf K) [0, 1] rfl
      · refine g_bipush hX dX3_live_151 (9 : Int32) (by decide) ?_
        refine g_aload_n hX dX3_live_153 (lg_at 0 rfl) ?_
        refine g_getR hX hf fs_SlimeNet_Slime_15_4 rfl dX3_live_154 (fun v154 hf => ?_)
        refine g_iload_n hX dX3_live_157 (lg_at 1 rfl) ?_
        refine g_iald hX hf dX3_live_158 (fun v158 hf => ?_)
        refine g_iconst hX dX3_live_159 (1 : Int32) (by decide) ?_
        refine g_iadd hX dX3_live_160 ?_
        refine g_mmin hM dX3_live_161 (lw_LW q861) (lw_LW q717) (lw_LW q80) (lw_LW q718) rfl rfl ?_
        refine g_goto hX dX3_live_164 179 (by decide) ?_
        exact g_pick (w_f_X3_live_179 hM hf K) [0, 1] rfl

set_option maxRecDepth 100000 in
theorem w_s_X3_live_6 {X : Ctx} (hM : MX X yX3_live cX3_live 4 "SlimeNet$Slime" none rm_X3_live []) {this : Nat} {st : Int32 × AH} {out : (Int32 × AH) ⊕ (AH)} (hf : s_X3_live_6 this st = some out) (K : k_X3_live_6 X this out) : k_X3_live_6 X this (.inl st) := by
  have hX := hM.1
  obtain ⟨x1, A⟩ := st
  unfold s_X3_live_6 at hf
  dsimp only at hf
  show G X 0 0 6 [(0, vr (some this)), (1, vi x1)] [] A
  refine g_iload_n hX dX3_live_6 (lg_at 1 rfl) ?_
  refine g_aload_n hX dX3_live_7 (lg_at 0 rfl) ?_
  refine g_getR hX hf fs_SlimeNet_Slime_34_4 rfl dX3_live_8 (fun v8 hf => ?_)
  refine g_getR hX hf fs_SlimeNet_Slime_52_3 rfl dX3_live_11 (fun v11 hf => ?_)
  obtain ⟨k14, hk14, hf⟩ := ob_some hf
  obtain ⟨v14, hc14, hf⟩ := ob_some hf
  refine h_callV hM [] dX3_live_14 cs_SlimeNet_Slime_56_8 hk14 (m_J4_size hc14) rfl rfl rfl rfl ?_
  refine g_icmp_ge hX dX3_live_17 186 hf (by decide) (fun c17 hf => ?_) (fun c17 hf => ?_)
  · cases hf
    exact g_pick (show G X _ _ _ _ _ _ from K) [0] rfl
  · refine g_ldc2 hX dX3_live_20 (v := (10 : Int64)) (lw_LW q859) ?_
    refine g_aload_n hX dX3_live_23 (lg_at 0 rfl) ?_
    refine g_getR hX hf fs_SlimeNet_Slime_31_4 rfl dX3_live_24 (fun v24 hf => ?_)
    refine g_iload_n hX dX3_live_27 (lg_at 1 rfl) ?_
    refine g_lald hX hf dX3_live_28 (fun v28 hf => ?_)
    refine g_mabs hM dX3_live_29 (lw_LW q860) (lw_LW q844) (lw_LW q80) (lw_LW q845) rfl rfl ?_
    refine g_lmul hX dX3_live_32 ?_
    refine g_lstore_n hX dX3_live_33 [(2, vl ((10 : Int64) * (abL v28))), (0, vr (some this)), (1, vi x1)] (by decide) rfl ?_
    refine g_aload_n hX dX3_live_34 (lg_at 1 rfl) ?_
    refine g_getR hX hf fs_SlimeNet_Slime_9_4 rfl dX3_live_35 (fun v35 hf => ?_)
    refine g_iload_n hX dX3_live_38 (lg_at 2 rfl) ?_
    refine g_iald hX hf dX3_live_39 (fun v39 hf => ?_)
    refine g_if_le hX dX3_live_40 105 hf (by decide) (fun c40 hf => ?_) (fun c40 hf => ?_)
    · exact g_pick (w_f_X3_live_105 hM hf K) [1, 2, 0] rfl
    · refine g_lload_n hX dX3_live_43 (lg_at 0 rfl) ?_
      refine g_aload_n hX dX3_live_44 (lg_at 1 rfl) ?_
      refine g_getI hX hf fs_SlimeNet_Slime_44_4 rfl dX3_live_45 (fun v45 hf => ?_)
      refine g_i2l hX dX3_live_48 ?_
      refine g_aload_n hX dX3_live_49 (lg_at 1 rfl) ?_
      refine g_getL hX hf fs_SlimeNet_Slime_96_4 rfl dX3_live_50 (fun v50 hf => ?_)
      refine g_lmul hX dX3_live_53 ?_
      refine g_lcmp hX dX3_live_54 ?_
      refine g_if_lt hX dX3_live_55 80 hf (by decide) (fun c55 hf => ?_) (fun c55 hf => ?_)
      · refine g_lload_n hX dX3_live_80 (lg_at 0 rfl) ?_
        refine g_aload_n hX dX3_live_81 (lg_at 1 rfl) ?_
        refine g_getI hX hf fs_SlimeNet_Slime_48_4 rfl dX3_live_82 (fun v82 hf => ?_)
        refine g_i2l hX dX3_live_85 ?_
        refine g_aload_n hX dX3_live_86 (lg_at 1 rfl) ?_
        refine g_getL hX hf fs_SlimeNet_Slime_96_4 rfl dX3_live_87 (fun v87 hf => ?_)
        refine g_lmul hX dX3_live_90 ?_
        refine g_lcmp hX dX3_live_91 ?_
        refine g_if_ge hX dX3_live_92 105 hf (by decide) (fun c92 hf => ?_) (fun c92 hf => ?_)
        · exact g_pick (w_f_X3_live_105 hM hf K) [1, 2, 0] rfl
        · refine g_aload_n hX dX3_live_95 (lg_at 1 rfl) ?_
          refine g_getR hX hf fs_SlimeNet_Slime_9_4 rfl dX3_live_96 (fun v96 hf => ?_)
          refine g_iload_n hX dX3_live_99 (lg_at 2 rfl) ?_
          refine g_dup2 hX dX3_live_100 rfl rfl ?_
          refine g_iald hX hf dX3_live_101 (fun v101 hf => ?_)
          refine g_iconst hX dX3_live_102 (1 : Int32) (by decide) ?_
          refine g_isub hX dX3_live_103 ?_
          refine g_iast hX hf dX3_live_104 (fun A104 hf => ?_)
          exact g_pick (w_f_X3_live_105 hM hf K) [1, 2, 0] rfl
      · refine g_aload_n hX dX3_live_58 (lg_at 1 rfl) ?_
        refine g_getR hX hf fs_SlimeNet_Slime_9_4 rfl dX3_live_59 (fun v59 hf => ?_)
        refine g_iload_n hX dX3_live_62 (lg_at 2 rfl) ?_
        refine g_bipush hX dX3_live_63 (9 : Int32) (by decide) ?_
        refine g_aload_n hX dX3_live_65 (lg_at 1 rfl) ?_
        refine g_getR hX hf fs_SlimeNet_Slime_9_4 rfl dX3_live_66 (fun v66 hf => ?_)
        refine g_iload_n hX dX3_live_69 (lg_at 2 rfl) ?_
        refine g_iald hX hf dX3_live_70 (fun v70 hf => ?_)
        refine g_iconst hX dX3_live_71 (1 : Int32) (by decide) ?_
        refine g_iadd hX dX3_live_72 ?_
        refine g_mmin hM dX3_live_73 (lw_LW q861) (lw_LW q717) (lw_LW q80) (lw_LW q718) rfl rfl ?_
        refine g_iast hX hf dX3_live_76 (fun A76 hf => ?_)
        refine g_goto hX dX3_live_77 105 (by decide) ?_
        exact g_pick (w_f_X3_live_105 hM hf K) [1, 2, 0] rfl

set_option maxRecDepth 100000 in
theorem w_l_X3_live_6 {X : Ctx} (hM : MX X yX3_live cX3_live 4 "SlimeNet$Slime" none rm_X3_live []) {this : Nat} {x1 : Int32} {A : AH} {out : AH} (hf : l_X3_live_6 this x1 A = some out) (hr : c_res X = r_X3_live A out) : G X 0 0 6 [(0, vr (some this)), (1, vi x1)] [] A := by
  have hX := hM.1
  unfold l_X3_live_6 at hf
  obtain ⟨e, hw, hf⟩ := ob_some hf
  refine (whl_ind (k_X3_live_6 X this) (fun st o hs K => w_s_X3_live_6 hM hs K) hw ?_ : k_X3_live_6 X this (.inl (x1, A)))
  revert hf hw; generalize e = A; intro hw hf
  dsimp only at hf
  show G X 0 0 186 [(0, vr (some this))] [] A
  refine g_aload_n hX dX3_live_186 (lg_at 0 rfl) ?_
  refine g_dup hX dX3_live_187 rfl ?_
  refine g_getI hX hf fs_SlimeNet_Slime_49_4 rfl dX3_live_188 (fun v188 hf => ?_)
  refine g_iconst hX dX3_live_191 (1 : Int32) (by decide) ?_
  refine g_iadd hX dX3_live_192 ?_
  refine g_putI hX hf fs_SlimeNet_Slime_49_4 ⟨_, rfl, Or.inl rfl⟩ rfl dX3_live_193 (fun A193 hf => ?_)
  cases hf
  exact h_vret hM dX3_live_196 hr rfl rfl

set_option maxRecDepth 100000 in
theorem w_f_X3_live {X : Ctx} (hM : MX X yX3_live cX3_live 4 "SlimeNet$Slime" none rm_X3_live []) {this : Nat} {A : AH} {out : AH} (hf : f_X3_live this A = some out) (hr : c_res X = r_X3_live A out) : G X 0 0 0 [(0, vr (some this))] [] A := by
  have hX := hM.1
  unfold f_X3_live at hf
  refine g_aload_n hX dX3_live_0 (lg_at 0 rfl) ?_
  obtain ⟨k1, hk1, hf⟩ := ob_some hf
  obtain ⟨A1, hc1, hf⟩ := ob_some hf
  refine h_callV hM [] dX3_live_1 cs_SlimeNet_Slime_141_4 hk1 (m_X3_flow hc1) rfl rfl rfl rfl ?_
  refine g_iconst hX dX3_live_4 (0 : Int32) (by decide) ?_
  refine g_istore_n hX dX3_live_5 [(1, vi (0 : Int32)), (0, vr (some this))] (by decide) rfl ?_
  exact g_pick (w_l_X3_live_6 hM hf hr) [1, 0] rfl

theorem m_X3_live {l : Launch} {this : Nat} {A : AH} {out : AH} (h : f_X3_live this A = some out) : MetF l yX3_live (Cond.code yX3_live cX3_live 4 none) rm_X3_live [vr (some this)] A (r_X3_live A out) :=
  metF_of rfl rfl (Nat.le_of_ble_eq_true rfl) fun X hX hl hR hnm hr h1 h2 hno => w_f_X3_live (X := X) ⟨hX, hR, h1, h2, fun _ => ⟨hnm, hno⟩⟩ h hr

/-! SlimeNet.hours(I)I -/
def rm_X0_hours : Room := { frames := 14, cells := 0, slots := 0, locals := 1127 }
def r_X0_hours (_A : AH) (o : Int32 × AH) : (Option AV × AH) ⊕ (Nat × AH) := .inl (some (vi o.1), o.2)
def k_X0_hours_16 (X : Ctx) (this : Nat) (x1 : Int32) : ((Int32 × AH) ⊕ (AH)) → Prop
  | .inl (x2, A) => G X 0 0 16 [(0, vr (some this)), (1, vi x1), (2, vi x2)] [] A
  | .inr A => G X 0 0 34 [(0, vr (some this))] [] A

set_option maxRecDepth 100000 in
theorem w_s_X0_hours_16 {X : Ctx} (hM : MX X yX0_hours cX0_hours 3 "SlimeNet" (some Jvm.ClassFile.FieldType.int) rm_X0_hours []) {this : Nat} {x1 : Int32} {st : Int32 × AH} {out : (Int32 × AH) ⊕ (AH)} (hf : s_X0_hours_16 this x1 st = some out) (K : k_X0_hours_16 X this x1 out) : k_X0_hours_16 X this x1 (.inl st) := by
  have hX := hM.1
  obtain ⟨x2, A⟩ := st
  unfold s_X0_hours_16 at hf
  dsimp only at hf
  show G X 0 0 16 [(0, vr (some this)), (1, vi x1), (2, vi x2)] [] A
  refine g_iload_n hX dX0_hours_16 (lg_at 2 rfl) ?_
  refine g_iload_n hX dX0_hours_17 (lg_at 1 rfl) ?_
  refine g_icmp_ge hX dX0_hours_18 34 hf (by decide) (fun c18 hf => ?_) (fun c18 hf => ?_)
  · cases hf
    exact g_pick (show G X _ _ _ _ _ _ from K) [0] rfl
  · refine g_aload_n hX dX0_hours_21 (lg_at 0 rfl) ?_
    refine g_getR hX hf fs_SlimeNet_34_1 rfl dX0_hours_22 (fun v22 hf => ?_)
    obtain ⟨k25, hk25, hf⟩ := ob_some hf
    obtain ⟨A25, hc25, hf⟩ := ob_some hf
    refine h_callV hM [] dX0_hours_25 cs_SlimeNet_231_4 hk25 (m_X3_live hc25) rfl rfl rfl rfl ?_
    refine g_iinc hX dX0_hours_28 (1 : Int32) (x2 + (1 : Int32)) [(2, vi (x2 + (1 : Int32))), (0, vr (some this)), (1, vi x1)] (by decide) rfl (lg_at 2 rfl) (by decide) rfl ?_
    refine g_goto hX dX0_hours_31 16 (by decide) ?_
    cases hf
    exact g_pick (show G X _ _ _ _ _ _ from K) [1, 2, 0] rfl

set_option maxRecDepth 100000 in
theorem w_l_X0_hours_16 {X : Ctx} (hM : MX X yX0_hours cX0_hours 3 "SlimeNet" (some Jvm.ClassFile.FieldType.int) rm_X0_hours []) {this : Nat} {x1 : Int32} {x2 : Int32} {A : AH} {out : Int32 × AH} (hf : l_X0_hours_16 this x1 x2 A = some out) (hr : c_res X = r_X0_hours A out) : G X 0 0 16 [(0, vr (some this)), (1, vi x1), (2, vi x2)] [] A := by
  have hX := hM.1
  unfold l_X0_hours_16 at hf
  obtain ⟨e, hw, hf⟩ := ob_some hf
  refine (whl_ind (k_X0_hours_16 X this x1) (fun st o hs K => w_s_X0_hours_16 hM hs K) hw ?_ : k_X0_hours_16 X this x1 (.inl (x2, A)))
  revert hf hw; generalize e = A; intro hw hf
  dsimp only at hf
  show G X 0 0 34 [(0, vr (some this))] [] A
  refine g_aload_n hX dX0_hours_34 (lg_at 0 rfl) ?_
  refine g_getR hX hf fs_SlimeNet_34_1 rfl dX0_hours_35 (fun v35 hf => ?_)
  refine g_getI hX hf fs_SlimeNet_234_4 rfl dX0_hours_38 (fun v38 hf => ?_)
  cases hf
  exact h_iret hM dX0_hours_41 hr rfl rfl

set_option maxRecDepth 100000 in
theorem w_f_X0_hours {X : Ctx} (hM : MX X yX0_hours cX0_hours 3 "SlimeNet" (some Jvm.ClassFile.FieldType.int) rm_X0_hours []) {this : Nat} {x1 : Int32} {A : AH} {out : Int32 × AH} (hf : f_X0_hours this x1 A = some out) (hr : c_res X = r_X0_hours A out) : G X 0 0 0 [(0, vr (some this)), (1, vi x1)] [] A := by
  have hX := hM.1
  unfold f_X0_hours at hf
  refine g_iload_n hX dX0_hours_0 (lg_at 1 rfl) ?_
  refine g_iconst hX dX0_hours_1 (0 : Int32) (by decide) ?_
  refine g_sipush hX dX0_hours_2 (500 : Int32) (by decide) ?_
  obtain ⟨v5, hc5, hf⟩ := ob_some hf
  refine h_callS hM [vi x1, vi (0 : Int32), vi (500 : Int32)] dX0_hours_5 cs_SlimeNet_153_s (m_X0_in hc5) rfl rfl rfl rfl ?_
  refine g_if_ne hX dX0_hours_8 14 hf (by decide) (fun c8 hf => ?_) (fun c8 hf => ?_)
  · refine g_iconst hX dX0_hours_14 (0 : Int32) (by decide) ?_
    refine g_istore_n hX dX0_hours_15 [(2, vi (0 : Int32)), (0, vr (some this)), (1, vi x1)] (by decide) rfl ?_
    exact g_pick (w_l_X0_hours_16 hM hf hr) [1, 2, 0] rfl
  · refine g_bipush hX dX0_hours_11 (-2 : Int32) (by decide) ?_
    cases hf
    exact h_iret hM dX0_hours_13 hr rfl rfl

theorem m_X0_hours {l : Launch} {this : Nat} {x1 : Int32} {A : AH} {out : Int32 × AH} (h : f_X0_hours this x1 A = some out) : MetF l yX0_hours (Cond.code yX0_hours cX0_hours 3 (some Jvm.ClassFile.FieldType.int)) rm_X0_hours [vr (some this), vi x1] A (r_X0_hours A out) :=
  metF_of rfl rfl (Nat.le_of_ble_eq_true rfl) fun X hX hl hR hnm hr h1 h2 hno => w_f_X0_hours (X := X) ⟨hX, hR, h1, h2, fun _ => ⟨hnm, hno⟩⟩ h hr

