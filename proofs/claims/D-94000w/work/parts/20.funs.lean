/-! java/lang/Throwable.<init>(Ljava/lang/String;Ljava/lang/Throwable;ZZ)V -/
noncomputable def f_J0_init_2_60 (A : AH) : Option (AH) :=
  some A

noncomputable def f_J0_init_2 (this : Nat) (x1 : Option Nat) (x2 : Option Nat) (x3 : Int32) (x4 : Int32) (A : AH) : Option (AH) :=
  (pR 2 0 A (some this) (some this)).bind fun A6 =>
  (pR 2 1 A6 (some this) (hU A6 0)).bind fun A13 =>
  (pR 2 2 A13 (some this) (hU A13 1)).bind fun A20 =>
  if x4 = 0 then
    (pR 2 1 A20 (some this) none).bind fun A38 =>
    (pR 2 3 A38 (some this) x1).bind fun A43 =>
    (pR 2 0 A43 (some this) x2).bind fun A48 =>
    if x3 = 0 then
      (pR 2 2 A48 (some this) none).bind fun A57 =>
      f_J0_init_2_60 A57
    else
      f_J0_init_2_60 A48
  else
    none

/-! java/lang/Exception.<init>(Ljava/lang/String;Ljava/lang/Throwable;ZZ)V -/
noncomputable def f_J1_init (this : Nat) (x1 : Option Nat) (x2 : Option Nat) (x3 : Int32) (x4 : Int32) (A : AH) : Option (AH) :=
  (f_J0_init_2 this x1 x2 x3 x4 A).bind fun A6 =>
  some A6

/-! SlimeNet$Wrong.<init>()V -/
noncomputable def f_X1_init (this : Nat) (A : AH) : Option (AH) :=
  (f_J1_init this none none (0 : Int32) (0 : Int32) A).bind fun A5 =>
  some A5

/-! java/util/AbstractCollection.<init>()V -/
noncomputable def f_J2_init (this : Nat) : Option (Unit) :=
  some ()

/-! java/util/AbstractList.<init>()V -/
noncomputable def f_J3_init (this : Nat) (A : AH) : Option (AH) :=
  (f_J2_init this).bind fun _ =>
  (pI 8 0 A (some this) (0 : Int32)).bind fun A6 =>
  some A6

/-! java/util/ArrayList.<init>()V -/
noncomputable def f_J4_init (this : Nat) (A : AH) : Option (AH) :=
  (f_J3_init this A).bind fun A1 =>
  (pR 8 1 A1 (some this) (some 1)).bind fun A8 =>
  some A8

/-! SlimeNet$Plate.<init>()V -/
noncomputable def f_X2_init (this : Nat) (A : AH) : Option (AH) :=
  (mkB 6 13 A (6 : Int32)).bind fun A7 =>
  (pR 3 0 A7 (some this) (some (hn A))).bind fun A9 =>
  (nwC 8 A9).bind fun A13 =>
  (f_J4_init (hn A9) A13).bind fun A17 =>
  (pR 3 1 A17 (some this) (some (hn A9))).bind fun A20 =>
  (mkB 6 10 A20 (6 : Int32)).bind fun A26 =>
  (pR 3 2 A26 (some this) (some (hn A20))).bind fun A28 =>
  (mkB 6 10 A28 (6 : Int32)).bind fun A34 =>
  (pR 3 3 A34 (some this) (some (hn A28))).bind fun A36 =>
  (pI 3 6 A36 (some this) (5 : Int32)).bind fun A41 =>
  (pI 3 7 A41 (some this) (2 : Int32)).bind fun A46 =>
  (pI 3 8 A46 (some this) (3 : Int32)).bind fun A51 =>
  (pI 3 9 A51 (some this) (5 : Int32)).bind fun A56 =>
  some A56

/-! SlimeNet$Slime.<init>()V -/
noncomputable def f_X3_init (this : Nat) (A : AH) : Option (AH) :=
  (mkB 10 10 A (10 : Int32)).bind fun A7 =>
  (pR 4 1 A7 (some this) (some (hn A))).bind fun A9 =>
  (mkB 10 10 A9 (10 : Int32)).bind fun A15 =>
  (pR 4 2 A15 (some this) (some (hn A9))).bind fun A17 =>
  (mkB 6 10 A17 (6 : Int32)).bind fun A23 =>
  (pR 4 6 A23 (some this) (some (hn A17))).bind fun A25 =>
  (mkB 36 13 A25 (36 : Int32)).bind fun A31 =>
  (pR 4 7 A31 (some this) (some (hn A25))).bind fun A33 =>
  (mkB 6 13 A33 (6 : Int32)).bind fun A39 =>
  (pR 4 8 A39 (some this) (some (hn A33))).bind fun A41 =>
  (mkB 6 13 A41 (6 : Int32)).bind fun A47 =>
  (pR 4 9 A47 (some this) (some (hn A41))).bind fun A49 =>
  (mkB 10 13 A49 (10 : Int32)).bind fun A55 =>
  (pR 4 10 A55 (some this) (some (hn A49))).bind fun A57 =>
  some A57

/-! java/util/ArrayList.size()I -/
noncomputable def f_J4_size (this : Nat) (A : AH) : Option (Int32) :=
  (gI 8 2 A (some this)).bind fun v1 =>
  some v1

/-! SlimeNet$Slime.begin(LSlimeNet$Plate;)V -/
noncomputable def f_X3_begin_58 (this : Nat) (x1 : Option Nat) (x2 : Int32) (t0 : Int32) (t1 : Int32) (t2 : Option Nat) (A : AH) : Option ((Int32 × AH) ⊕ (AH)) :=
  (sI A t2 t1 t0).bind fun A58 =>
  (gR 4 2 A58 (some this)).bind fun v60 =>
  (sI A58 v60 x2 (0 : Int32)).bind fun A65 =>
  some (.inl ((x2 + (1 : Int32)), A65))

noncomputable def s_X3_begin_28 (this : Nat) (x1 : Option Nat) (st : Int32 × AH) : Option ((Int32 × AH) ⊕ (AH)) := match st with
  | (x2, A) =>
  if (10 : Int32) ≤ x2 then
    some (.inr A)
  else
    (gR 4 1 A (some this)).bind fun v35 =>
    (gR 3 1 A x1).bind fun v41 =>
    (rcv 8 A v41).bind fun k44 =>
    (f_J4_size k44 A).bind fun v44 =>
    if v44 ≤ x2 then
      f_X3_begin_58 this x1 x2 (0 : Int32) x2 v35 A
    else
      (gI 3 8 A x1).bind fun v51 =>
      f_X3_begin_58 this x1 x2 v51 x2 v35 A

noncomputable def l_X3_begin_28 (this : Nat) (x1 : Option Nat) (x2 : Int32) (A : AH) : Option (AH) :=
  (whl (s_X3_begin_28 this x1) (x2, A)).bind fun e => match e with
  | A =>
    some A

noncomputable def f_X3_begin (this : Nat) (x1 : Option Nat) (A : AH) : Option (AH) :=
  (pR 4 0 A (some this) x1).bind fun A2 =>
  (gI 3 6 A2 x1).bind fun v7 =>
  (pI 4 4 A2 (some this) v7).bind fun A10 =>
  (gI 3 7 A10 x1).bind fun v15 =>
  (pI 4 5 A10 (some this) v15).bind fun A18 =>
  (pI 4 3 A18 (some this) (0 : Int32)).bind fun A23 =>
  l_X3_begin_28 this x1 (0 : Int32) A23

/-! SlimeNet.<init>()V -/
noncomputable def f_X0_init_218 (this : Nat) (A : AH) : Option (AH) :=
  (gR 1 6 A (some this)).bind fun v219 =>
  (gR 1 5 A (some this)).bind fun v223 =>
  (rcv 4 A v219).bind fun k226 =>
  (f_X3_begin k226 v223 A).bind fun A226 =>
  (gR 1 7 A226 (some this)).bind fun v230 =>
  (gR 1 5 A226 (some this)).bind fun v234 =>
  (rcv 4 A226 v230).bind fun k237 =>
  (f_X3_begin k237 v234 A226).bind fun A237 =>
  some A237

noncomputable def f_X0_init (this : Nat) (A : AH) : Option (AH) :=
  (nwC 2 A).bind fun A5 =>
  (f_X1_init (hn A) A5).bind fun A9 =>
  (pR 1 0 A9 (some this) (some (hn A))).bind fun A12 =>
  (mkB 700 11 A12 (700 : Int32)).bind fun A19 =>
  (pR 1 1 A19 (some this) (some (hn A12))).bind fun A21 =>
  (pI 1 4 A21 (some this) (-1 : Int32)).bind fun A26 =>
  (nwC 3 A26).bind fun A30 =>
  (f_X2_init (hn A26) A30).bind fun A34 =>
  (pR 1 5 A34 (some this) (some (hn A26))).bind fun A37 =>
  (nwC 4 A37).bind fun A41 =>
  (f_X3_init (hn A37) A41).bind fun A45 =>
  (pR 1 6 A45 (some this) (some (hn A37))).bind fun A48 =>
  (nwC 4 A48).bind fun A52 =>
  (f_X3_init (hn A48) A52).bind fun A56 =>
  (pR 1 7 A56 (some this) (some (hn A48))).bind fun A59 =>
  (mkB 4 15 A59 (4 : Int32)).bind fun A64 =>
  (pR 1 8 A64 (some this) (some (hn A59))).bind fun A67 =>
  (mkB 4 12 A67 (4 : Int32)).bind fun A72 =>
  (pR 1 9 A72 (some this) (some (hn A67))).bind fun A74 =>
  (pI 1 10 A74 (some this) (-1 : Int32)).bind fun A79 =>
  (mkB 4020 10 A79 (4020 : Int32)).bind fun A86 =>
  (pR 1 11 A86 (some this) (some (hn A79))).bind fun A88 =>
  (mkB 1024 10 A88 (1024 : Int32)).bind fun A95 =>
  (pR 1 13 A95 (some this) (some (hn A88))).bind fun A97 =>
  (mkB 1024 10 A97 (1024 : Int32)).bind fun A104 =>
  (pR 1 14 A104 (some this) (some (hn A97))).bind fun A106 =>
  (mkB 1024 10 A106 (1024 : Int32)).bind fun A113 =>
  (pR 1 15 A113 (some this) (some (hn A106))).bind fun A115 =>
  (mkB 16 10 A115 (16 : Int32)).bind fun A121 =>
  (pR 1 21 A121 (some this) (some (hn A115))).bind fun A123 =>
  (mkB 16 10 A123 (16 : Int32)).bind fun A129 =>
  (pR 1 22 A129 (some this) (some (hn A123))).bind fun A131 =>
  (mkB 16 10 A131 (16 : Int32)).bind fun A137 =>
  (pR 1 23 A137 (some this) (some (hn A131))).bind fun A139 =>
  (mkB 20 10 A139 (20 : Int32)).bind fun A145 =>
  (pR 1 24 A145 (some this) (some (hn A139))).bind fun A147 =>
  (mkB 20 10 A147 (20 : Int32)).bind fun A153 =>
  (pR 1 25 A153 (some this) (some (hn A147))).bind fun A155 =>
  (mkB 20 10 A155 (20 : Int32)).bind fun A161 =>
  (pR 1 26 A161 (some this) (some (hn A155))).bind fun A163 =>
  (mkB 41 10 A163 (41 : Int32)).bind fun A169 =>
  (pR 1 27 A169 (some this) (some (hn A163))).bind fun A171 =>
  (mkB 18081 10 A171 (18081 : Int32)).bind fun A178 =>
  (pR 1 28 A178 (some this) (some (hn A171))).bind fun A180 =>
  (mkB 441 10 A180 (441 : Int32)).bind fun A187 =>
  (pR 1 29 A187 (some this) (some (hn A180))).bind fun A189 =>
  if (4 : Int32) ≤ (0 : Int32) then
    f_X0_init_218 this A189
  else
    (gR 1 8 A189 (some this)).bind fun v200 =>
    (nwC 4 A189).bind fun A204 =>
    (f_X3_init (hn A189) A204).bind fun A208 =>
    (sR 15 4 A208 v200 (0 : Int32) (some (hn A189))).bind fun A211 =>
    if (4 : Int32) ≤ ((0 : Int32) + (1 : Int32)) then
      f_X0_init_218 this A211
    else
      (gR 1 8 A211 (some this)).bind fun v200 =>
      (nwC 4 A211).bind fun A204 =>
      (f_X3_init (hn A211) A204).bind fun A208 =>
      (sR 15 4 A208 v200 ((0 : Int32) + (1 : Int32)) (some (hn A211))).bind fun A211 =>
      if (4 : Int32) ≤ (((0 : Int32) + (1 : Int32)) + (1 : Int32)) then
        f_X0_init_218 this A211
      else
        (gR 1 8 A211 (some this)).bind fun v200 =>
        (nwC 4 A211).bind fun A204 =>
        (f_X3_init (hn A211) A204).bind fun A208 =>
        (sR 15 4 A208 v200 (((0 : Int32) + (1 : Int32)) + (1 : Int32)) (some (hn A211))).bind fun A211 =>
        if (4 : Int32) ≤ ((((0 : Int32) + (1 : Int32)) + (1 : Int32)) + (1 : Int32)) then
          f_X0_init_218 this A211
        else
          (gR 1 8 A211 (some this)).bind fun v200 =>
          (nwC 4 A211).bind fun A204 =>
          (f_X3_init (hn A211) A204).bind fun A208 =>
          (sR 15 4 A208 v200 ((((0 : Int32) + (1 : Int32)) + (1 : Int32)) + (1 : Int32)) (some (hn A211))).bind fun A211 =>
          if (4 : Int32) ≤ (((((0 : Int32) + (1 : Int32)) + (1 : Int32)) + (1 : Int32)) + (1 : Int32)) then
            f_X0_init_218 this A211
          else
            (gR 1 8 A211 (some this)).bind fun v200 =>
            none

/-! SlimeNetModel.findTree(I)V -/
noncomputable def f_X4_findTree_56 (this : Nat) (x1 : Int32) (x2 : Int32) (x3 : Int32) (A : AH) : Option ((Int32 × Int32) ⊕ (Int32)) :=
  some (.inl (x2, (x3 + (1 : Int32))))

noncomputable def f_X4_findTree_307 (this : Nat) (x1 : Int32) (x3 : Int32) (x4 : Int32) (x5 : Int32) (x6 : Int32) (A : AH) : Option ((Int32 × Int32 × Int32 × Int32 × AH) ⊕ ((AH) ⊕ (Int32 × Int32 × Int32 × AH))) :=
  some (.inl (x3, x4, x5, (x6 + (1 : Int32)), A))

noncomputable def f_X4_findTree_302 (this : Nat) (x1 : Int32) (x3 : Int32) (x4 : Int32) (x6 : Int32) (t0 : Int32) (t1 : Int32) (t2 : Int32) (t3 : Option Nat) (A : AH) : Option ((Int32 × Int32 × Int32 × Int32 × AH) ⊕ ((AH) ⊕ (Int32 × Int32 × Int32 × AH))) :=
  (sI A t3 t2 (t1 ||| t0)).bind fun A303 =>
  f_X4_findTree_307 this x1 x3 x4 (1 : Int32) x6 A303

noncomputable def f_X4_findTree_244 (this : Nat) (x1 : Int32) (x3 : Int32) (x4 : Int32) (x6 : Int32) (x7 : Int32) (x9 : Int32) (t0 : Int32) (A : AH) : Option ((Int32 × Int32 × Int32 × Int32 × AH) ⊕ ((AH) ⊕ (Int32 × Int32 × Int32 × AH))) :=
  (gR 5 41 A (some this)).bind fun v254 =>
  (gR 5 41 A (some this)).bind fun v265 =>
  (aI 10 A v265 (((6 : Int32) * x1) + x9)).bind fun v275 =>
  (sI A v254 (((6 : Int32) * x1) + t0) (v275 ||| ((1 : Int32) <<< (x6 &&& 31)))).bind fun A281 =>
  (gR 5 42 A281 (some this)).bind fun v283 =>
  (aI 10 A281 v283 x1).bind fun v288 =>
  if x7 = 0 then
    f_X4_findTree_302 this x1 (x3 ||| ((1 : Int32) <<< (t0 &&& 31))) x4 x6 (0 : Int32) v288 x1 v283 A281
  else
    f_X4_findTree_302 this x1 (x3 ||| ((1 : Int32) <<< (t0 &&& 31))) x4 x6 ((1 : Int32) <<< (x6 &&& 31)) v288 x1 v283 A281

noncomputable def f_X4_findTree_220 (this : Nat) (x1 : Int32) (x3 : Int32) (x4 : Int32) (x6 : Int32) (x7 : Int32) (t0 : Int32) (A : AH) : Option ((Int32 × Int32 × Int32 × Int32 × AH) ⊕ ((AH) ⊕ (Int32 × Int32 × Int32 × AH))) :=
  if x7 = 0 then
    (gR 5 32 A (some this)).bind fun v238 =>
    (aI 10 A v238 x6).bind fun v243 =>
    f_X4_findTree_244 this x1 x3 x4 x6 x7 t0 v243 A
  else
    (gR 5 33 A (some this)).bind fun v228 =>
    (aI 10 A v228 x6).bind fun v233 =>
    f_X4_findTree_244 this x1 x3 x4 x6 x7 t0 v233 A

noncomputable def f_X4_findTree_189 (this : Nat) (x1 : Int32) (x3 : Int32) (x4 : Int32) (x6 : Int32) (x7 : Int32) (A : AH) : Option ((Int32 × Int32 × Int32 × Int32 × AH) ⊕ ((AH) ⊕ (Int32 × Int32 × Int32 × AH))) :=
  if x7 = 0 then
    (gR 5 33 A (some this)).bind fun v214 =>
    (aI 10 A v214 x6).bind fun v219 =>
    f_X4_findTree_220 this x1 x3 (x4 ||| ((1 : Int32) <<< (x6 &&& 31))) x6 x7 v219 A
  else
    (gR 5 32 A (some this)).bind fun v204 =>
    (aI 10 A v204 x6).bind fun v209 =>
    f_X4_findTree_220 this x1 x3 (x4 ||| ((1 : Int32) <<< (x6 &&& 31))) x6 x7 v209 A

noncomputable def f_X4_findTree_176 (this : Nat) (x1 : Int32) (x3 : Int32) (x4 : Int32) (x5 : Int32) (x6 : Int32) (x7 : Int32) (x8 : Int32) (A : AH) : Option ((Int32 × Int32 × Int32 × Int32 × AH) ⊕ ((AH) ⊕ (Int32 × Int32 × Int32 × AH))) :=
  if x7 = 0 then
    if x8 = 0 then
      f_X4_findTree_307 this x1 x3 x4 x5 x6 A
    else
      f_X4_findTree_189 this x1 x3 x4 x6 x7 A
  else
    f_X4_findTree_189 this x1 x3 x4 x6 x7 A

noncomputable def f_X4_findTree_163 (this : Nat) (x1 : Int32) (x3 : Int32) (x4 : Int32) (x5 : Int32) (x6 : Int32) (x7 : Int32) (t0 : Int32) (A : AH) : Option ((Int32 × Int32 × Int32 × Int32 × AH) ⊕ ((AH) ⊕ (Int32 × Int32 × Int32 × AH))) :=
  if x7 = 0 then
    f_X4_findTree_176 this x1 x3 x4 x5 x6 x7 t0 A
  else
    if t0 = 0 then
      f_X4_findTree_176 this x1 x3 x4 x5 x6 x7 t0 A
    else
      some (.inr (.inl A))

noncomputable def f_X4_findTree_141 (this : Nat) (x1 : Int32) (x3 : Int32) (x4 : Int32) (x5 : Int32) (x6 : Int32) (t0 : Int32) (A : AH) : Option ((Int32 × Int32 × Int32 × Int32 × AH) ⊕ ((AH) ⊕ (Int32 × Int32 × Int32 × AH))) :=
  (gR 5 33 A (some this)).bind fun v145 =>
  (aI 10 A v145 x6).bind fun v150 =>
  if ((x3 >>> (v150 &&& 31)) &&& (1 : Int32)) = (1 : Int32) then
    f_X4_findTree_163 this x1 x3 x4 x5 x6 t0 (1 : Int32) A
  else
    f_X4_findTree_163 this x1 x3 x4 x5 x6 t0 (0 : Int32) A

noncomputable def s_X4_findTree_95 (this : Nat) (x1 : Int32) (st : Int32 × Int32 × Int32 × Int32 × AH) : Option ((Int32 × Int32 × Int32 × Int32 × AH) ⊕ ((AH) ⊕ (Int32 × Int32 × Int32 × AH))) := match st with
  | (x3, x4, x5, x6, A) =>
  (gI 5 11 A (some this)).bind fun v98 =>
  if v98 ≤ x6 then
    some (.inr (.inr (x3, x4, x5, A)))
  else
    if ((x1 &&& (x4 ^^^ (-1 : Int32))) &&& ((1 : Int32) <<< (x6 &&& 31))) = 0 then
      f_X4_findTree_307 this x1 x3 x4 x5 x6 A
    else
      (gR 5 32 A (some this)).bind fun v123 =>
      (aI 10 A v123 x6).bind fun v128 =>
      if ((x3 >>> (v128 &&& 31)) &&& (1 : Int32)) = (1 : Int32) then
        f_X4_findTree_141 this x1 x3 x4 x5 x6 (1 : Int32) A
      else
        f_X4_findTree_141 this x1 x3 x4 x5 x6 (0 : Int32) A

noncomputable def l_X4_findTree_95 (this : Nat) (x1 : Int32) (x3 : Int32) (x4 : Int32) (x5 : Int32) (x6 : Int32) (A : AH) : Option ((Int32 × Int32 × Int32 × AH) ⊕ ((AH) ⊕ (Int32 × Int32 × AH))) :=
  (whl (s_X4_findTree_95 this x1) (x3, x4, x5, x6, A)).bind fun e => match e with
  | (.inl A) =>
    (some (.inr (.inl A)))
  | (.inr (x3, x4, x5, A)) =>
    (some (.inl (x3, x4, x5, A)))

noncomputable def f_X4_findTree_329 (A : AH) : Option (AH) :=
  some A

noncomputable def s_X4_findTree_84 (this : Nat) (x1 : Int32) (st : Int32 × Int32 × Int32 × AH) : Option ((Int32 × Int32 × Int32 × AH) ⊕ ((AH) ⊕ (Int32 × Int32 × AH))) := match st with
  | (x3, x4, x5, A) =>
  if x5 = 0 then
    some (.inr (.inr (x3, x4, A)))
  else
    l_X4_findTree_95 this x1 x3 x4 (0 : Int32) (0 : Int32) A

noncomputable def l_X4_findTree_84 (this : Nat) (x1 : Int32) (x3 : Int32) (x4 : Int32) (x5 : Int32) (A : AH) : Option (AH) :=
  (whl (s_X4_findTree_84 this x1) (x3, x4, x5, A)).bind fun e => match e with
  | (.inl A) =>
    (some A)
  | (.inr (x3, x4, A)) =>
    (if x4 = x1 then
        (gR 5 40 A (some this)).bind fun v323 =>
        (sI A v323 x1 x3).bind fun A328 =>
        f_X4_findTree_329 A328
      else
        f_X4_findTree_329 A)

noncomputable def s_X4_findTree_19 (this : Nat) (x1 : Int32) (A : AH) (st : Int32 × Int32) : Option ((Int32 × Int32) ⊕ (Int32)) := match st with
  | (x2, x3) =>
  (gI 5 11 A (some this)).bind fun v21 =>
  if v21 ≤ x3 then
    some (.inr x2)
  else
    if ((x1 >>> (x3 &&& 31)) &&& (1 : Int32)) = (1 : Int32) then
      (gR 5 32 A (some this)).bind fun v38 =>
      (aI 10 A v38 x3).bind fun v42 =>
      (gR 5 33 A (some this)).bind fun v44 =>
      (aI 10 A v44 x3).bind fun v48 =>
      f_X4_findTree_56 this x1 (mnI x2 (mnI v42 v48)) x3 A
    else
      f_X4_findTree_56 this x1 x2 x3 A

noncomputable def l_X4_findTree_19 (this : Nat) (x1 : Int32) (x2 : Int32) (x3 : Int32) (A : AH) : Option (AH) :=
  (whl (s_X4_findTree_19 this x1 A) (x2, x3)).bind fun e => match e with
  | x2 =>
    (gR 5 41 A (some this)).bind fun v70 =>
    (sI A v70 (((6 : Int32) * x1) + x2) (0 : Int32)).bind fun A80 =>
    l_X4_findTree_84 this x1 ((1 : Int32) <<< (x2 &&& 31)) (0 : Int32) (1 : Int32) A80

noncomputable def f_X4_findTree (this : Nat) (x1 : Int32) (A : AH) : Option (AH) :=
  (gR 5 40 A (some this)).bind fun v1 =>
  (sI A v1 x1 (0 : Int32)).bind fun A6 =>
  (gR 5 42 A6 (some this)).bind fun v8 =>
  (sI A6 v8 x1 (0 : Int32)).bind fun A13 =>
  l_X4_findTree_19 this x1 (6 : Int32) (0 : Int32) A13

/-! SlimeNetModel.findTrees()V -/
noncomputable def s_X4_findTrees_2 (this : Nat) (st : Int32 × AH) : Option ((Int32 × AH) ⊕ (AH)) := match st with
  | (x1, A) =>
  (gI 5 11 A (some this)).bind fun v5 =>
  if ((1 : Int32) <<< (v5 &&& 31)) ≤ x1 then
    some (.inr A)
  else
    (rcv 5 A (some this)).bind fun k14 =>
    (f_X4_findTree k14 x1 A).bind fun A14 =>
    some (.inl ((x1 + (1 : Int32)), A14))

noncomputable def l_X4_findTrees_2 (this : Nat) (x1 : Int32) (A : AH) : Option (AH) :=
  (whl (s_X4_findTrees_2 this) (x1, A)).bind fun e => match e with
  | A =>
    some A

noncomputable def f_X4_findTrees (this : Nat) (A : AH) : Option (AH) :=
  l_X4_findTrees_2 this (1 : Int32) A

/-! SlimeNetModel.<init>()V -/
noncomputable def f_X4_init (this : Nat) (A : AH) : Option (AH) :=
  (mkB 700 11 A (700 : Int32)).bind fun A8 =>
  (pR 5 0 A8 (some this) (some (hn A))).bind fun A10 =>
  (pI 5 9 A10 (some this) (-1 : Int32)).bind fun A15 =>
  (pI 5 13 A15 (some this) (5 : Int32)).bind fun A20 =>
  (pI 5 14 A20 (some this) (2 : Int32)).bind fun A25 =>
  (pI 5 15 A25 (some this) (3 : Int32)).bind fun A30 =>
  (pI 5 16 A30 (some this) (5 : Int32)).bind fun A35 =>
  (mkB 6 13 A35 (6 : Int32)).bind fun A41 =>
  (pR 5 31 A41 (some this) (some (hn A35))).bind fun A43 =>
  (mkB 10 10 A43 (10 : Int32)).bind fun A49 =>
  (pR 5 32 A49 (some this) (some (hn A43))).bind fun A51 =>
  (mkB 10 10 A51 (10 : Int32)).bind fun A57 =>
  (pR 5 33 A57 (some this) (some (hn A51))).bind fun A59 =>
  (mkB 10 10 A59 (10 : Int32)).bind fun A65 =>
  (pR 5 34 A65 (some this) (some (hn A59))).bind fun A67 =>
  (mkB 6 10 A67 (6 : Int32)).bind fun A73 =>
  (pR 5 35 A73 (some this) (some (hn A67))).bind fun A75 =>
  (mkB 10 10 A75 (10 : Int32)).bind fun A81 =>
  (pR 5 36 A81 (some this) (some (hn A75))).bind fun A83 =>
  (mkB 10 10 A83 (10 : Int32)).bind fun A89 =>
  (pR 5 37 A89 (some this) (some (hn A83))).bind fun A91 =>
  (mkB 10 10 A91 (10 : Int32)).bind fun A97 =>
  (pR 5 38 A97 (some this) (some (hn A91))).bind fun A99 =>
  (mkB 6 10 A99 (6 : Int32)).bind fun A105 =>
  (pR 5 39 A105 (some this) (some (hn A99))).bind fun A107 =>
  (mkB 1024 10 A107 (1024 : Int32)).bind fun A114 =>
  (pR 5 40 A114 (some this) (some (hn A107))).bind fun A116 =>
  (mkB 6144 10 A116 (6144 : Int32)).bind fun A123 =>
  (pR 5 41 A123 (some this) (some (hn A116))).bind fun A125 =>
  (mkB 1024 10 A125 (1024 : Int32)).bind fun A132 =>
  (pR 5 42 A132 (some this) (some (hn A125))).bind fun A134 =>
  (mkB 10 10 A134 (10 : Int32)).bind fun A140 =>
  (pR 5 43 A140 (some this) (some (hn A134))).bind fun A142 =>
  (mkB 10 13 A142 (10 : Int32)).bind fun A148 =>
  (pR 5 44 A148 (some this) (some (hn A142))).bind fun A150 =>
  (mkB 10 10 A150 (10 : Int32)).bind fun A156 =>
  (pR 5 46 A156 (some this) (some (hn A150))).bind fun A158 =>
  (mkB 10 10 A158 (10 : Int32)).bind fun A164 =>
  (pR 5 47 A164 (some this) (some (hn A158))).bind fun A166 =>
  (mkB 2010 10 A166 (2010 : Int32)).bind fun A173 =>
  (pR 5 49 A173 (some this) (some (hn A166))).bind fun A175 =>
  (mkB 2010 10 A175 (2010 : Int32)).bind fun A182 =>
  (pR 5 50 A182 (some this) (some (hn A175))).bind fun A184 =>
  (pI 5 51 A184 (some this) (-1 : Int32)).bind fun A189 =>
  (mkB 40 10 A189 (40 : Int32)).bind fun A195 =>
  (pR 5 52 A195 (some this) (some (hn A189))).bind fun A197 =>
  (mkB 40 10 A197 (40 : Int32)).bind fun A203 =>
  (pR 5 53 A203 (some this) (some (hn A197))).bind fun A205 =>
  (mkB 4 10 A205 (4 : Int32)).bind fun A210 =>
  (pR 5 54 A210 (some this) (some (hn A205))).bind fun A212 =>
  (mkB 4 12 A212 (4 : Int32)).bind fun A217 =>
  (pR 5 55 A217 (some this) (some (hn A212))).bind fun A219 =>
  (mkB 6 10 A219 (6 : Int32)).bind fun A225 =>
  (pR 5 56 A225 (some this) (some (hn A219))).bind fun A227 =>
  (mkB 121 10 A227 (121 : Int32)).bind fun A233 =>
  (pR 5 57 A233 (some this) (some (hn A227))).bind fun A235 =>
  (mkB 121 10 A235 (121 : Int32)).bind fun A241 =>
  (pR 5 58 A241 (some this) (some (hn A235))).bind fun A243 =>
  (mkB 18081 10 A243 (18081 : Int32)).bind fun A250 =>
  (pR 5 59 A250 (some this) (some (hn A243))).bind fun A252 =>
  (mkB 10 10 A252 (10 : Int32)).bind fun A258 =>
  (pR 5 60 A258 (some this) (some (hn A252))).bind fun A260 =>
  (mkB 10 10 A260 (10 : Int32)).bind fun A266 =>
  (pR 5 61 A266 (some this) (some (hn A260))).bind fun A268 =>
  (mkB 16 10 A268 (16 : Int32)).bind fun A274 =>
  (pR 5 66 A274 (some this) (some (hn A268))).bind fun A276 =>
  (mkB 16 10 A276 (16 : Int32)).bind fun A282 =>
  (pR 5 67 A282 (some this) (some (hn A276))).bind fun A284 =>
  (mkB 16 10 A284 (16 : Int32)).bind fun A290 =>
  (pR 5 68 A290 (some this) (some (hn A284))).bind fun A292 =>
  (mkB 20 10 A292 (20 : Int32)).bind fun A298 =>
  (pR 5 69 A298 (some this) (some (hn A292))).bind fun A300 =>
  (mkB 20 10 A300 (20 : Int32)).bind fun A306 =>
  (pR 5 70 A306 (some this) (some (hn A300))).bind fun A308 =>
  (mkB 20 10 A308 (20 : Int32)).bind fun A314 =>
  (pR 5 71 A314 (some this) (some (hn A308))).bind fun A316 =>
  (mkB 1024 10 A316 (1024 : Int32)).bind fun A323 =>
  (pR 5 72 A323 (some this) (some (hn A316))).bind fun A325 =>
  (rcv 5 A325 (some this)).bind fun k329 =>
  (f_X4_findTrees k329 A325).bind fun A329 =>
  some A329

/-! SlimeNet.four(I)V -/
noncomputable def s_X0_four_3 (this : Nat) (x1 : Int32) (st : Int32 × AH) : Option ((Int32 × AH) ⊕ (AH)) := match st with
  | (x2, A) =>
  if x2 < 0 then
    some (.inr A)
  else
    (gR 1 1 A (some this)).bind fun v8 =>
    (gI 1 2 A (some this)).bind fun v12 =>
    (sB A v8 v12 (Int8.toInt32 (Int32.toInt8 (x1 >>> (x2 &&& 31))))).bind fun A19 =>
    (gI 1 2 A19 (some this)).bind fun v22 =>
    (pI 1 2 A19 (some this) (v22 + (1 : Int32))).bind fun A27 =>
    some (.inl ((x2 + (-8 : Int32)), A27))

noncomputable def l_X0_four_3 (this : Nat) (x1 : Int32) (x2 : Int32) (A : AH) : Option (AH) :=
  (whl (s_X0_four_3 this x1) (x2, A)).bind fun e => match e with
  | A =>
    some A

noncomputable def f_X0_four (this : Nat) (x1 : Int32) (A : AH) : Option (AH) :=
  l_X0_four_3 this x1 (24 : Int32) A

/-! SlimeNet.feed(IIIII)I -/
noncomputable def f_X0_feed (this : Nat) (x1 : Int32) (x2 : Int32) (x3 : Int32) (x4 : Int32) (x5 : Int32) (A : AH) : Option (Int32 × AH) :=
  (gI 1 2 A (some this)).bind fun v1 =>
  if (v1 + (20 : Int32)) ≤ (700 : Int32) then
    (rcv 1 A (some this)).bind fun k18 =>
    (f_X0_four k18 x1 A).bind fun A18 =>
    (rcv 1 A18 (some this)).bind fun k23 =>
    (f_X0_four k23 x2 A18).bind fun A23 =>
    (rcv 1 A23 (some this)).bind fun k28 =>
    (f_X0_four k28 x3 A23).bind fun A28 =>
    (rcv 1 A28 (some this)).bind fun k34 =>
    (f_X0_four k34 x4 A28).bind fun A34 =>
    (rcv 1 A34 (some this)).bind fun k40 =>
    (f_X0_four k40 x5 A34).bind fun A40 =>
    (gI 1 2 A40 (some this)).bind fun v44 =>
    some (v44, A40)
  else
    some ((-3 : Int32), A)

/-! SlimeNetModel.putFour(I)V -/
noncomputable def s_X4_putFour_3 (this : Nat) (x1 : Int32) (st : Int32 × AH) : Option ((Int32 × AH) ⊕ (AH)) := match st with
  | (x2, A) =>
  if x2 < 0 then
    some (.inr A)
  else
    (gR 5 0 A (some this)).bind fun v8 =>
    (gI 5 1 A (some this)).bind fun v12 =>
    (sB A v8 v12 (Int8.toInt32 (Int32.toInt8 (x1 >>> (x2 &&& 31))))).bind fun A19 =>
    (gI 5 1 A19 (some this)).bind fun v22 =>
    (pI 5 1 A19 (some this) (v22 + (1 : Int32))).bind fun A27 =>
    some (.inl ((x2 + (-8 : Int32)), A27))

noncomputable def l_X4_putFour_3 (this : Nat) (x1 : Int32) (x2 : Int32) (A : AH) : Option (AH) :=
  (whl (s_X4_putFour_3 this x1) (x2, A)).bind fun e => match e with
  | A =>
    some A

noncomputable def f_X4_putFour (this : Nat) (x1 : Int32) (A : AH) : Option (AH) :=
  l_X4_putFour_3 this x1 (24 : Int32) A

/-! SlimeNetModel.feed(IIIII)I -/
noncomputable def f_X4_feed (this : Nat) (x1 : Int32) (x2 : Int32) (x3 : Int32) (x4 : Int32) (x5 : Int32) (A : AH) : Option (Int32 × AH) :=
  (gI 5 1 A (some this)).bind fun v1 =>
  if (v1 + (20 : Int32)) ≤ (700 : Int32) then
    (rcv 5 A (some this)).bind fun k18 =>
    (f_X4_putFour k18 x1 A).bind fun A18 =>
    (rcv 5 A18 (some this)).bind fun k23 =>
    (f_X4_putFour k23 x2 A18).bind fun A23 =>
    (rcv 5 A23 (some this)).bind fun k28 =>
    (f_X4_putFour k28 x3 A23).bind fun A28 =>
    (rcv 5 A28 (some this)).bind fun k34 =>
    (f_X4_putFour k34 x4 A28).bind fun A34 =>
    (rcv 5 A34 (some this)).bind fun k40 =>
    (f_X4_putFour k40 x5 A34).bind fun A40 =>
    (gI 5 1 A40 (some this)).bind fun v44 =>
    some (v44, A40)
  else
    some ((-3 : Int32), A)

/-! SlimeNet.end(I)I -/
noncomputable def f_X0_end_12 (A : AH) : Option (Int32 × AH) :=
  some ((-1 : Int32), A)

noncomputable def f_X0_end (this : Nat) (x1 : Int32) (A : AH) : Option (Int32 × AH) :=
  if x1 < 0 then
    f_X0_end_12 A
  else
    (gI 1 2 A (some this)).bind fun v6 =>
    if x1 ≤ v6 then
      (pI 1 2 A (some this) x1).bind fun A16 =>
      some (x1, A16)
    else
      f_X0_end_12 A

/-! SlimeNetModel.in(JJJ)Z -/
noncomputable def f_X4_in_18 (t0 : Int32) : Option (Int32) :=
  (ckZ t0).bind fun _ =>
  some t0

noncomputable def f_X4_in_17 : Option (Int32) :=
  f_X4_in_18 (0 : Int32)

noncomputable def f_X4_in (x0 : Int64) (x2 : Int64) (x4 : Int64) : Option (Int32) :=
  if (lg_cmp x0 x2) < 0 then
    f_X4_in_17
  else
    if 0 < (lg_cmp x0 x4) then
      f_X4_in_17
    else
      f_X4_in_18 (1 : Int32)

/-! SlimeNetModel.end(I)I -/
noncomputable def f_X4_end (this : Nat) (x1 : Int32) (A : AH) : Option (Int32 × AH) :=
  (gI 5 1 A (some this)).bind fun v4 =>
  (f_X4_in (Int32.toInt64 x1) (0 : Int64) (Int32.toInt64 v4)).bind fun v8 =>
  if v8 = 0 then
    some ((-1 : Int32), A)
  else
    (pI 5 1 A (some this) x1).bind fun A18 =>
    some (x1, A18)

/-! SlimeNet$Reader.see(I)I -/
noncomputable def f_X5_see_25 (t0 : Int32) (A : AH) : Option (Int32) :=
  some t0

noncomputable def f_X5_see (this : Nat) (x1 : Int32) (A : AH) : Option (Int32) :=
  (gI 6 0 A (some this)).bind fun v2 =>
  if v2 ≤ x1 then
    f_X5_see_25 (0 : Int32) A
  else
    (gR 6 5 A (some this)).bind fun v9 =>
    (gR 1 1 A v9).bind fun v12 =>
    (aI 11 A v12 x1).bind fun v16 =>
    f_X5_see_25 (v16 &&& (255 : Int32)) A

/-! SlimeNet$Reader.isSmall(I)Z -/
noncomputable def f_X5_isSmall_17 (t0 : Int32) : Option (Int32) :=
  (ckZ t0).bind fun _ =>
  some t0

noncomputable def f_X5_isSmall_16 : Option (Int32) :=
  f_X5_isSmall_17 (0 : Int32)

noncomputable def f_X5_isSmall (this : Nat) (x1 : Int32) : Option (Int32) :=
  if x1 < (97 : Int32) then
    f_X5_isSmall_16
  else
    if (122 : Int32) < x1 then
      f_X5_isSmall_16
    else
      f_X5_isSmall_17 (1 : Int32)

/-! SlimeNet$Reader.isDigit(I)Z -/
noncomputable def f_X5_isDigit_17 (t0 : Int32) : Option (Int32) :=
  (ckZ t0).bind fun _ =>
  some t0

noncomputable def f_X5_isDigit_16 : Option (Int32) :=
  f_X5_isDigit_17 (0 : Int32)

noncomputable def f_X5_isDigit (this : Nat) (x1 : Int32) : Option (Int32) :=
  if x1 < (48 : Int32) then
    f_X5_isDigit_16
  else
    if (57 : Int32) < x1 then
      f_X5_isDigit_16
    else
      f_X5_isDigit_17 (1 : Int32)

/-! SlimeNet$Reader.goOn()V -/
noncomputable def f_X5_goOn_25 (this : Nat) (x1 : Int32) (A : AH) : Option ((Int32) ⊕ (Int32)) :=
  some (.inl (x1 + (1 : Int32)))

noncomputable def f_X5_goOn_252 (A : AH) : Option (AH) :=
  some A

noncomputable def f_X5_goOn_249 (t0 : Int32) (t1 : Option Nat) (A : AH) : Option (AH) :=
  (pI 6 1 A t1 t0).bind fun A249 =>
  f_X5_goOn_252 A249

noncomputable def f_X5_goOn_199 (this : Nat) (x1 : Int32) (t0 : Int32) (t1 : Option Nat) (A : AH) : Option ((AH) ⊕ (AH)) :=
  (pI 6 4 A t1 t0).bind fun A199 =>
  (gI 6 3 A199 (some this)).bind fun v204 =>
  (pI 6 3 A199 (some this) (v204 + (1 : Int32))).bind fun A209 =>
  some (.inl A209)

noncomputable def f_X5_goOn_231 (t0 : Int32) (t1 : Option Nat) (A : AH) : Option (AH) :=
  (pI 6 1 A t1 t0).bind fun A231 =>
  f_X5_goOn_252 A231

noncomputable def s_X5_goOn_147 (this : Nat) (x1 : Int32) (st : AH) : Option ((AH) ⊕ (AH)) := match st with
  | A =>
  (gI 6 3 A (some this)).bind fun v150 =>
  (rcv 6 A (some this)).bind fun k153 =>
  (f_X5_see k153 v150 A).bind fun v153 =>
  (rcv 6 A (some this)).bind fun k156 =>
  (f_X5_isDigit k156 v153).bind fun v156 =>
  if v156 = 0 then
    some (.inr A)
  else
    (gI 6 3 A (some this)).bind fun v164 =>
    if (4 : Int32) ≤ (v164 - x1) then
      (gI 6 4 A (some this)).bind fun v196 =>
      f_X5_goOn_199 this x1 v196 (some this) A
    else
      (gI 6 4 A (some this)).bind fun v176 =>
      (gI 6 3 A (some this)).bind fun v182 =>
      (rcv 6 A (some this)).bind fun k185 =>
      (f_X5_see k185 v182 A).bind fun v185 =>
      f_X5_goOn_199 this x1 ((((10 : Int32) * v176) + v185) - (48 : Int32)) (some this) A

noncomputable def l_X5_goOn_147 (this : Nat) (x1 : Int32) (A : AH) : Option (AH) :=
  (whl (s_X5_goOn_147 this x1) A).bind fun e => match e with
  | A =>
    (gI 6 3 A (some this)).bind fun v217 =>
    if (v217 - x1) ≤ (4 : Int32) then
      f_X5_goOn_231 (2 : Int32) (some this) A
    else
      f_X5_goOn_231 (4 : Int32) (some this) A

noncomputable def f_X5_goOn_123 (t0 : Int32) (t1 : Option Nat) (A : AH) : Option (AH) :=
  (pI 6 1 A t1 t0).bind fun A123 =>
  f_X5_goOn_252 A123

noncomputable def s_X5_goOn_78 (this : Nat) (x1 : Int32) (st : AH) : Option ((AH) ⊕ (AH)) := match st with
  | A =>
  (gI 6 3 A (some this)).bind fun v81 =>
  (rcv 6 A (some this)).bind fun k84 =>
  (f_X5_see k84 v81 A).bind fun v84 =>
  (rcv 6 A (some this)).bind fun k87 =>
  (f_X5_isSmall k87 v84).bind fun v87 =>
  if v87 = 0 then
    some (.inr A)
  else
    (gI 6 3 A (some this)).bind fun v95 =>
    (pI 6 3 A (some this) (v95 + (1 : Int32))).bind fun A100 =>
    some (.inl A100)

noncomputable def l_X5_goOn_78 (this : Nat) (x1 : Int32) (A : AH) : Option (AH) :=
  (whl (s_X5_goOn_78 this x1) A).bind fun e => match e with
  | A =>
    (gI 6 3 A (some this)).bind fun v108 =>
    if (v108 - x1) ≤ (8 : Int32) then
      f_X5_goOn_123 (1 : Int32) (some this) A
    else
      f_X5_goOn_123 (4 : Int32) (some this) A

noncomputable def s_X5_goOn_5 (this : Nat) (A : AH) (st : Int32) : Option ((Int32) ⊕ (Int32)) := match st with
  | x1 =>
  (rcv 6 A (some this)).bind fun k7 =>
  (f_X5_see k7 x1 A).bind fun v7 =>
  if v7 = (32 : Int32) then
    f_X5_goOn_25 this x1 A
  else
    (rcv 6 A (some this)).bind fun k17 =>
    (f_X5_see k17 x1 A).bind fun v17 =>
    if v17 = (10 : Int32) then
      f_X5_goOn_25 this x1 A
    else
      some (.inr x1)

noncomputable def l_X5_goOn_5 (this : Nat) (x1 : Int32) (A : AH) : Option (AH) :=
  (whl (s_X5_goOn_5 this A) x1).bind fun e => match e with
  | x1 =>
    (pI 6 2 A (some this) x1).bind fun A33 =>
    (pI 6 3 A33 (some this) (x1 + (1 : Int32))).bind fun A40 =>
    (rcv 6 A40 (some this)).bind fun k45 =>
    (f_X5_see k45 x1 A40).bind fun v45 =>
    (gI 6 0 A40 (some this)).bind fun v51 =>
    if x1 < v51 then
      (rcv 6 A40 (some this)).bind fun k72 =>
      (f_X5_isSmall k72 v45).bind fun v72 =>
      if v72 = 0 then
        (rcv 6 A40 (some this)).bind fun k131 =>
        (f_X5_isDigit k131 v45).bind fun v131 =>
        if v131 = 0 then
          if v45 = (59 : Int32) then
            f_X5_goOn_249 (3 : Int32) (some this) A40
          else
            f_X5_goOn_249 (4 : Int32) (some this) A40
        else
          (pI 6 4 A40 (some this) (0 : Int32)).bind fun A139 =>
          (pI 6 3 A139 (some this) x1).bind fun A144 =>
          l_X5_goOn_147 this x1 A144
      else
        l_X5_goOn_78 this x1 A40
    else
      (pI 6 1 A40 (some this) (0 : Int32)).bind fun A59 =>
      (pI 6 3 A59 (some this) x1).bind fun A64 =>
      f_X5_goOn_252 A64

noncomputable def f_X5_goOn (this : Nat) (A : AH) : Option (AH) :=
  (gI 6 3 A (some this)).bind fun v1 =>
  l_X5_goOn_5 this v1 A

/-! SlimeNet$Reader.<init>(LSlimeNet;I)V -/
noncomputable def f_X5_init (this : Nat) (x1 : Option Nat) (x2 : Int32) (A : AH) : Option (AH) :=
  (pR 6 5 A (some this) x1).bind fun A2 =>
  (pI 6 0 A2 (some this) x2).bind fun A11 =>
  (rcv 6 A11 (some this)).bind fun k15 =>
  (f_X5_goOn k15 A11).bind fun A15 =>
  some A15

/-! SlimeNet$PlateReader.<init>(LSlimeNet;I)V -/
noncomputable def f_X6_init (this : Nat) (x1 : Option Nat) (x2 : Int32) (A : AH) : Option (AH) :=
  (pB A (some this)).bind fun A2 =>
  (f_X5_init this x1 x2 A2).bind fun A8 =>
  (nwC 3 A8).bind fun A12 =>
  (f_X2_init (hn A8) A12).bind fun A16 =>
  (pR 6 6 A16 (some this) (some (hn A8))).bind fun A19 =>
  some A19

/-! SlimeNet$Reader.isEnd()Z -/
noncomputable def f_X5_isEnd_12 (t0 : Int32) (A : AH) : Option (Int32) :=
  (ckZ t0).bind fun _ =>
  some t0

noncomputable def f_X5_isEnd (this : Nat) (A : AH) : Option (Int32) :=
  (gI 6 1 A (some this)).bind fun v1 =>
  if v1 = 0 then
    f_X5_isEnd_12 (1 : Int32) A
  else
    f_X5_isEnd_12 (0 : Int32) A

/-! java/lang/String.coder()B -/
noncomputable def f_J6_coder_14 (t0 : Int32) (A : AH) : Option (Int32) :=
  (ckB t0).bind fun _ =>
  some t0

noncomputable def f_J6_coder (this : Nat) (A : AH) : Option (Int32) :=
  if (1 : Int32) = 0 then
    f_J6_coder_14 (1 : Int32) A
  else
    (strC (some this)).bind fun v7 =>
    f_J6_coder_14 v7 A

/-! java/lang/String.length()I -/
noncomputable def f_J6_length (this : Nat) (A : AH) : Option (Int32) :=
  (strV (some this)).bind fun v1 =>
  (al 11 A v1).bind fun v4 =>
  (rcvS (some this)).bind fun k6 =>
  (f_J6_coder k6 A).bind fun v6 =>
  some (v4 >>> (v6 &&& 31))

/-! java/lang/String.isLatin1()Z -/
noncomputable def f_J6_isLatin1_18 (t0 : Int32) (A : AH) : Option (Int32) :=
  (ckZ t0).bind fun _ =>
  some t0

noncomputable def f_J6_isLatin1_17 (A : AH) : Option (Int32) :=
  f_J6_isLatin1_18 (0 : Int32) A

noncomputable def f_J6_isLatin1 (this : Nat) (A : AH) : Option (Int32) :=
  if (1 : Int32) = 0 then
    f_J6_isLatin1_17 A
  else
    (strC (some this)).bind fun v7 =>
    if v7 = 0 then
      f_J6_isLatin1_18 (1 : Int32) A
    else
      f_J6_isLatin1_17 A

/-! jdk/internal/util/Preconditions.checkIndex(IILjava/util/function/BiFunction;)I -/
noncomputable def f_J8_checkIndex_9 (x2 : Option Nat) : Option (Int32) :=
  none

noncomputable def f_J8_checkIndex (x0 : Int32) (x1 : Int32) (x2 : Option Nat) : Option (Int32) :=
  if x0 < 0 then
    f_J8_checkIndex_9 x2
  else
    if x0 < x1 then
      some x0
    else
      f_J8_checkIndex_9 x2

/-! java/lang/String.checkIndex(II)V -/
noncomputable def f_J6_checkIndex (x0 : Int32) (x1 : Int32) (A : AH) : Option (Unit) :=
  (f_J8_checkIndex x0 x1 (hU A 2)).bind fun v5 =>
  some ()

/-! java/lang/StringLatin1.charAt([BI)C -/
noncomputable def f_J7_charAt (x0 : Option Nat) (x1 : Int32) (A : AH) : Option (Int32) :=
  (al 11 A x0).bind fun v2 =>
  (f_J6_checkIndex x1 v2 A).bind fun _ =>
  (aI 11 A x0 x1).bind fun v8 =>
  (ckC (UInt32.toInt32 (Int32.toUInt32 (v8 &&& (255 : Int32)) % 65536))).bind fun _ =>
  some (UInt32.toInt32 (Int32.toUInt32 (v8 &&& (255 : Int32)) % 65536))

/-! java/lang/String.charAt(I)C -/
noncomputable def f_J6_charAt (this : Nat) (x1 : Int32) (A : AH) : Option (Int32) :=
  (rcvS (some this)).bind fun k1 =>
  (f_J6_isLatin1 k1 A).bind fun v1 =>
  if v1 = 0 then
    none
  else
    (strV (some this)).bind fun v8 =>
    (f_J7_charAt v8 x1 A).bind fun v12 =>
    (ckC v12).bind fun _ =>
    some v12

/-! SlimeNet$Reader.is(Ljava/lang/String;)Z -/
noncomputable def s_X5_is_28 (this : Nat) (x1 : Option Nat) (A : AH) (st : Int32) : Option ((Int32) ⊕ ((Unit) ⊕ (Unit))) := match st with
  | x2 =>
  (rcvS x1).bind fun k30 =>
  (f_J6_length k30 A).bind fun v30 =>
  if v30 ≤ x2 then
    some (.inr (.inr ()))
  else
    (gI 6 2 A (some this)).bind fun v38 =>
    (rcv 6 A (some this)).bind fun k43 =>
    (f_X5_see k43 (v38 + x2) A).bind fun v43 =>
    (rcvS x1).bind fun k48 =>
    (f_J6_charAt k48 x2 A).bind fun v48 =>
    if v43 = v48 then
      some (.inl (x2 + (1 : Int32)))
    else
      some (.inr (.inl ()))

noncomputable def l_X5_is_28 (this : Nat) (x1 : Option Nat) (x2 : Int32) (A : AH) : Option (Int32) :=
  (whl (s_X5_is_28 this x1 A) x2).bind fun e => match e with
  | (.inl ()) =>
    (some (0 : Int32))
  | (.inr ()) =>
    (some (1 : Int32))

noncomputable def f_X5_is_24 (A : AH) : Option (Int32) :=
  some (0 : Int32)

noncomputable def f_X5_is (this : Nat) (x1 : Option Nat) (A : AH) : Option (Int32) :=
  (gI 6 1 A (some this)).bind fun v1 =>
  if v1 = (1 : Int32) then
    (gI 6 3 A (some this)).bind fun v9 =>
    (gI 6 2 A (some this)).bind fun v13 =>
    (rcvS x1).bind fun k18 =>
    (f_J6_length k18 A).bind fun v18 =>
    if (v9 - v13) = v18 then
      l_X5_is_28 this x1 (0 : Int32) A
    else
      f_X5_is_24 A
  else
    f_X5_is_24 A

/-! SlimeNet$Wrong.by(II)LSlimeNet$Wrong; -/
noncomputable def f_X1_by (this : Nat) (x1 : Int32) (x2 : Int32) (A : AH) : Option (Option Nat × AH) :=
  (pI 2 6 A (some this) x1).bind fun A2 =>
  (pI 2 7 A2 (some this) x2).bind fun A7 =>
  some ((some this), A7)

/-! SlimeNet$Reader.ask(ZI)V -/
noncomputable def f_X5_ask (this : Nat) (x1 : Int32) (x2 : Int32) (A : AH) : Option ((AH) ⊕ (Nat × AH)) :=
  if x1 = 0 then
    (gR 6 5 A (some this)).bind fun v5 =>
    (gR 1 0 A v5).bind fun v8 =>
    (gI 6 2 A (some this)).bind fun v13 =>
    (rcv 2 A v8).bind fun k16 =>
    (f_X1_by k16 x2 v13 A).bind fun q16 => match q16 with
    | (v16, A16) =>
    (rcv 2 A16 v16).bind fun k19 =>
    some (.inr (k19, A16))
  else
    some (.inl A)

/-! SlimeNet$Reader.isWord()Z -/
noncomputable def f_X5_isWord_13 (t0 : Int32) (A : AH) : Option (Int32) :=
  (ckZ t0).bind fun _ =>
  some t0

noncomputable def f_X5_isWord (this : Nat) (A : AH) : Option (Int32) :=
  (gI 6 1 A (some this)).bind fun v1 =>
  if v1 = (1 : Int32) then
    f_X5_isWord_13 (1 : Int32) A
  else
    f_X5_isWord_13 (0 : Int32) A

/-! SlimeNet$Reader.name()J -/
noncomputable def s_X5_name_7 (this : Nat) (A : AH) (st : Int64 × Int32) : Option ((Int64 × Int32) ⊕ (Int64)) := match st with
  | (x1, x3) =>
  (gI 6 3 A (some this)).bind fun v9 =>
  if v9 ≤ x3 then
    some (.inr x1)
  else
    (rcv 6 A (some this)).bind fun k22 =>
    (f_X5_see k22 x3 A).bind fun v22 =>
    some (.inl ((((((27 : Int64) * x1) + (Int32.toInt64 v22)) - (97 : Int64)) + (1 : Int64)), (x3 + (1 : Int32))))

noncomputable def l_X5_name_7 (this : Nat) (x1 : Int64) (x3 : Int32) (A : AH) : Option (Int64) :=
  (whl (s_X5_name_7 this A) (x1, x3)).bind fun e => match e with
  | x1 =>
    some x1

noncomputable def f_X5_name (this : Nat) (A : AH) : Option (Int64) :=
  (gI 6 2 A (some this)).bind fun v3 =>
  l_X5_name_7 this (0 : Int64) v3 A

/-! SlimeNet$Plate.find(J)I -/
noncomputable def s_X2_find_2 (this : Nat) (x1 : Int64) (A : AH) (st : Int32) : Option ((Int32) ⊕ ((Int32) ⊕ (Unit))) := match st with
  | x3 =>
  (gI 3 4 A (some this)).bind fun v4 =>
  if v4 ≤ x3 then
    some (.inr (.inr ()))
  else
    (gR 3 0 A (some this)).bind fun v11 =>
    (aL A v11 x3).bind fun v15 =>
    if (lg_cmp v15 x1) = 0 then
      some (.inr (.inl x3))
    else
      some (.inl (x3 + (1 : Int32)))

noncomputable def l_X2_find_2 (this : Nat) (x1 : Int64) (x3 : Int32) (A : AH) : Option (Int32) :=
  (whl (s_X2_find_2 this x1 A) x3).bind fun e => match e with
  | (.inl x3) =>
    (some x3)
  | (.inr ()) =>
    (some (-1 : Int32))

noncomputable def f_X2_find (this : Nat) (x1 : Int64) (A : AH) : Option (Int32) :=
  l_X2_find_2 this x1 (0 : Int32) A

/-! SlimeNet$PlateReader.spot()V -/
noncomputable def f_X6_spot_56 (this : Nat) (t0 : Int32) (t1 : Option Nat) (A : AH) : Option ((AH) ⊕ (Nat × AH)) :=
  (rcv 6 A t1).bind fun k57 =>
  (f_X5_ask k57 t0 (3 : Int32) A).bind fun q57 => match q57 with
  | .inr x => some (.inr x)
  | .inl A57 =>
  (gR 6 6 A57 (some this)).bind fun v61 =>
  (gR 3 0 A57 v61).bind fun v64 =>
  (gR 6 6 A57 (some this)).bind fun v68 =>
  (gI 3 4 A57 v68).bind fun v71 =>
  (rcv 6 A57 (some this)).bind fun k75 =>
  (f_X5_name k75 A57).bind fun v75 =>
  (sL A57 v64 v71 v75).bind fun A78 =>
  (gR 6 6 A78 (some this)).bind fun v80 =>
  (gI 3 4 A78 v80).bind fun v84 =>
  (pI 3 4 A78 v80 (v84 + (1 : Int32))).bind fun A89 =>
  (rcv 6 A89 (some this)).bind fun k93 =>
  (f_X5_goOn k93 A89).bind fun A93 =>
  some (.inl A93)

noncomputable def f_X6_spot_18 (this : Nat) (t0 : Int32) (t1 : Option Nat) (A : AH) : Option ((AH) ⊕ (Nat × AH)) :=
  (rcv 6 A t1).bind fun k19 =>
  (f_X5_ask k19 t0 (4 : Int32) A).bind fun q19 => match q19 with
  | .inr x => some (.inr x)
  | .inl A19 =>
  (rcv 6 A19 (some this)).bind fun k23 =>
  (f_X5_goOn k23 A19).bind fun A23 =>
  (rcv 6 A23 (some this)).bind fun k28 =>
  (f_X5_isWord k28 A23).bind fun v28 =>
  (rcv 6 A23 (some this)).bind fun k32 =>
  (f_X5_ask k32 v28 (1 : Int32) A23).bind fun q32 => match q32 with
  | .inr x => some (.inr x)
  | .inl A32 =>
  (gR 6 6 A32 (some this)).bind fun v37 =>
  (rcv 6 A32 (some this)).bind fun k41 =>
  (f_X5_name k41 A32).bind fun v41 =>
  (rcv 3 A32 v37).bind fun k44 =>
  (f_X2_find k44 v41 A32).bind fun v44 =>
  if v44 = (-1 : Int32) then
    f_X6_spot_56 this (1 : Int32) (some this) A32
  else
    f_X6_spot_56 this (0 : Int32) (some this) A32

noncomputable def f_X6_spot (this : Nat) (A : AH) : Option ((AH) ⊕ (Nat × AH)) :=
  (gR 6 6 A (some this)).bind fun v2 =>
  (gI 3 4 A v2).bind fun v5 =>
  if (6 : Int32) ≤ v5 then
    f_X6_spot_18 this (0 : Int32) (some this) A
  else
    f_X6_spot_18 this (1 : Int32) (some this) A

/-! SlimeNet$PlateReader.spotHere()I -/
noncomputable def f_X6_spotHere_32 (x1 : Int32) (t0 : Int32) (t1 : Option Nat) (A : AH) : Option ((Int32 × AH) ⊕ (Nat × AH)) :=
  (rcv 6 A t1).bind fun k33 =>
  (f_X5_ask k33 t0 (5 : Int32) A).bind fun q33 => match q33 with
  | .inr x => some (.inr x)
  | .inl A33 =>
  some (.inl (x1, A33))

noncomputable def f_X6_spotHere (this : Nat) (A : AH) : Option ((Int32 × AH) ⊕ (Nat × AH)) :=
  (rcv 6 A (some this)).bind fun k2 =>
  (f_X5_isWord k2 A).bind fun v2 =>
  (rcv 6 A (some this)).bind fun k6 =>
  (f_X5_ask k6 v2 (1 : Int32) A).bind fun q6 => match q6 with
  | .inr x => some (.inr x)
  | .inl A6 =>
  (gR 6 6 A6 (some this)).bind fun v10 =>
  (rcv 6 A6 (some this)).bind fun k14 =>
  (f_X5_name k14 A6).bind fun v14 =>
  (rcv 3 A6 v10).bind fun k17 =>
  (f_X2_find k17 v14 A6).bind fun v17 =>
  if v17 = (-1 : Int32) then
    f_X6_spotHere_32 v17 (0 : Int32) (some this) A6
  else
    f_X6_spotHere_32 v17 (1 : Int32) (some this) A6

/-! java/util/Objects.checkIndex(II)I -/
noncomputable def f_J10_checkIndex (x0 : Int32) (x1 : Int32) : Option (Int32) :=
  (f_J8_checkIndex x0 x1 none).bind fun v3 =>
  some v3

/-! java/util/ArrayList.elementData(I)Ljava/lang/Object; -/
noncomputable def f_J4_elementData (this : Nat) (x1 : Int32) (A : AH) : Option (Option Nat) :=
  (gR 8 1 A (some this)).bind fun v1 =>
  (aR 14 A v1 x1).bind fun v5 =>
  some v5

/-! java/util/ArrayList.get(I)Ljava/lang/Object; -/
noncomputable def f_J4_get (this : Nat) (x1 : Int32) (A : AH) : Option (Option Nat) :=
  (gI 8 2 A (some this)).bind fun v2 =>
  (f_J10_checkIndex x1 v2).bind fun v5 =>
  (rcv 8 A (some this)).bind fun k11 =>
  (f_J4_elementData k11 x1 A).bind fun v11 =>
  some v11

/-! SlimeNet$Plate.between(II)LSlimeNet$Pipe; -/
noncomputable def f_X2_between_65 (this : Nat) (x1 : Int32) (x2 : Int32) (x3 : Int32) (A : AH) : Option ((Int32) ⊕ ((Option Nat) ⊕ (Unit))) :=
  some (.inl (x3 + (1 : Int32)))

noncomputable def f_X2_between_44 (this : Nat) (x1 : Int32) (x2 : Int32) (x3 : Int32) (x4 : Option Nat) (A : AH) : Option ((Int32) ⊕ ((Option Nat) ⊕ (Unit))) :=
  (gI 7 1 A x4).bind fun v46 =>
  if v46 = x2 then
    (gI 7 2 A x4).bind fun v55 =>
    if v55 = x1 then
      some (.inr (.inl x4))
    else
      f_X2_between_65 this x1 x2 x3 A
  else
    f_X2_between_65 this x1 x2 x3 A

noncomputable def f_X2_between_62 (x4 : Option Nat) (A : AH) : Option (Option Nat) :=
  some x4

noncomputable def s_X2_between_2 (this : Nat) (x1 : Int32) (x2 : Int32) (A : AH) (st : Int32) : Option ((Int32) ⊕ ((Option Nat) ⊕ (Unit))) := match st with
  | x3 =>
  (gR 3 1 A (some this)).bind fun v4 =>
  (rcv 8 A v4).bind fun k7 =>
  (f_J4_size k7 A).bind fun v7 =>
  if v7 ≤ x3 then
    some (.inr (.inr ()))
  else
    (gR 3 1 A (some this)).bind fun v14 =>
    (rcv 8 A v14).bind fun k18 =>
    (f_J4_get k18 x3 A).bind fun v18 =>
    (cst 7 A v18).bind fun _ =>
    (gI 7 1 A v18).bind fun v28 =>
    if v28 = x1 then
      (gI 7 2 A v18).bind fun v37 =>
      if v37 = x2 then
        some (.inr (.inl v18))
      else
        f_X2_between_44 this x1 x2 x3 v18 A
    else
      f_X2_between_44 this x1 x2 x3 v18 A

noncomputable def l_X2_between_2 (this : Nat) (x1 : Int32) (x2 : Int32) (x3 : Int32) (A : AH) : Option (Option Nat) :=
  (whl (s_X2_between_2 this x1 x2 A) x3).bind fun e => match e with
  | (.inl x4) =>
    (f_X2_between_62 x4 A)
  | (.inr ()) =>
    (some none)

noncomputable def f_X2_between (this : Nat) (x1 : Int32) (x2 : Int32) (A : AH) : Option (Option Nat) :=
  l_X2_between_2 this x1 x2 (0 : Int32) A

/-! SlimeNet.in(III)Z -/
noncomputable def f_X0_in_15 (t0 : Int32) : Option (Int32) :=
  (ckZ t0).bind fun _ =>
  some t0

noncomputable def f_X0_in_14 : Option (Int32) :=
  f_X0_in_15 (0 : Int32)

noncomputable def f_X0_in (x0 : Int32) (x1 : Int32) (x2 : Int32) : Option (Int32) :=
  if x0 < x1 then
    f_X0_in_14
  else
    if x2 < x0 then
      f_X0_in_14
    else
      f_X0_in_15 (1 : Int32)

/-! SlimeNet$Reader.within(II)I -/
noncomputable def f_X5_within_14 (this : Nat) (x1 : Int32) (x2 : Int32) (t0 : Int32) (t1 : Option Nat) (A : AH) : Option ((Int32 × AH) ⊕ (Nat × AH)) :=
  (rcv 6 A t1).bind fun k15 =>
  (f_X5_ask k15 t0 (1 : Int32) A).bind fun q15 => match q15 with
  | .inr x => some (.inr x)
  | .inl A15 =>
  (gI 6 4 A15 (some this)).bind fun v20 =>
  (f_X0_in v20 x1 x2).bind fun v25 =>
  (rcv 6 A15 (some this)).bind fun k29 =>
  (f_X5_ask k29 v25 (2 : Int32) A15).bind fun q29 => match q29 with
  | .inr x => some (.inr x)
  | .inl A29 =>
  (gI 6 4 A29 (some this)).bind fun v33 =>
  some (.inl (v33, A29))

noncomputable def f_X5_within (this : Nat) (x1 : Int32) (x2 : Int32) (A : AH) : Option ((Int32 × AH) ⊕ (Nat × AH)) :=
  (gI 6 1 A (some this)).bind fun v2 =>
  if v2 = (2 : Int32) then
    f_X5_within_14 this x1 x2 (1 : Int32) (some this) A
  else
    f_X5_within_14 this x1 x2 (0 : Int32) (some this) A

/-! SlimeNet$Pipe.<init>(IIII)V -/
noncomputable def f_X7_init (this : Nat) (x1 : Int32) (x2 : Int32) (x3 : Int32) (x4 : Int32) (A : AH) : Option (AH) :=
  (pI 7 0 A (some this) x1).bind fun A6 =>
  (pI 7 1 A6 (some this) x2).bind fun A11 =>
  (pI 7 2 A11 (some this) x3).bind fun A16 =>
  (pI 7 3 A16 (some this) x4).bind fun A22 =>
  some A22

/-! java/util/ArrayList.grow(I)[Ljava/lang/Object; -/
noncomputable def f_J4_grow_2_20 (x2 : Int32) (A : AH) : Option (Option Nat × AH) :=
  none

noncomputable def f_J4_grow_2 (this : Nat) (x1 : Int32) (A : AH) : Option (Option Nat × AH) :=
  (gR 8 1 A (some this)).bind fun v1 =>
  (alq A v1).bind fun v4 =>
  if 0 < v4 then
    f_J4_grow_2_20 v4 A
  else
    (gR 8 1 A (some this)).bind fun v11 =>
    if v11 = (some 1) then
      (mkB 10 14 A (mxI (10 : Int32) x1)).bind fun A52 =>
      (pR 8 1 A52 (some this) (some (hn A))).bind fun A56 =>
      some ((some (hn A)), A56)
    else
      none

/-! java/util/ArrayList.grow()[Ljava/lang/Object; -/
noncomputable def f_J4_grow (this : Nat) (A : AH) : Option (Option Nat × AH) :=
  (gI 8 2 A (some this)).bind fun v2 =>
  (rcv 8 A (some this)).bind fun k7 =>
  (f_J4_grow_2 k7 (v2 + (1 : Int32)) A).bind fun q7 => match q7 with
  | (v7, A7) =>
  some (v7, A7)

/-! java/util/ArrayList.add(Ljava/lang/Object;[Ljava/lang/Object;I)V -/
noncomputable def f_J4_add_2_11 (this : Nat) (x1 : Option Nat) (x2 : Option Nat) (x3 : Int32) (A : AH) : Option (AH) :=
  (sR 14 7 A x2 x3 x1).bind fun A14 =>
  (pI 8 2 A14 (some this) (x3 + (1 : Int32))).bind fun A19 =>
  some A19

noncomputable def f_J4_add_2 (this : Nat) (x1 : Option Nat) (x2 : Option Nat) (x3 : Int32) (A : AH) : Option (AH) :=
  (alq A x2).bind fun v2 =>
  if x3 = v2 then
    (rcv 8 A (some this)).bind fun k7 =>
    (f_J4_grow k7 A).bind fun q7 => match q7 with
    | (v7, A7) =>
    f_J4_add_2_11 this x1 v7 x3 A7
  else
    f_J4_add_2_11 this x1 x2 x3 A

/-! java/util/ArrayList.add(Ljava/lang/Object;)Z -/
noncomputable def f_J4_add (this : Nat) (x1 : Option Nat) (A : AH) : Option (Int32 × AH) :=
  (gI 8 0 A (some this)).bind fun v2 =>
  (pI 8 0 A (some this) (v2 + (1 : Int32))).bind fun A7 =>
  (gR 8 1 A7 (some this)).bind fun v13 =>
  (gI 8 2 A7 (some this)).bind fun v17 =>
  (rcv 8 A7 (some this)).bind fun k20 =>
  (f_J4_add_2 k20 x1 v13 v17 A7).bind fun A20 =>
  some ((1 : Int32), A20)

/-! SlimeNet$PlateReader.pipe()V -/
noncomputable def f_X6_pipe_131 (this : Nat) (x1 : Int32) (x2 : Int32) (x3 : Int32) (t0 : Int32) (t1 : Option Nat) (A : AH) : Option ((AH) ⊕ (Nat × AH)) :=
  (rcv 6 A t1).bind fun k132 =>
  (f_X5_ask k132 t0 (2 : Int32) A).bind fun q132 => match q132 with
  | .inr x => some (.inr x)
  | .inl A132 =>
  (gR 6 6 A132 (some this)).bind fun v136 =>
  (gR 3 1 A132 v136).bind fun v139 =>
  (nwC 7 A132).bind fun A142 =>
  (gR 6 6 A142 (some this)).bind fun v147 =>
  (gR 3 1 A142 v147).bind fun v150 =>
  (rcv 8 A142 v150).bind fun k153 =>
  (f_J4_size k153 A142).bind fun v153 =>
  (f_X7_init (hn A132) v153 x1 x2 x3 A142).bind fun A159 =>
  (rcv 8 A159 v139).bind fun k162 =>
  (f_J4_add k162 (some (hn A132)) A159).bind fun q162 => match q162 with
  | (v162, A162) =>
  (rcv 6 A162 (some this)).bind fun k167 =>
  (f_X5_goOn k167 A162).bind fun A167 =>
  some (.inl A167)

noncomputable def f_X6_pipe_102 (this : Nat) (x1 : Int32) (x2 : Int32) (t0 : Int32) (t1 : Option Nat) (A : AH) : Option ((AH) ⊕ (Nat × AH)) :=
  (rcv 6 A t1).bind fun k103 =>
  (f_X5_ask k103 t0 (5 : Int32) A).bind fun q103 => match q103 with
  | .inr x => some (.inr x)
  | .inl A103 =>
  (rcv 6 A103 (some this)).bind fun k107 =>
  (f_X5_goOn k107 A103).bind fun A107 =>
  (rcv 6 A107 (some this)).bind fun k114 =>
  (f_X5_within k114 (1 : Int32) (12 : Int32) A107).bind fun q114 => match q114 with
  | .inr x => some (.inr x)
  | .inl (v114, A114) =>
  (rmI (12 : Int32) v114).bind fun v122 =>
  if v122 = 0 then
    f_X6_pipe_131 this x1 x2 v114 (1 : Int32) (some this) A114
  else
    f_X6_pipe_131 this x1 x2 v114 (0 : Int32) (some this) A114

noncomputable def f_X6_pipe_87 (this : Nat) (x1 : Int32) (x2 : Int32) (t0 : Int32) (t1 : Option Nat) (A : AH) : Option ((AH) ⊕ (Nat × AH)) :=
  (rcv 6 A t1).bind fun k88 =>
  (f_X5_ask k88 t0 (3 : Int32) A).bind fun q88 => match q88 with
  | .inr x => some (.inr x)
  | .inl A88 =>
  if x2 = (-1 : Int32) then
    f_X6_pipe_102 this x1 x2 (0 : Int32) (some this) A88
  else
    f_X6_pipe_102 this x1 x2 (1 : Int32) (some this) A88

noncomputable def f_X6_pipe_82 (this : Nat) (x1 : Int32) (x2 : Int32) (t0 : Option Nat) (A : AH) : Option ((AH) ⊕ (Nat × AH)) :=
  f_X6_pipe_87 this x1 x2 (1 : Int32) t0 A

noncomputable def f_X6_pipe_86 (this : Nat) (x1 : Int32) (x2 : Int32) (t0 : Option Nat) (A : AH) : Option ((AH) ⊕ (Nat × AH)) :=
  f_X6_pipe_87 this x1 x2 (0 : Int32) t0 A

noncomputable def f_X6_pipe_21 (this : Nat) (t0 : Int32) (t1 : Option Nat) (A : AH) : Option ((AH) ⊕ (Nat × AH)) :=
  (rcv 6 A t1).bind fun k22 =>
  (f_X5_ask k22 t0 (4 : Int32) A).bind fun q22 => match q22 with
  | .inr x => some (.inr x)
  | .inl A22 =>
  (rcv 6 A22 (some this)).bind fun k26 =>
  (f_X5_goOn k26 A22).bind fun A26 =>
  (rcv 6 A26 (some this)).bind fun k30 =>
  (f_X6_spotHere k30 A26).bind fun q30 => match q30 with
  | .inr x => some (.inr x)
  | .inl (v30, A30) =>
  (rcv 6 A30 (some this)).bind fun k35 =>
  (f_X5_goOn k35 A30).bind fun A35 =>
  (rcv 6 A35 (some this)).bind fun k40 =>
  (f_X5_isWord k40 A35).bind fun v40 =>
  (rcv 6 A35 (some this)).bind fun k44 =>
  (f_X5_ask k44 v40 (1 : Int32) A35).bind fun q44 => match q44 with
  | .inr x => some (.inr x)
  | .inl A44 =>
  (gR 6 6 A44 (some this)).bind fun v48 =>
  (rcv 6 A44 (some this)).bind fun k52 =>
  (f_X5_name k52 A44).bind fun v52 =>
  (rcv 3 A44 v48).bind fun k55 =>
  (f_X2_find k55 v52 A44).bind fun v55 =>
  if v55 = (-1 : Int32) then
    f_X6_pipe_82 this v30 v55 (some this) A44
  else
    if v55 = v30 then
      f_X6_pipe_86 this v30 v55 (some this) A44
    else
      (gR 6 6 A44 (some this)).bind fun v71 =>
      (rcv 3 A44 v71).bind fun k76 =>
      (f_X2_between k76 v30 v55 A44).bind fun v76 =>
      if v76 = none then
        f_X6_pipe_82 this v30 v55 (some this) A44
      else
        f_X6_pipe_86 this v30 v55 (some this) A44

noncomputable def f_X6_pipe (this : Nat) (A : AH) : Option ((AH) ⊕ (Nat × AH)) :=
  (gR 6 6 A (some this)).bind fun v2 =>
  (gR 3 1 A v2).bind fun v5 =>
  (rcv 8 A v5).bind fun k8 =>
  (f_J4_size k8 A).bind fun v8 =>
  if (10 : Int32) ≤ v8 then
    f_X6_pipe_21 this (0 : Int32) (some this) A
  else
    f_X6_pipe_21 this (1 : Int32) (some this) A

/-! SlimeNet$Plate.isFlake(I)Z -/
noncomputable def s_X2_isFlake_2 (this : Nat) (x1 : Int32) (A : AH) (st : Int32) : Option ((Int32) ⊕ ((Unit) ⊕ (Unit))) := match st with
  | x2 =>
  (gI 3 5 A (some this)).bind fun v4 =>
  if v4 ≤ x2 then
    some (.inr (.inr ()))
  else
    (gR 3 2 A (some this)).bind fun v11 =>
    (aI 10 A v11 x2).bind fun v15 =>
    if v15 = x1 then
      some (.inr (.inl ()))
    else
      some (.inl (x2 + (1 : Int32)))

noncomputable def l_X2_isFlake_2 (this : Nat) (x1 : Int32) (x2 : Int32) (A : AH) : Option (Int32) :=
  (whl (s_X2_isFlake_2 this x1 A) x2).bind fun e => match e with
  | (.inl ()) =>
    (some (1 : Int32))
  | (.inr ()) =>
    (some (0 : Int32))

noncomputable def f_X2_isFlake (this : Nat) (x1 : Int32) (A : AH) : Option (Int32) :=
  l_X2_isFlake_2 this x1 (0 : Int32) A

/-! SlimeNet$PlateReader.salt()V -/
noncomputable def f_X6_salt_80 (this : Nat) (x3 : Option Nat) (t0 : Int32) (t1 : Option Nat) (A : AH) : Option ((AH) ⊕ (Nat × AH)) :=
  (rcv 6 A t1).bind fun k81 =>
  (f_X5_ask k81 t0 (5 : Int32) A).bind fun q81 => match q81 with
  | .inr x => some (.inr x)
  | .inl A81 =>
  (pZ 7 4 A81 x3 (1 : Int32)).bind fun A86 =>
  (rcv 6 A86 (some this)).bind fun k90 =>
  (f_X5_goOn k90 A86).bind fun A90 =>
  some (.inl A90)

noncomputable def f_X6_salt_66 (this : Nat) (x3 : Option Nat) (t0 : Int32) (t1 : Option Nat) (A : AH) : Option ((AH) ⊕ (Nat × AH)) :=
  (rcv 6 A t1).bind fun k67 =>
  (f_X5_ask k67 t0 (3 : Int32) A).bind fun q67 => match q67 with
  | .inr x => some (.inr x)
  | .inl A67 =>
  if x3 = none then
    f_X6_salt_80 this x3 (0 : Int32) (some this) A67
  else
    f_X6_salt_80 this x3 (1 : Int32) (some this) A67

noncomputable def f_X6_salt_61 (this : Nat) (x3 : Option Nat) (t0 : Option Nat) (A : AH) : Option ((AH) ⊕ (Nat × AH)) :=
  f_X6_salt_66 this x3 (1 : Int32) t0 A

noncomputable def f_X6_salt_48 (this : Nat) (t0 : Option Nat) (A : AH) : Option ((AH) ⊕ (Nat × AH)) :=
  if t0 = none then
    f_X6_salt_61 this t0 (some this) A
  else
    (gI 7 4 A t0).bind fun v55 =>
    if v55 = 0 then
      f_X6_salt_61 this t0 (some this) A
    else
      f_X6_salt_66 this t0 (0 : Int32) (some this) A

noncomputable def f_X6_salt (this : Nat) (A : AH) : Option ((AH) ⊕ (Nat × AH)) :=
  (rcv 6 A (some this)).bind fun k1 =>
  (f_X6_spotHere k1 A).bind fun q1 => match q1 with
  | .inr x => some (.inr x)
  | .inl (v1, A1) =>
  (rcv 6 A1 (some this)).bind fun k6 =>
  (f_X5_goOn k6 A1).bind fun A6 =>
  (rcv 6 A6 (some this)).bind fun k11 =>
  (f_X5_isWord k11 A6).bind fun v11 =>
  (rcv 6 A6 (some this)).bind fun k15 =>
  (f_X5_ask k15 v11 (1 : Int32) A6).bind fun q15 => match q15 with
  | .inr x => some (.inr x)
  | .inl A15 =>
  (gR 6 6 A15 (some this)).bind fun v19 =>
  (rcv 6 A15 (some this)).bind fun k23 =>
  (f_X5_name k23 A15).bind fun v23 =>
  (rcv 3 A15 v19).bind fun k26 =>
  (f_X2_find k26 v23 A15).bind fun v26 =>
  if v26 = (-1 : Int32) then
    f_X6_salt_48 this none A15
  else
    (gR 6 6 A15 (some this)).bind fun v40 =>
    (rcv 3 A15 v40).bind fun k45 =>
    (f_X2_between k45 v1 v26 A15).bind fun v45 =>
    f_X6_salt_48 this v45 A15

/-! SlimeNet$PlateReader.begins(Ljava/lang/String;I)Z -/
noncomputable def f_X6_begins_27 (this : Nat) (x2 : Int32) (t0 : Int32) (t1 : Option Nat) (A : AH) : Option ((Int32 × AH) ⊕ (Nat × AH)) :=
  (rcv 6 A t1).bind fun k28 =>
  (f_X5_ask k28 t0 (3 : Int32) A).bind fun q28 => match q28 with
  | .inr x => some (.inr x)
  | .inl A28 =>
  (gI 6 7 A28 (some this)).bind fun v33 =>
  (pI 6 7 A28 (some this) (v33 ||| ((1 : Int32) <<< (x2 &&& 31)))).bind fun A40 =>
  (rcv 6 A40 (some this)).bind fun k44 =>
  (f_X5_goOn k44 A40).bind fun A44 =>
  some (.inl ((1 : Int32), A44))

noncomputable def f_X6_begins (this : Nat) (x1 : Option Nat) (x2 : Int32) (A : AH) : Option ((Int32 × AH) ⊕ (Nat × AH)) :=
  (rcv 6 A (some this)).bind fun k2 =>
  (f_X5_is k2 x1 A).bind fun v2 =>
  if v2 = 0 then
    some (.inl ((0 : Int32), A))
  else
    (gI 6 7 A (some this)).bind fun v12 =>
    if ((v12 >>> (x2 &&& 31)) &&& (1 : Int32)) = 0 then
      f_X6_begins_27 this x2 (1 : Int32) (some this) A
    else
      f_X6_begins_27 this x2 (0 : Int32) (some this) A

/-! SlimeNet$Reader.number(II)I -/
noncomputable def f_X5_number (this : Nat) (x1 : Int32) (x2 : Int32) (A : AH) : Option ((Int32 × AH) ⊕ (Nat × AH)) :=
  (rcv 6 A (some this)).bind fun k3 =>
  (f_X5_within k3 x1 x2 A).bind fun q3 => match q3 with
  | .inr x => some (.inr x)
  | .inl (v3, A3) =>
  (rcv 6 A3 (some this)).bind fun k8 =>
  (f_X5_goOn k8 A3).bind fun A8 =>
  some (.inl (v3, A8))

/-! SlimeNet$PlateReader.clause()V -/
noncomputable def f_X6_clause_228 (A : AH) : Option ((AH) ⊕ (Nat × AH)) :=
  some (.inl A)

noncomputable def f_X6_clause_67 (this : Nat) (x1 : Int32) (t0 : Int32) (t1 : Option Nat) (A : AH) : Option ((AH) ⊕ (Nat × AH)) :=
  (rcv 6 A t1).bind fun k68 =>
  (f_X5_ask k68 t0 (3 : Int32) A).bind fun q68 => match q68 with
  | .inr x => some (.inr x)
  | .inl A68 =>
  (gR 6 6 A68 (some this)).bind fun v72 =>
  (gR 3 2 A68 v72).bind fun v75 =>
  (gR 6 6 A68 (some this)).bind fun v79 =>
  (gI 3 5 A68 v79).bind fun v82 =>
  (sI A68 v75 v82 x1).bind fun A86 =>
  (gR 6 6 A86 (some this)).bind fun v88 =>
  (gI 3 5 A86 v88).bind fun v92 =>
  (pI 3 5 A86 v88 (v92 + (1 : Int32))).bind fun A97 =>
  (rcv 6 A97 (some this)).bind fun k101 =>
  (f_X5_goOn k101 A97).bind fun A101 =>
  f_X6_clause_228 A101

noncomputable def f_X6_clause (this : Nat) (A : AH) : Option ((AH) ⊕ (Nat × AH)) :=
  (rcv 6 A (some this)).bind fun k3 =>
  (f_X5_is k3 (some 2) A).bind fun v3 =>
  if v3 = 0 then
    (rcv 6 A (some this)).bind fun k19 =>
    (f_X5_is k19 (some 3) A).bind fun v19 =>
    if v19 = 0 then
      (rcv 6 A (some this)).bind fun k35 =>
      (f_X5_is k35 (some 4) A).bind fun v35 =>
      if v35 = 0 then
        (rcv 6 A (some this)).bind fun k110 =>
        (f_X5_is k110 (some 5) A).bind fun v110 =>
        if v110 = 0 then
          (rcv 6 A (some this)).bind fun k131 =>
          (f_X6_begins k131 (some 6) (0 : Int32) A).bind fun q131 => match q131 with
          | .inr x => some (.inr x)
          | .inl (v131, A131) =>
          if v131 = 0 then
            (rcv 6 A131 (some this)).bind fun k172 =>
            (f_X6_begins k172 (some 7) (1 : Int32) A131).bind fun q172 => match q172 with
            | .inr x => some (.inr x)
            | .inl (v172, A172) =>
            if v172 = 0 then
              (rcv 6 A172 (some this)).bind fun k199 =>
              (f_X5_is k199 (some 8) A172).bind fun v199 =>
              (rcv 6 A172 (some this)).bind fun k203 =>
              (f_X5_ask k203 v199 (1 : Int32) A172).bind fun q203 => match q203 with
              | .inr x => some (.inr x)
              | .inl A203 =>
              (rcv 6 A203 (some this)).bind fun k210 =>
              (f_X6_begins k210 (some 8) (2 : Int32) A203).bind fun q210 => match q210 with
              | .inr x => some (.inr x)
              | .inl (v210, A210) =>
              (gR 6 6 A210 (some this)).bind fun v215 =>
              (rcv 6 A210 (some this)).bind fun k222 =>
              (f_X5_number k222 (1 : Int32) (9 : Int32) A210).bind fun q222 => match q222 with
              | .inr x => some (.inr x)
              | .inl (v222, A222) =>
              (pI 3 9 A222 v215 v222).bind fun A225 =>
              f_X6_clause_228 A225
            else
              (gR 6 6 A172 (some this)).bind fun v179 =>
              (rcv 6 A172 (some this)).bind fun k186 =>
              (f_X5_number k186 (1 : Int32) (9 : Int32) A172).bind fun q186 => match q186 with
              | .inr x => some (.inr x)
              | .inl (v186, A186) =>
              (pI 3 8 A186 v179 v186).bind fun A189 =>
              f_X6_clause_228 A189
          else
            (gR 6 6 A131 (some this)).bind fun v138 =>
            (rcv 6 A131 (some this)).bind fun k145 =>
            (f_X5_number k145 (0 : Int32) (20 : Int32) A131).bind fun q145 => match q145 with
            | .inr x => some (.inr x)
            | .inl (v145, A145) =>
            (pI 3 6 A145 v138 v145).bind fun A148 =>
            (gR 6 6 A148 (some this)).bind fun v152 =>
            (rcv 6 A148 (some this)).bind fun k159 =>
            (f_X5_number k159 (0 : Int32) (20 : Int32) A148).bind fun q159 => match q159 with
            | .inr x => some (.inr x)
            | .inl (v159, A159) =>
            (pI 3 7 A159 v152 v159).bind fun A162 =>
            f_X6_clause_228 A162
        else
          (rcv 6 A (some this)).bind fun k117 =>
          (f_X5_goOn k117 A).bind fun A117 =>
          (rcv 6 A117 (some this)).bind fun k121 =>
          (f_X6_salt k121 A117).bind fun q121 => match q121 with
          | .inr x => some (.inr x)
          | .inl A121 =>
          f_X6_clause_228 A121
      else
        (rcv 6 A (some this)).bind fun k42 =>
        (f_X5_goOn k42 A).bind fun A42 =>
        (rcv 6 A42 (some this)).bind fun k46 =>
        (f_X6_spotHere k46 A42).bind fun q46 => match q46 with
        | .inr x => some (.inr x)
        | .inl (v46, A46) =>
        (gR 6 6 A46 (some this)).bind fun v52 =>
        (rcv 3 A46 v52).bind fun k56 =>
        (f_X2_isFlake k56 v46 A46).bind fun v56 =>
        if v56 = 0 then
          f_X6_clause_67 this v46 (1 : Int32) (some this) A46
        else
          f_X6_clause_67 this v46 (0 : Int32) (some this) A46
    else
      (rcv 6 A (some this)).bind fun k26 =>
      (f_X6_pipe k26 A).bind fun q26 => match q26 with
      | .inr x => some (.inr x)
      | .inl A26 =>
      f_X6_clause_228 A26
  else
    (rcv 6 A (some this)).bind fun k10 =>
    (f_X6_spot k10 A).bind fun q10 => match q10 with
    | .inr x => some (.inr x)
    | .inl A10 =>
    f_X6_clause_228 A10

/-! SlimeNet$Reader.semicolon()V -/
noncomputable def f_X5_semicolon_14 (this : Nat) (t0 : Int32) (t1 : Option Nat) (A : AH) : Option ((AH) ⊕ (Nat × AH)) :=
  (rcv 6 A t1).bind fun k15 =>
  (f_X5_ask k15 t0 (1 : Int32) A).bind fun q15 => match q15 with
  | .inr x => some (.inr x)
  | .inl A15 =>
  (rcv 6 A15 (some this)).bind fun k19 =>
  (f_X5_goOn k19 A15).bind fun A19 =>
  some (.inl A19)

noncomputable def f_X5_semicolon (this : Nat) (A : AH) : Option ((AH) ⊕ (Nat × AH)) :=
  (gI 6 1 A (some this)).bind fun v2 =>
  if v2 = (3 : Int32) then
    f_X5_semicolon_14 this (1 : Int32) (some this) A
  else
    f_X5_semicolon_14 this (0 : Int32) (some this) A

/-! SlimeNet$PlateReader.read()LSlimeNet$Plate; -/
noncomputable def s_X6_read_0 (this : Nat) (st : AH) : Option ((AH) ⊕ ((AH) ⊕ (Nat × AH))) := match st with
  | A =>
  (rcv 6 A (some this)).bind fun k1 =>
  (f_X5_isEnd k1 A).bind fun v1 =>
  if v1 = 0 then
    (rcv 6 A (some this)).bind fun k8 =>
    (f_X6_clause k8 A).bind fun q8 => match q8 with
    | .inr x => some (.inr (.inr x))
    | .inl A8 =>
    (rcv 6 A8 (some this)).bind fun k12 =>
    (f_X5_semicolon k12 A8).bind fun q12 => match q12 with
    | .inr x => some (.inr (.inr x))
    | .inl A12 =>
    (gR 6 6 A12 (some this)).bind fun v16 =>
    (gI 3 10 A12 v16).bind fun v20 =>
    (pI 3 10 A12 v16 (v20 + (1 : Int32))).bind fun A25 =>
    some (.inl A25)
  else
    some (.inr (.inl A))

noncomputable def l_X6_read_0 (this : Nat) (A : AH) : Option ((Option Nat × AH) ⊕ (Nat × AH)) :=
  (whO (s_X6_read_0 this) 352 A).bind fun e => match e with
  | (.inl A) =>
    ((gR 6 6 A (some this)).bind fun v32 =>
      some (.inl (v32, A)))
  | (.inr x) => some (.inr x)

noncomputable def f_X6_read (this : Nat) (A : AH) : Option ((Option Nat × AH) ⊕ (Nat × AH)) :=
  l_X6_read_0 this A

/-! java/util/Arrays.fill([ZZ)V -/
noncomputable def s_J12_fill_5 (x0 : Option Nat) (x1 : Int32) (x3 : Int32) (st : Int32 × AH) : Option ((Int32 × AH) ⊕ (AH)) := match st with
  | (x2, A) =>
  if x3 ≤ x2 then
    some (.inr A)
  else
    (sZ A x0 x2 x1).bind fun A13 =>
    some (.inl ((x2 + (1 : Int32)), A13))

noncomputable def l_J12_fill_5 (x0 : Option Nat) (x1 : Int32) (x3 : Int32) (x2 : Int32) (A : AH) : Option (AH) :=
  (whl (s_J12_fill_5 x0 x1 x3) (x2, A)).bind fun e => match e with
  | A =>
    some A

noncomputable def f_J12_fill (x0 : Option Nat) (x1 : Int32) (A : AH) : Option (AH) :=
  (al 12 A x0).bind fun v3 =>
  l_J12_fill_5 x0 x1 v3 (0 : Int32) A

/-! SlimeNet.plate()I -/
noncomputable def f_X0_plate_39 (this : Nat) (t0 : Option Nat) (A : AH) : Option (Int32 × AH) :=
  (gI 2 6 A t0).bind fun v42 =>
  (pI 1 3 A (some this) v42).bind fun A45 =>
  (gI 2 7 A45 t0).bind fun v50 =>
  (pI 1 4 A45 (some this) v50).bind fun A53 =>
  some ((-1 : Int32), A53)

noncomputable def f_X0_plate (this : Nat) (A : AH) : Option (Int32 × AH) :=
  (gI 1 2 A (some this)).bind fun v1 =>
  (pI 1 2 A (some this) (0 : Int32)).bind fun A7 =>
  (pI 1 3 A7 (some this) (0 : Int32)).bind fun A12 =>
  (pI 1 4 A12 (some this) (-1 : Int32)).bind fun A17 =>
  (nwC 6 A17).bind fun A21 =>
  (f_X6_init (hn A17) (some this) v1 A21).bind fun A27 =>
  (rcv 6 A27 (some (hn A17))).bind fun k30 =>
  (f_X6_read k30 A27).bind fun q30 => match q30 with
  | .inr (kx, Ax) => f_X0_plate_39 this (some kx) Ax
  | .inl (v30, A30) =>
  (pR 1 5 A30 (some this) v30).bind fun A33 =>
  (gR 1 6 A33 (some this)).bind fun v59 =>
  (gR 1 5 A33 (some this)).bind fun v63 =>
  (rcv 4 A33 v59).bind fun k66 =>
  (f_X3_begin k66 v63 A33).bind fun A66 =>
  (gR 1 9 A66 (some this)).bind fun v70 =>
  (f_J12_fill v70 (0 : Int32) A66).bind fun A74 =>
  (pI 1 10 A74 (some this) (-1 : Int32)).bind fun A79 =>
  (pI 1 18 A79 (some this) (0 : Int32)).bind fun A84 =>
  (pI 1 19 A84 (some this) (0 : Int32)).bind fun A89 =>
  (pI 1 20 A89 (some this) (0 : Int32)).bind fun A94 =>
  (pZ 1 12 A94 (some this) (0 : Int32)).bind fun A99 =>
  (gR 1 5 A99 (some this)).bind fun v103 =>
  (gI 3 10 A99 v103).bind fun v106 =>
  some (v106, A99)

/-! SlimeNetModel.byteAt(I)I -/
noncomputable def f_X4_byteAt_22 (t0 : Int32) (A : AH) : Option (Int32) :=
  some t0

noncomputable def f_X4_byteAt (this : Nat) (x1 : Int32) (A : AH) : Option (Int32) :=
  (gI 5 2 A (some this)).bind fun v2 =>
  if v2 ≤ x1 then
    f_X4_byteAt_22 (0 : Int32) A
  else
    (gR 5 0 A (some this)).bind fun v9 =>
    (aI 11 A v9 x1).bind fun v13 =>
    f_X4_byteAt_22 (v13 &&& (255 : Int32)) A

/-! SlimeNetModel.isSmall(I)Z -/
noncomputable def f_X4_isSmall_17 (t0 : Int32) : Option (Int32) :=
  (ckZ t0).bind fun _ =>
  some t0

noncomputable def f_X4_isSmall_16 : Option (Int32) :=
  f_X4_isSmall_17 (0 : Int32)

noncomputable def f_X4_isSmall (x0 : Int32) : Option (Int32) :=
  if x0 < (97 : Int32) then
    f_X4_isSmall_16
  else
    if (122 : Int32) < x0 then
      f_X4_isSmall_16
    else
      f_X4_isSmall_17 (1 : Int32)

/-! SlimeNetModel.isDigit(I)Z -/
noncomputable def f_X4_isDigit_17 (t0 : Int32) : Option (Int32) :=
  (ckZ t0).bind fun _ =>
  some t0

noncomputable def f_X4_isDigit_16 : Option (Int32) :=
  f_X4_isDigit_17 (0 : Int32)

noncomputable def f_X4_isDigit (x0 : Int32) : Option (Int32) :=
  if x0 < (48 : Int32) then
    f_X4_isDigit_16
  else
    if (57 : Int32) < x0 then
      f_X4_isDigit_16
    else
      f_X4_isDigit_17 (1 : Int32)

/-! SlimeNetModel.scan()V -/
noncomputable def f_X4_scan_39 (this : Nat) (A : AH) : Option ((AH) ⊕ (AH)) :=
  (gI 5 4 A (some this)).bind fun v41 =>
  (pI 5 4 A (some this) (v41 + (1 : Int32))).bind fun A46 =>
  some (.inl A46)

noncomputable def f_X4_scan_273 (A : AH) : Option (AH) :=
  some A

noncomputable def f_X4_scan_260 (this : Nat) (t0 : Int32) (t1 : Option Nat) (A : AH) : Option (AH) :=
  (pI 5 5 A t1 t0).bind fun A260 =>
  (gI 5 4 A260 (some this)).bind fun v265 =>
  (pI 5 4 A260 (some this) (v265 + (1 : Int32))).bind fun A270 =>
  f_X4_scan_273 A270

noncomputable def f_X4_scan_210 (this : Nat) (A : AH) : Option ((AH) ⊕ (AH)) :=
  (gI 5 4 A (some this)).bind fun v212 =>
  (pI 5 4 A (some this) (v212 + (1 : Int32))).bind fun A217 =>
  some (.inl A217)

noncomputable def f_X4_scan_242 (t0 : Int32) (t1 : Option Nat) (A : AH) : Option (AH) :=
  (pI 5 5 A t1 t0).bind fun A242 =>
  f_X4_scan_273 A242

noncomputable def s_X4_scan_160 (this : Nat) (st : AH) : Option ((AH) ⊕ (AH)) := match st with
  | A =>
  (gI 5 4 A (some this)).bind fun v162 =>
  (rcv 5 A (some this)).bind fun k165 =>
  (f_X4_byteAt k165 v162 A).bind fun v165 =>
  (f_X4_isDigit v165).bind fun v168 =>
  if v168 = 0 then
    some (.inr A)
  else
    (gI 5 4 A (some this)).bind fun v175 =>
    (gI 5 3 A (some this)).bind fun v179 =>
    if (4 : Int32) ≤ (v175 - v179) then
      f_X4_scan_210 this A
    else
      (gI 5 6 A (some this)).bind fun v191 =>
      (gI 5 4 A (some this)).bind fun v197 =>
      (rcv 5 A (some this)).bind fun k200 =>
      (f_X4_byteAt k200 v197 A).bind fun v200 =>
      (pI 5 6 A (some this) ((((10 : Int32) * v191) + v200) - (48 : Int32))).bind fun A207 =>
      f_X4_scan_210 this A207

noncomputable def l_X4_scan_160 (this : Nat) (A : AH) : Option (AH) :=
  (whl (s_X4_scan_160 this) A).bind fun e => match e with
  | A =>
    (gI 5 4 A (some this)).bind fun v225 =>
    (gI 5 3 A (some this)).bind fun v229 =>
    if (v225 - v229) ≤ (4 : Int32) then
      f_X4_scan_242 (2 : Int32) (some this) A
    else
      f_X4_scan_242 (4 : Int32) (some this) A

noncomputable def f_X4_scan_142 (t0 : Int32) (t1 : Option Nat) (A : AH) : Option (AH) :=
  (pI 5 5 A t1 t0).bind fun A142 =>
  f_X4_scan_273 A142

noncomputable def s_X4_scan_95 (this : Nat) (st : AH) : Option ((AH) ⊕ (AH)) := match st with
  | A =>
  (gI 5 4 A (some this)).bind fun v97 =>
  (rcv 5 A (some this)).bind fun k100 =>
  (f_X4_byteAt k100 v97 A).bind fun v100 =>
  (f_X4_isSmall v100).bind fun v103 =>
  if v103 = 0 then
    some (.inr A)
  else
    (gI 5 4 A (some this)).bind fun v111 =>
    (pI 5 4 A (some this) (v111 + (1 : Int32))).bind fun A116 =>
    some (.inl A116)

noncomputable def l_X4_scan_95 (this : Nat) (A : AH) : Option (AH) :=
  (whl (s_X4_scan_95 this) A).bind fun e => match e with
  | A =>
    (gI 5 4 A (some this)).bind fun v124 =>
    (gI 5 3 A (some this)).bind fun v128 =>
    if (v124 - v128) ≤ (8 : Int32) then
      f_X4_scan_142 (1 : Int32) (some this) A
    else
      f_X4_scan_142 (4 : Int32) (some this) A

noncomputable def f_X4_scan_52 (this : Nat) (A : AH) : Option (AH) :=
  (gI 5 4 A (some this)).bind fun v54 =>
  (pI 5 3 A (some this) v54).bind fun A57 =>
  (gI 5 3 A57 (some this)).bind fun v62 =>
  (rcv 5 A57 (some this)).bind fun k65 =>
  (f_X4_byteAt k65 v62 A57).bind fun v65 =>
  (gI 5 3 A57 (some this)).bind fun v70 =>
  (gI 5 2 A57 (some this)).bind fun v74 =>
  if v70 = v74 then
    (pI 5 5 A57 (some this) (0 : Int32)).bind fun A82 =>
    f_X4_scan_273 A82
  else
    (f_X4_isSmall v65).bind fun v89 =>
    if v89 = 0 then
      (f_X4_isDigit v65).bind fun v149 =>
      if v149 = 0 then
        if v65 = (59 : Int32) then
          f_X4_scan_260 this (3 : Int32) (some this) A57
        else
          f_X4_scan_260 this (4 : Int32) (some this) A57
      else
        (pI 5 6 A57 (some this) (0 : Int32)).bind fun A157 =>
        l_X4_scan_160 this A157
    else
      l_X4_scan_95 this A57

noncomputable def s_X4_scan_0 (this : Nat) (st : AH) : Option ((AH) ⊕ (AH)) := match st with
  | A =>
  (gI 5 4 A (some this)).bind fun v1 =>
  (gI 5 2 A (some this)).bind fun v5 =>
  if v5 ≤ v1 then
    some (.inr A)
  else
    (gR 5 0 A (some this)).bind fun v12 =>
    (gI 5 4 A (some this)).bind fun v16 =>
    (aI 11 A v12 v16).bind fun v19 =>
    if v19 = (32 : Int32) then
      f_X4_scan_39 this A
    else
      (gR 5 0 A (some this)).bind fun v26 =>
      (gI 5 4 A (some this)).bind fun v30 =>
      (aI 11 A v26 v30).bind fun v33 =>
      if v33 = (10 : Int32) then
        f_X4_scan_39 this A
      else
        some (.inr A)

noncomputable def l_X4_scan_0 (this : Nat) (A : AH) : Option (AH) :=
  (whl (s_X4_scan_0 this) A).bind fun e => match e with
  | A =>
    f_X4_scan_52 this A

noncomputable def f_X4_scan (this : Nat) (A : AH) : Option (AH) :=
  l_X4_scan_0 this A

/-! SlimeNetModel.is(Ljava/lang/String;)Z -/
noncomputable def f_X4_is_68 (this : Nat) (x1 : Option Nat) (x3 : Int32) (t0 : Int32) (A : AH) : Option ((Int32 × Int32) ⊕ (Int32)) :=
  some (.inl (t0, (x3 + (1 : Int32))))

noncomputable def f_X4_is_75 (x2 : Int32) (A : AH) : Option (Int32) :=
  (ckZ x2).bind fun _ =>
  some x2

noncomputable def s_X4_is_32 (this : Nat) (x1 : Option Nat) (A : AH) (st : Int32 × Int32) : Option ((Int32 × Int32) ⊕ (Int32)) := match st with
  | (x2, x3) =>
  (rcvS x1).bind fun k34 =>
  (f_J6_length k34 A).bind fun v34 =>
  if v34 ≤ x3 then
    some (.inr x2)
  else
    if x2 = 0 then
      some (.inr x2)
    else
      (gR 5 0 A (some this)).bind fun v45 =>
      (gI 5 3 A (some this)).bind fun v49 =>
      (aI 11 A v45 (v49 + x3)).bind fun v54 =>
      (rcvS x1).bind fun k57 =>
      (f_J6_charAt k57 x3 A).bind fun v57 =>
      if v54 = v57 then
        f_X4_is_68 this x1 x3 (1 : Int32) A
      else
        f_X4_is_68 this x1 x3 (0 : Int32) A

noncomputable def l_X4_is_32 (this : Nat) (x1 : Option Nat) (x2 : Int32) (x3 : Int32) (A : AH) : Option (Int32) :=
  (whl (s_X4_is_32 this x1 A) (x2, x3)).bind fun e => match e with
  | x2 =>
    f_X4_is_75 x2 A

noncomputable def f_X4_is_29 (this : Nat) (x1 : Option Nat) (t0 : Int32) (A : AH) : Option (Int32) :=
  l_X4_is_32 this x1 t0 (0 : Int32) A

noncomputable def f_X4_is_28 (this : Nat) (x1 : Option Nat) (A : AH) : Option (Int32) :=
  f_X4_is_29 this x1 (0 : Int32) A

noncomputable def f_X4_is (this : Nat) (x1 : Option Nat) (A : AH) : Option (Int32) :=
  (gI 5 5 A (some this)).bind fun v1 =>
  if v1 = (1 : Int32) then
    (gI 5 4 A (some this)).bind fun v9 =>
    (gI 5 3 A (some this)).bind fun v13 =>
    (rcvS x1).bind fun k18 =>
    (f_J6_length k18 A).bind fun v18 =>
    if (v9 - v13) = v18 then
      f_X4_is_29 this x1 (1 : Int32) A
    else
      f_X4_is_28 this x1 A
  else
    f_X4_is_28 this x1 A

/-! SlimeNetModel.bad(I)Z -/
noncomputable def f_X4_bad (this : Nat) (x1 : Int32) (A : AH) : Option (Int32 × AH) :=
  (pI 5 8 A (some this) x1).bind fun A2 =>
  (gI 5 3 A2 (some this)).bind fun v7 =>
  (pI 5 9 A2 (some this) v7).bind fun A10 =>
  some ((0 : Int32), A10)

/-! SlimeNetModel.name()J -/
noncomputable def s_X4_name_7 (this : Nat) (A : AH) (st : Int64 × Int32) : Option ((Int64 × Int32) ⊕ (Int64)) := match st with
  | (x1, x3) =>
  (gI 5 4 A (some this)).bind fun v9 =>
  if v9 ≤ x3 then
    some (.inr x1)
  else
    (rcv 5 A (some this)).bind fun k20 =>
    (f_X4_byteAt k20 x3 A).bind fun v20 =>
    some (.inl (((x1 <<< (Int32.toInt64 (5 : Int32) &&& 63)) ||| (Int32.toInt64 (v20 - (96 : Int32)))), (x3 + (1 : Int32))))

noncomputable def l_X4_name_7 (this : Nat) (x1 : Int64) (x3 : Int32) (A : AH) : Option (Int64) :=
  (whl (s_X4_name_7 this A) (x1, x3)).bind fun e => match e with
  | x1 =>
    some x1

noncomputable def f_X4_name (this : Nat) (A : AH) : Option (Int64) :=
  (gI 5 3 A (some this)).bind fun v3 =>
  l_X4_name_7 this (0 : Int64) v3 A

/-! SlimeNetModel.spotAt()I -/
noncomputable def s_X4_spotAt_2 (this : Nat) (A : AH) (st : Int32) : Option ((Int32) ⊕ ((Int32) ⊕ (Unit))) := match st with
  | x1 =>
  (gI 5 19 A (some this)).bind fun v4 =>
  if v4 ≤ x1 then
    some (.inr (.inr ()))
  else
    (gR 5 31 A (some this)).bind fun v11 =>
    (aL A v11 x1).bind fun v15 =>
    (rcv 5 A (some this)).bind fun k17 =>
    (f_X4_name k17 A).bind fun v17 =>
    if (lg_cmp v15 v17) = 0 then
      some (.inr (.inl x1))
    else
      some (.inl (x1 + (1 : Int32)))

noncomputable def l_X4_spotAt_2 (this : Nat) (x1 : Int32) (A : AH) : Option (Int32) :=
  (whl (s_X4_spotAt_2 this A) x1).bind fun e => match e with
  | (.inl x1) =>
    (some x1)
  | (.inr ()) =>
    (some (-1 : Int32))

noncomputable def f_X4_spotAt (this : Nat) (A : AH) : Option (Int32) :=
  l_X4_spotAt_2 this (0 : Int32) A

/-! SlimeNetModel.readSpot()Z -/
noncomputable def f_X4_readSpot (this : Nat) (A : AH) : Option (Int32 × AH) :=
  (gI 5 19 A (some this)).bind fun v1 =>
  if v1 = (6 : Int32) then
    (rcv 5 A (some this)).bind fun k11 =>
    (f_X4_bad k11 (4 : Int32) A).bind fun q11 => match q11 with
    | (v11, A11) =>
    (ckZ v11).bind fun _ =>
    some (v11, A11)
  else
    (rcv 5 A (some this)).bind fun k16 =>
    (f_X4_scan k16 A).bind fun A16 =>
    (gI 5 5 A16 (some this)).bind fun v20 =>
    if v20 = (1 : Int32) then
      (rcv 5 A16 (some this)).bind fun k34 =>
      (f_X4_spotAt k34 A16).bind fun v34 =>
      if v34 = (-1 : Int32) then
        (gR 5 31 A16 (some this)).bind fun v48 =>
        (gI 5 19 A16 (some this)).bind fun v52 =>
        (rcv 5 A16 (some this)).bind fun k56 =>
        (f_X4_name k56 A16).bind fun v56 =>
        (sL A16 v48 v52 v56).bind fun A59 =>
        (gI 5 19 A59 (some this)).bind fun v62 =>
        (pI 5 19 A59 (some this) (v62 + (1 : Int32))).bind fun A67 =>
        (rcv 5 A67 (some this)).bind fun k71 =>
        (f_X4_scan k71 A67).bind fun A71 =>
        some ((1 : Int32), A71)
      else
        (rcv 5 A16 (some this)).bind fun k43 =>
        (f_X4_bad k43 (3 : Int32) A16).bind fun q43 => match q43 with
        | (v43, A43) =>
        (ckZ v43).bind fun _ =>
        some (v43, A43)
    else
      (rcv 5 A16 (some this)).bind fun k29 =>
      (f_X4_bad k29 (1 : Int32) A16).bind fun q29 => match q29 with
      | (v29, A29) =>
      (ckZ v29).bind fun _ =>
      some (v29, A29)

/-! SlimeNetModel.known()Z -/
noncomputable def f_X4_known_43 (t0 : Int32) (A : AH) : Option (Int32 × AH) :=
  (ckZ t0).bind fun _ =>
  some (t0, A)

noncomputable def f_X4_known_38 (A : AH) : Option (Int32 × AH) :=
  f_X4_known_43 (1 : Int32) A

noncomputable def f_X4_known (this : Nat) (A : AH) : Option (Int32 × AH) :=
  (gI 5 5 A (some this)).bind fun v1 =>
  if v1 = (1 : Int32) then
    (rcv 5 A (some this)).bind fun k16 =>
    (f_X4_spotAt k16 A).bind fun v16 =>
    (pI 5 7 A (some this) v16).bind fun A19 =>
    (gI 5 7 A19 (some this)).bind fun v23 =>
    if v23 = (-1 : Int32) then
      (rcv 5 A19 (some this)).bind fun k32 =>
      (f_X4_bad k32 (5 : Int32) A19).bind fun q32 => match q32 with
      | (v32, A32) =>
      if v32 = 0 then
        f_X4_known_43 (0 : Int32) A32
      else
        f_X4_known_38 A32
    else
      f_X4_known_38 A19
  else
    (rcv 5 A (some this)).bind fun k10 =>
    (f_X4_bad k10 (1 : Int32) A).bind fun q10 => match q10 with
    | (v10, A10) =>
    (ckZ v10).bind fun _ =>
    some (v10, A10)

/-! SlimeNetModel.pipeOf(II)I -/
noncomputable def f_X4_pipeOf_52 (this : Nat) (x1 : Int32) (x2 : Int32) (x3 : Int32) (A : AH) : Option ((Int32) ⊕ ((Int32) ⊕ (Unit))) :=
  some (.inl (x3 + (1 : Int32)))

noncomputable def f_X4_pipeOf_30 (this : Nat) (x1 : Int32) (x2 : Int32) (x3 : Int32) (A : AH) : Option ((Int32) ⊕ ((Int32) ⊕ (Unit))) :=
  (gR 5 36 A (some this)).bind fun v31 =>
  (aI 10 A v31 x3).bind fun v35 =>
  if v35 = x2 then
    (gR 5 37 A (some this)).bind fun v41 =>
    (aI 10 A v41 x3).bind fun v45 =>
    if v45 = x1 then
      some (.inr (.inl x3))
    else
      f_X4_pipeOf_52 this x1 x2 x3 A
  else
    f_X4_pipeOf_52 this x1 x2 x3 A

noncomputable def f_X4_pipeOf_50 (x3 : Int32) (A : AH) : Option (Int32) :=
  some x3

noncomputable def s_X4_pipeOf_2 (this : Nat) (x1 : Int32) (x2 : Int32) (A : AH) (st : Int32) : Option ((Int32) ⊕ ((Int32) ⊕ (Unit))) := match st with
  | x3 =>
  (gI 5 20 A (some this)).bind fun v4 =>
  if v4 ≤ x3 then
    some (.inr (.inr ()))
  else
    (gR 5 36 A (some this)).bind fun v11 =>
    (aI 10 A v11 x3).bind fun v15 =>
    if v15 = x1 then
      (gR 5 37 A (some this)).bind fun v21 =>
      (aI 10 A v21 x3).bind fun v25 =>
      if v25 = x2 then
        some (.inr (.inl x3))
      else
        f_X4_pipeOf_30 this x1 x2 x3 A
    else
      f_X4_pipeOf_30 this x1 x2 x3 A

noncomputable def l_X4_pipeOf_2 (this : Nat) (x1 : Int32) (x2 : Int32) (x3 : Int32) (A : AH) : Option (Int32) :=
  (whl (s_X4_pipeOf_2 this x1 x2 A) x3).bind fun e => match e with
  | (.inl x3) =>
    (f_X4_pipeOf_50 x3 A)
  | (.inr ()) =>
    (some (-1 : Int32))

noncomputable def f_X4_pipeOf (this : Nat) (x1 : Int32) (x2 : Int32) (A : AH) : Option (Int32) :=
  l_X4_pipeOf_2 this x1 x2 (0 : Int32) A

/-! SlimeNetModel.isLength(I)Z -/
noncomputable def f_X4_isLength_23 (t0 : Int32) : Option (Int32) :=
  (ckZ t0).bind fun _ =>
  some t0

noncomputable def f_X4_isLength_22 : Option (Int32) :=
  f_X4_isLength_23 (0 : Int32)

noncomputable def f_X4_isLength (x0 : Int32) : Option (Int32) :=
  if x0 < (1 : Int32) then
    f_X4_isLength_22
  else
    if (12 : Int32) < x0 then
      f_X4_isLength_22
    else
      (rmI (12 : Int32) x0).bind fun v14 =>
      if v14 = 0 then
        f_X4_isLength_23 (1 : Int32)
      else
        f_X4_isLength_22

/-! SlimeNetModel.readPipe()Z -/
noncomputable def f_X4_readPipe_82 (this : Nat) (x1 : Int32) (x2 : Int32) (A : AH) : Option (Int32 × AH) :=
  if x2 = (-1 : Int32) then
    (rcv 5 A (some this)).bind fun k89 =>
    (f_X4_bad k89 (5 : Int32) A).bind fun q89 => match q89 with
    | (v89, A89) =>
    (ckZ v89).bind fun _ =>
    some (v89, A89)
  else
    (rcv 5 A (some this)).bind fun k94 =>
    (f_X4_scan k94 A).bind fun A94 =>
    (gI 5 5 A94 (some this)).bind fun v98 =>
    if v98 = (2 : Int32) then
      (gI 5 6 A94 (some this)).bind fun v112 =>
      (f_X4_isLength v112).bind fun v115 =>
      if v115 = 0 then
        (rcv 5 A94 (some this)).bind fun k123 =>
        (f_X4_bad k123 (2 : Int32) A94).bind fun q123 => match q123 with
        | (v123, A123) =>
        (ckZ v123).bind fun _ =>
        some (v123, A123)
      else
        (gR 5 36 A94 (some this)).bind fun v128 =>
        (gI 5 20 A94 (some this)).bind fun v132 =>
        (sI A94 v128 v132 x1).bind fun A136 =>
        (gR 5 37 A136 (some this)).bind fun v138 =>
        (gI 5 20 A136 (some this)).bind fun v142 =>
        (sI A136 v138 v142 x2).bind fun A146 =>
        (gR 5 38 A146 (some this)).bind fun v148 =>
        (gI 5 20 A146 (some this)).bind fun v152 =>
        (gI 5 6 A146 (some this)).bind fun v156 =>
        (sI A146 v148 v152 v156).bind fun A159 =>
        (gI 5 20 A159 (some this)).bind fun v162 =>
        (pI 5 20 A159 (some this) (v162 + (1 : Int32))).bind fun A167 =>
        (rcv 5 A167 (some this)).bind fun k171 =>
        (f_X4_scan k171 A167).bind fun A171 =>
        some ((1 : Int32), A171)
    else
      (rcv 5 A94 (some this)).bind fun k107 =>
      (f_X4_bad k107 (1 : Int32) A94).bind fun q107 => match q107 with
      | (v107, A107) =>
      (ckZ v107).bind fun _ =>
      some (v107, A107)

noncomputable def f_X4_readPipe_76 (this : Nat) (A : AH) : Option (Int32 × AH) :=
  (rcv 5 A (some this)).bind fun k78 =>
  (f_X4_bad k78 (3 : Int32) A).bind fun q78 => match q78 with
  | (v78, A78) =>
  (ckZ v78).bind fun _ =>
  some (v78, A78)

noncomputable def f_X4_readPipe (this : Nat) (A : AH) : Option (Int32 × AH) :=
  (gI 5 20 A (some this)).bind fun v1 =>
  if v1 = (10 : Int32) then
    (rcv 5 A (some this)).bind fun k11 =>
    (f_X4_bad k11 (4 : Int32) A).bind fun q11 => match q11 with
    | (v11, A11) =>
    (ckZ v11).bind fun _ =>
    some (v11, A11)
  else
    (rcv 5 A (some this)).bind fun k16 =>
    (f_X4_scan k16 A).bind fun A16 =>
    (rcv 5 A16 (some this)).bind fun k20 =>
    (f_X4_known k20 A16).bind fun q20 => match q20 with
    | (v20, A20) =>
    if v20 = 0 then
      some ((0 : Int32), A20)
    else
      (gI 5 7 A20 (some this)).bind fun v29 =>
      (rcv 5 A20 (some this)).bind fun k34 =>
      (f_X4_scan k34 A20).bind fun A34 =>
      (gI 5 5 A34 (some this)).bind fun v38 =>
      if v38 = (1 : Int32) then
        (rcv 5 A34 (some this)).bind fun k52 =>
        (f_X4_spotAt k52 A34).bind fun v52 =>
        if v52 = (-1 : Int32) then
          f_X4_readPipe_82 this v29 v52 A34
        else
          if v29 = v52 then
            f_X4_readPipe_76 this A34
          else
            (rcv 5 A34 (some this)).bind fun k69 =>
            (f_X4_pipeOf k69 v29 v52 A34).bind fun v69 =>
            if v69 = (-1 : Int32) then
              f_X4_readPipe_82 this v29 v52 A34
            else
              f_X4_readPipe_76 this A34
      else
        (rcv 5 A34 (some this)).bind fun k47 =>
        (f_X4_bad k47 (1 : Int32) A34).bind fun q47 => match q47 with
        | (v47, A47) =>
        (ckZ v47).bind fun _ =>
        some (v47, A47)

/-! SlimeNetModel.readFood()Z -/
noncomputable def s_X4_readFood_25 (this : Nat) (x1 : Int32) (A : AH) (st : Int32) : Option ((Int32) ⊕ ((Unit) ⊕ (Unit))) := match st with
  | x2 =>
  (gI 5 21 A (some this)).bind fun v27 =>
  if v27 ≤ x2 then
    some (.inr (.inr ()))
  else
    (gR 5 39 A (some this)).bind fun v34 =>
    (aI 10 A v34 x2).bind fun v38 =>
    if v38 = x1 then
      some (.inr (.inl ()))
    else
      some (.inl (x2 + (1 : Int32)))

noncomputable def l_X4_readFood_25 (this : Nat) (x1 : Int32) (x2 : Int32) (A : AH) : Option (Int32 × AH) :=
  (whl (s_X4_readFood_25 this x1 A) x2).bind fun e => match e with
  | (.inl ()) =>
    ((rcv 5 A (some this)).bind fun k45 =>
      (f_X4_bad k45 (3 : Int32) A).bind fun q45 => match q45 with
      | (v45, A45) =>
      (ckZ v45).bind fun _ =>
      some (v45, A45))
  | (.inr ()) =>
    (if x1 = (-1 : Int32) then
        (rcv 5 A (some this)).bind fun k62 =>
        (f_X4_bad k62 (5 : Int32) A).bind fun q62 => match q62 with
        | (v62, A62) =>
        (ckZ v62).bind fun _ =>
        some (v62, A62)
      else
        (gR 5 39 A (some this)).bind fun v67 =>
        (gI 5 21 A (some this)).bind fun v71 =>
        (sI A v67 v71 x1).bind fun A75 =>
        (gI 5 21 A75 (some this)).bind fun v78 =>
        (pI 5 21 A75 (some this) (v78 + (1 : Int32))).bind fun A83 =>
        (rcv 5 A83 (some this)).bind fun k87 =>
        (f_X4_scan k87 A83).bind fun A87 =>
        some ((1 : Int32), A87))

noncomputable def f_X4_readFood (this : Nat) (A : AH) : Option (Int32 × AH) :=
  (rcv 5 A (some this)).bind fun k1 =>
  (f_X4_scan k1 A).bind fun A1 =>
  (gI 5 5 A1 (some this)).bind fun v5 =>
  if v5 = (1 : Int32) then
    (rcv 5 A1 (some this)).bind fun k19 =>
    (f_X4_spotAt k19 A1).bind fun v19 =>
    l_X4_readFood_25 this v19 (0 : Int32) A1
  else
    (rcv 5 A1 (some this)).bind fun k14 =>
    (f_X4_bad k14 (1 : Int32) A1).bind fun q14 => match q14 with
    | (v14, A14) =>
    (ckZ v14).bind fun _ =>
    some (v14, A14)

/-! SlimeNetModel.readSalt()Z -/
noncomputable def f_X4_readSalt_80 (this : Nat) (x3 : Int32) (A : AH) : Option (Int32 × AH) :=
  if x3 = (-1 : Int32) then
    (rcv 5 A (some this)).bind fun k87 =>
    (f_X4_bad k87 (5 : Int32) A).bind fun q87 => match q87 with
    | (v87, A87) =>
    (ckZ v87).bind fun _ =>
    some (v87, A87)
  else
    (gI 5 26 A (some this)).bind fun v93 =>
    (pI 5 26 A (some this) (v93 ||| ((1 : Int32) <<< (x3 &&& 31)))).bind fun A100 =>
    (rcv 5 A100 (some this)).bind fun k104 =>
    (f_X4_scan k104 A100).bind fun A104 =>
    some ((1 : Int32), A104)

noncomputable def f_X4_readSalt_56 (this : Nat) (t0 : Int32) (A : AH) : Option (Int32 × AH) :=
  if t0 = (-1 : Int32) then
    f_X4_readSalt_80 this t0 A
  else
    (gI 5 26 A (some this)).bind fun v63 =>
    if ((v63 >>> (t0 &&& 31)) &&& (1 : Int32)) = (1 : Int32) then
      (rcv 5 A (some this)).bind fun k76 =>
      (f_X4_bad k76 (3 : Int32) A).bind fun q76 => match q76 with
      | (v76, A76) =>
      (ckZ v76).bind fun _ =>
      some (v76, A76)
    else
      f_X4_readSalt_80 this t0 A

noncomputable def f_X4_readSalt (this : Nat) (A : AH) : Option (Int32 × AH) :=
  (rcv 5 A (some this)).bind fun k1 =>
  (f_X4_scan k1 A).bind fun A1 =>
  (rcv 5 A1 (some this)).bind fun k5 =>
  (f_X4_known k5 A1).bind fun q5 => match q5 with
  | (v5, A5) =>
  if v5 = 0 then
    some ((0 : Int32), A5)
  else
    (gI 5 7 A5 (some this)).bind fun v14 =>
    (rcv 5 A5 (some this)).bind fun k19 =>
    (f_X4_scan k19 A5).bind fun A19 =>
    (gI 5 5 A19 (some this)).bind fun v23 =>
    if v23 = (1 : Int32) then
      (rcv 5 A19 (some this)).bind fun k37 =>
      (f_X4_spotAt k37 A19).bind fun v37 =>
      if v37 = (-1 : Int32) then
        f_X4_readSalt_56 this (-1 : Int32) A19
      else
        (rcv 5 A19 (some this)).bind fun k53 =>
        (f_X4_pipeOf k53 v14 v37 A19).bind fun v53 =>
        f_X4_readSalt_56 this v53 A19
    else
      (rcv 5 A19 (some this)).bind fun k32 =>
      (f_X4_bad k32 (1 : Int32) A19).bind fun q32 => match q32 with
      | (v32, A32) =>
      (ckZ v32).bind fun _ =>
      some (v32, A32)

/-! SlimeNetModel.number(II)Z -/
noncomputable def f_X4_number (this : Nat) (x1 : Int32) (x2 : Int32) (A : AH) : Option (Int32 × AH) :=
  (gI 5 5 A (some this)).bind fun v1 =>
  if v1 = (2 : Int32) then
    (gI 5 6 A (some this)).bind fun v15 =>
    (f_X4_in (Int32.toInt64 v15) (Int32.toInt64 x1) (Int32.toInt64 x2)).bind fun v23 =>
    if v23 = 0 then
      (rcv 5 A (some this)).bind fun k31 =>
      (f_X4_bad k31 (2 : Int32) A).bind fun q31 => match q31 with
      | (v31, A31) =>
      (ckZ v31).bind fun _ =>
      some (v31, A31)
    else
      (gI 5 6 A (some this)).bind fun v37 =>
      (pI 5 7 A (some this) v37).bind fun A40 =>
      (rcv 5 A40 (some this)).bind fun k44 =>
      (f_X4_scan k44 A40).bind fun A44 =>
      some ((1 : Int32), A44)
  else
    (rcv 5 A (some this)).bind fun k10 =>
    (f_X4_bad k10 (1 : Int32) A).bind fun q10 => match q10 with
    | (v10, A10) =>
    (ckZ v10).bind fun _ =>
    some (v10, A10)

/-! SlimeNetModel.readSmall()Z -/
noncomputable def f_X4_readSmall_191 (A : AH) : Option (Int32 × AH) :=
  some ((1 : Int32), A)

noncomputable def f_X4_readSmall_78 (this : Nat) (x1 : Int32) (x2 : Int32) (A : AH) : Option (Int32 × AH) :=
  (rcv 5 A (some this)).bind fun k79 =>
  (f_X4_scan k79 A).bind fun A79 =>
  if x1 = 0 then
    if x2 = 0 then
      (pZ 5 30 A79 (some this) (1 : Int32)).bind fun A168 =>
      (rcv 5 A168 (some this)).bind fun k175 =>
      (f_X4_number k175 (1 : Int32) (9 : Int32) A168).bind fun q175 => match q175 with
      | (v175, A175) =>
      if v175 = 0 then
        some ((0 : Int32), A175)
      else
        (gI 5 7 A175 (some this)).bind fun v185 =>
        (pI 5 25 A175 (some this) v185).bind fun A188 =>
        f_X4_readSmall_191 A188
    else
      (pZ 5 29 A79 (some this) (1 : Int32)).bind fun A140 =>
      (rcv 5 A140 (some this)).bind fun k147 =>
      (f_X4_number k147 (1 : Int32) (9 : Int32) A140).bind fun q147 => match q147 with
      | (v147, A147) =>
      if v147 = 0 then
        some ((0 : Int32), A147)
      else
        (gI 5 7 A147 (some this)).bind fun v157 =>
        (pI 5 24 A147 (some this) v157).bind fun A160 =>
        f_X4_readSmall_191 A160
  else
    (pZ 5 28 A79 (some this) (1 : Int32)).bind fun A88 =>
    (rcv 5 A88 (some this)).bind fun k95 =>
    (f_X4_number k95 (0 : Int32) (20 : Int32) A88).bind fun q95 => match q95 with
    | (v95, A95) =>
    if v95 = 0 then
      some ((0 : Int32), A95)
    else
      (gI 5 7 A95 (some this)).bind fun v105 =>
      (pI 5 22 A95 (some this) v105).bind fun A108 =>
      (rcv 5 A108 (some this)).bind fun k115 =>
      (f_X4_number k115 (0 : Int32) (20 : Int32) A108).bind fun q115 => match q115 with
      | (v115, A115) =>
      if v115 = 0 then
        some ((0 : Int32), A115)
      else
        (gI 5 7 A115 (some this)).bind fun v125 =>
        (pI 5 23 A115 (some this) v125).bind fun A128 =>
        f_X4_readSmall_191 A128

noncomputable def f_X4_readSmall_72 (this : Nat) (A : AH) : Option (Int32 × AH) :=
  (rcv 5 A (some this)).bind fun k74 =>
  (f_X4_bad k74 (3 : Int32) A).bind fun q74 => match q74 with
  | (v74, A74) =>
  (ckZ v74).bind fun _ =>
  some (v74, A74)

noncomputable def f_X4_readSmall_37 (this : Nat) (x1 : Int32) (x2 : Int32) (A : AH) : Option (Int32 × AH) :=
  if x1 = 0 then
    if x2 = 0 then
      (gI 5 30 A (some this)).bind fun v66 =>
      if v66 = 0 then
        f_X4_readSmall_78 this x1 x2 A
      else
        f_X4_readSmall_72 this A
    else
      (gI 5 29 A (some this)).bind fun v56 =>
      if v56 = 0 then
        f_X4_readSmall_78 this x1 x2 A
      else
        f_X4_readSmall_72 this A
  else
    (gI 5 28 A (some this)).bind fun v42 =>
    if v42 = 0 then
      f_X4_readSmall_78 this x1 x2 A
    else
      f_X4_readSmall_72 this A

noncomputable def f_X4_readSmall (this : Nat) (A : AH) : Option (Int32 × AH) :=
  (rcv 5 A (some this)).bind fun k3 =>
  (f_X4_is k3 (some 6) A).bind fun v3 =>
  (rcv 5 A (some this)).bind fun k10 =>
  (f_X4_is k10 (some 7) A).bind fun v10 =>
  if v3 = 0 then
    if v10 = 0 then
      (rcv 5 A (some this)).bind fun k25 =>
      (f_X4_is k25 (some 8) A).bind fun v25 =>
      if v25 = 0 then
        (rcv 5 A (some this)).bind fun k33 =>
        (f_X4_bad k33 (1 : Int32) A).bind fun q33 => match q33 with
        | (v33, A33) =>
        (ckZ v33).bind fun _ =>
        some (v33, A33)
      else
        f_X4_readSmall_37 this v3 v10 A
    else
      f_X4_readSmall_37 this v3 v10 A
  else
    f_X4_readSmall_37 this v3 v10 A

/-! SlimeNetModel.readPlate()Z -/
noncomputable def f_X4_readPlate_135 (this : Nat) (t0 : Int32) (A : AH) : Option ((AH) ⊕ ((AH) ⊕ (AH) ⊕ (AH))) :=
  if t0 = 0 then
    some (.inr (.inl A))
  else
    (gI 5 5 A (some this)).bind fun v143 =>
    if v143 = (3 : Int32) then
      (rcv 5 A (some this)).bind fun k157 =>
      (f_X4_scan k157 A).bind fun A157 =>
      (gI 5 27 A157 (some this)).bind fun v162 =>
      (pI 5 27 A157 (some this) (v162 + (1 : Int32))).bind fun A167 =>
      some (.inl A167)
    else
      some (.inr (.inr (.inl A)))

noncomputable def s_X4_readPlate_60 (this : Nat) (st : AH) : Option ((AH) ⊕ ((AH) ⊕ (AH) ⊕ (AH))) := match st with
  | A =>
  (gI 5 5 A (some this)).bind fun v61 =>
  if v61 = 0 then
    some (.inr (.inr (.inr A)))
  else
    (rcv 5 A (some this)).bind fun k70 =>
    (f_X4_is k70 (some 2) A).bind fun v70 =>
    if v70 = 0 then
      (rcv 5 A (some this)).bind fun k86 =>
      (f_X4_is k86 (some 3) A).bind fun v86 =>
      if v86 = 0 then
        (rcv 5 A (some this)).bind fun k102 =>
        (f_X4_is k102 (some 4) A).bind fun v102 =>
        if v102 = 0 then
          (rcv 5 A (some this)).bind fun k118 =>
          (f_X4_is k118 (some 5) A).bind fun v118 =>
          if v118 = 0 then
            (rcv 5 A (some this)).bind fun k132 =>
            (f_X4_readSmall k132 A).bind fun q132 => match q132 with
            | (v132, A132) =>
            f_X4_readPlate_135 this v132 A132
          else
            (rcv 5 A (some this)).bind fun k125 =>
            (f_X4_readSalt k125 A).bind fun q125 => match q125 with
            | (v125, A125) =>
            f_X4_readPlate_135 this v125 A125
        else
          (rcv 5 A (some this)).bind fun k109 =>
          (f_X4_readFood k109 A).bind fun q109 => match q109 with
          | (v109, A109) =>
          f_X4_readPlate_135 this v109 A109
      else
        (rcv 5 A (some this)).bind fun k93 =>
        (f_X4_readPipe k93 A).bind fun q93 => match q93 with
        | (v93, A93) =>
        f_X4_readPlate_135 this v93 A93
    else
      (rcv 5 A (some this)).bind fun k77 =>
      (f_X4_readSpot k77 A).bind fun q77 => match q77 with
      | (v77, A77) =>
      f_X4_readPlate_135 this v77 A77

noncomputable def l_X4_readPlate_60 (this : Nat) (A : AH) : Option (Int32 × AH) :=
  (whl (s_X4_readPlate_60 this) A).bind fun e => match e with
  | (.inl A) =>
    (some ((0 : Int32), A))
  | (.inr (.inl A)) =>
    ((rcv 5 A (some this)).bind fun k152 =>
      (f_X4_bad k152 (1 : Int32) A).bind fun q152 => match q152 with
      | (v152, A152) =>
      (ckZ v152).bind fun _ =>
      some (v152, A152))
  | (.inr (.inr A)) =>
    (some ((1 : Int32), A))

noncomputable def f_X4_readPlate (this : Nat) (A : AH) : Option (Int32 × AH) :=
  (pI 5 19 A (some this) (0 : Int32)).bind fun A2 =>
  (pI 5 20 A2 (some this) (0 : Int32)).bind fun A7 =>
  (pI 5 21 A7 (some this) (0 : Int32)).bind fun A12 =>
  (pI 5 26 A12 (some this) (0 : Int32)).bind fun A17 =>
  (pI 5 22 A17 (some this) (5 : Int32)).bind fun A22 =>
  (pI 5 23 A22 (some this) (2 : Int32)).bind fun A27 =>
  (pI 5 24 A27 (some this) (3 : Int32)).bind fun A32 =>
  (pI 5 25 A32 (some this) (5 : Int32)).bind fun A37 =>
  (pZ 5 28 A37 (some this) (0 : Int32)).bind fun A42 =>
  (pZ 5 29 A42 (some this) (0 : Int32)).bind fun A47 =>
  (pZ 5 30 A47 (some this) (0 : Int32)).bind fun A52 =>
  (pI 5 27 A52 (some this) (0 : Int32)).bind fun A57 =>
  l_X4_readPlate_60 this A57

/-! SlimeNetModel.begin()V -/
noncomputable def s_X4_begin_7 (this : Nat) (st : Int32 × AH) : Option ((Int32 × AH) ⊕ (AH)) := match st with
  | (x1, A) =>
  (gI 5 11 A (some this)).bind fun v9 =>
  if v9 ≤ x1 then
    some (.inr A)
  else
    (gR 5 46 A (some this)).bind fun v16 =>
    (gI 5 15 A (some this)).bind fun v21 =>
    (sI A v16 x1 v21).bind fun A24 =>
    (gR 5 47 A24 (some this)).bind fun v26 =>
    (sI A24 v26 x1 (0 : Int32)).bind fun A31 =>
    some (.inl ((x1 + (1 : Int32)), A31))

noncomputable def l_X4_begin_7 (this : Nat) (x1 : Int32) (A : AH) : Option (AH) :=
  (whl (s_X4_begin_7 this) (x1, A)).bind fun e => match e with
  | A =>
    some A

noncomputable def f_X4_begin (this : Nat) (A : AH) : Option (AH) :=
  (pI 5 48 A (some this) (0 : Int32)).bind fun A2 =>
  l_X4_begin_7 this (0 : Int32) A2

/-! SlimeNetModel.plate()I -/
noncomputable def s_X4_plate_213 (this : Nat) (st : Int32 × AH) : Option ((Int32 × AH) ⊕ (AH)) := match st with
  | (x1, A) =>
  if (4 : Int32) ≤ x1 then
    some (.inr A)
  else
    (gR 5 55 A (some this)).bind fun v219 =>
    (sZ A v219 x1 (0 : Int32)).bind fun A224 =>
    some (.inl ((x1 + (1 : Int32)), A224))

noncomputable def l_X4_plate_213 (this : Nat) (x1 : Int32) (A : AH) : Option (Int32 × AH) :=
  (whl (s_X4_plate_213 this) (x1, A)).bind fun e => match e with
  | A =>
    (pI 5 63 A (some this) (0 : Int32)).bind fun A233 =>
    (pI 5 64 A233 (some this) (0 : Int32)).bind fun A238 =>
    (pI 5 65 A238 (some this) (0 : Int32)).bind fun A243 =>
    (gI 5 18 A243 (some this)).bind fun v247 =>
    some (v247, A243)

noncomputable def s_X4_plate_167 (this : Nat) (st : Int32 × AH) : Option ((Int32 × AH) ⊕ (AH)) := match st with
  | (x1, A) =>
  (gI 5 12 A (some this)).bind fun v169 =>
  if v169 ≤ x1 then
    some (.inr A)
  else
    (gR 5 35 A (some this)).bind fun v176 =>
    (gR 5 39 A (some this)).bind fun v181 =>
    (aI 10 A v181 x1).bind fun v185 =>
    (sI A v176 x1 v185).bind fun A186 =>
    some (.inl ((x1 + (1 : Int32)), A186))

noncomputable def l_X4_plate_167 (this : Nat) (x1 : Int32) (A : AH) : Option (Int32 × AH) :=
  (whl (s_X4_plate_167 this) (x1, A)).bind fun e => match e with
  | A =>
    (rcv 5 A (some this)).bind fun k194 =>
    (f_X4_findTrees k194 A).bind fun A194 =>
    (rcv 5 A194 (some this)).bind fun k198 =>
    (f_X4_begin k198 A194).bind fun A198 =>
    (pI 5 51 A198 (some this) (-1 : Int32)).bind fun A203 =>
    (pZ 5 62 A203 (some this) (0 : Int32)).bind fun A208 =>
    l_X4_plate_213 this (0 : Int32) A208

noncomputable def s_X4_plate_115 (this : Nat) (st : Int32 × AH) : Option ((Int32 × AH) ⊕ (AH)) := match st with
  | (x1, A) =>
  (gI 5 11 A (some this)).bind fun v117 =>
  if v117 ≤ x1 then
    some (.inr A)
  else
    (gR 5 32 A (some this)).bind fun v124 =>
    (gR 5 36 A (some this)).bind fun v129 =>
    (aI 10 A v129 x1).bind fun v133 =>
    (sI A v124 x1 v133).bind fun A134 =>
    (gR 5 33 A134 (some this)).bind fun v136 =>
    (gR 5 37 A134 (some this)).bind fun v141 =>
    (aI 10 A134 v141 x1).bind fun v145 =>
    (sI A134 v136 x1 v145).bind fun A146 =>
    (gR 5 34 A146 (some this)).bind fun v148 =>
    (gR 5 38 A146 (some this)).bind fun v153 =>
    (aI 10 A146 v153 x1).bind fun v157 =>
    (sI A146 v148 x1 v157).bind fun A158 =>
    some (.inl ((x1 + (1 : Int32)), A158))

noncomputable def l_X4_plate_115 (this : Nat) (x1 : Int32) (A : AH) : Option (Int32 × AH) :=
  (whl (s_X4_plate_115 this) (x1, A)).bind fun e => match e with
  | A =>
    l_X4_plate_167 this (0 : Int32) A

noncomputable def f_X4_plate (this : Nat) (A : AH) : Option (Int32 × AH) :=
  (gI 5 1 A (some this)).bind fun v2 =>
  (pI 5 2 A (some this) v2).bind fun A5 =>
  (pI 5 1 A5 (some this) (0 : Int32)).bind fun A10 =>
  (pI 5 4 A10 (some this) (0 : Int32)).bind fun A15 =>
  (pI 5 8 A15 (some this) (0 : Int32)).bind fun A20 =>
  (pI 5 9 A20 (some this) (-1 : Int32)).bind fun A25 =>
  (rcv 5 A25 (some this)).bind fun k29 =>
  (f_X4_scan k29 A25).bind fun A29 =>
  (rcv 5 A29 (some this)).bind fun k33 =>
  (f_X4_readPlate k33 A29).bind fun q33 => match q33 with
  | (v33, A33) =>
  if v33 = 0 then
    some ((-1 : Int32), A33)
  else
    (gI 5 19 A33 (some this)).bind fun v43 =>
    (pI 5 10 A33 (some this) v43).bind fun A46 =>
    (gI 5 20 A46 (some this)).bind fun v51 =>
    (pI 5 11 A46 (some this) v51).bind fun A54 =>
    (gI 5 21 A54 (some this)).bind fun v59 =>
    (pI 5 12 A54 (some this) v59).bind fun A62 =>
    (gI 5 26 A62 (some this)).bind fun v67 =>
    (pI 5 17 A62 (some this) v67).bind fun A70 =>
    (gI 5 22 A70 (some this)).bind fun v75 =>
    (pI 5 13 A70 (some this) v75).bind fun A78 =>
    (gI 5 23 A78 (some this)).bind fun v83 =>
    (pI 5 14 A78 (some this) v83).bind fun A86 =>
    (gI 5 24 A86 (some this)).bind fun v91 =>
    (pI 5 15 A86 (some this) v91).bind fun A94 =>
    (gI 5 25 A94 (some this)).bind fun v99 =>
    (pI 5 16 A94 (some this) v99).bind fun A102 =>
    (gI 5 27 A102 (some this)).bind fun v107 =>
    (pI 5 18 A102 (some this) v107).bind fun A110 =>
    l_X4_plate_115 this (0 : Int32) A110

/-! SlimeNet.fault(I)I -/
noncomputable def f_X0_fault_24 (t0 : Int32) (A : AH) : Option (Int32) :=
  some t0

noncomputable def f_X0_fault (this : Nat) (x1 : Int32) (A : AH) : Option (Int32) :=
  if x1 = 0 then
    (gI 1 3 A (some this)).bind fun v5 =>
    f_X0_fault_24 v5 A
  else
    if x1 = (1 : Int32) then
      (gI 1 4 A (some this)).bind fun v17 =>
      f_X0_fault_24 v17 A
    else
      f_X0_fault_24 (-1 : Int32) A

/-! SlimeNetModel.fault(I)I -/
noncomputable def f_X4_fault_24 (t0 : Int32) (A : AH) : Option (Int32) :=
  some t0

noncomputable def f_X4_fault (this : Nat) (x1 : Int32) (A : AH) : Option (Int32) :=
  if x1 = 0 then
    (gI 5 8 A (some this)).bind fun v5 =>
    f_X4_fault_24 v5 A
  else
    if x1 = (1 : Int32) then
      (gI 5 9 A (some this)).bind fun v17 =>
      f_X4_fault_24 v17 A
    else
      f_X4_fault_24 (-1 : Int32) A

/-! SlimeNet$Plate.pairs()I -/
noncomputable def f_X2_pairs (this : Nat) (A : AH) : Option (Int32) :=
  (gI 3 5 A (some this)).bind fun v1 =>
  (gI 3 5 A (some this)).bind fun v5 =>
  (dvI (v1 * (v5 - (1 : Int32))) (2 : Int32)).bind fun v12 =>
  some v12

/-! SlimeNet.salted()I -/
noncomputable def f_X0_salted_46 (this : Nat) (x2 : Int32) (t0 : Int32) (t1 : Int32) (A : AH) : Option ((Int32 × Int32) ⊕ (Int32)) :=
  some (.inl ((t1 ||| t0), (x2 + (1 : Int32))))

noncomputable def s_X0_salted_4 (this : Nat) (A : AH) (st : Int32 × Int32) : Option ((Int32 × Int32) ⊕ (Int32)) := match st with
  | (x1, x2) =>
  (gR 1 5 A (some this)).bind fun v6 =>
  (gR 3 1 A v6).bind fun v9 =>
  (rcv 8 A v9).bind fun k12 =>
  (f_J4_size k12 A).bind fun v12 =>
  if v12 ≤ x2 then
    some (.inr x1)
  else
    (gR 1 5 A (some this)).bind fun v20 =>
    (gR 3 1 A v20).bind fun v23 =>
    (rcv 8 A v23).bind fun k27 =>
    (f_J4_get k27 x2 A).bind fun v27 =>
    (cst 7 A v27).bind fun _ =>
    (gI 7 4 A v27).bind fun v33 =>
    if v33 = 0 then
      f_X0_salted_46 this x2 (0 : Int32) x1 A
    else
      f_X0_salted_46 this x2 ((1 : Int32) <<< (x2 &&& 31)) x1 A

noncomputable def l_X0_salted_4 (this : Nat) (x1 : Int32) (x2 : Int32) (A : AH) : Option (Int32) :=
  (whl (s_X0_salted_4 this A) (x1, x2)).bind fun e => match e with
  | x1 =>
    some x1

noncomputable def f_X0_salted (this : Nat) (A : AH) : Option (Int32) :=
  l_X0_salted_4 this (0 : Int32) (0 : Int32) A

/-! SlimeNet.isPipe(I)Z -/
noncomputable def f_X0_isPipe (this : Nat) (x1 : Int32) (A : AH) : Option (Int32) :=
  (gR 1 5 A (some this)).bind fun v3 =>
  (gR 3 1 A v3).bind fun v6 =>
  (rcv 8 A v6).bind fun k9 =>
  (f_J4_size k9 A).bind fun v9 =>
  (f_X0_in x1 (0 : Int32) (v9 - (1 : Int32))).bind fun v14 =>
  (ckZ v14).bind fun _ =>
  some v14

/-! SlimeNet.told(I)I -/
noncomputable def f_X0_told_235 (t0 : Int32) (A : AH) : Option (Int32) :=
  some t0

noncomputable def f_X0_told (this : Nat) (x1 : Int32) (A : AH) : Option (Int32) :=
  if x1.toInt < 0 ∨ 7 < x1.toInt then
    (rcv 1 A (some this)).bind fun k117 =>
    (f_X0_isPipe k117 (x1 - (10 : Int32)) A).bind fun v117 =>
    if v117 = 0 then
      (rcv 1 A (some this)).bind fun k149 =>
      (f_X0_isPipe k149 (x1 - (20 : Int32)) A).bind fun v149 =>
      if v149 = 0 then
        (gR 1 5 A (some this)).bind fun v206 =>
        (gI 3 5 A v206).bind fun v209 =>
        (f_X0_in x1 (30 : Int32) ((29 : Int32) + v209)).bind fun v213 =>
        if v213 = 0 then
          f_X0_told_235 (-1 : Int32) A
        else
          (gR 1 5 A (some this)).bind fun v220 =>
          (gR 3 2 A v220).bind fun v223 =>
          (aI 10 A v223 (x1 - (30 : Int32))).bind fun v230 =>
          f_X0_told_235 v230 A
      else
        (gR 1 5 A (some this)).bind fun v158 =>
        (gR 3 1 A v158).bind fun v161 =>
        (rcv 8 A v161).bind fun k168 =>
        (f_J4_get k168 (x1 - (20 : Int32)) A).bind fun v168 =>
        (cst 7 A v168).bind fun _ =>
        (gI 7 1 A v168).bind fun v174 =>
        (gR 1 5 A (some this)).bind fun v179 =>
        (gR 3 1 A v179).bind fun v182 =>
        (rcv 8 A v182).bind fun k189 =>
        (f_J4_get k189 (x1 - (20 : Int32)) A).bind fun v189 =>
        (cst 7 A v189).bind fun _ =>
        (gI 7 2 A v189).bind fun v195 =>
        some (((8 : Int32) * v174) + v195)
    else
      (gR 1 5 A (some this)).bind fun v124 =>
      (gR 3 1 A v124).bind fun v127 =>
      (rcv 8 A v127).bind fun k134 =>
      (f_J4_get k134 (x1 - (10 : Int32)) A).bind fun v134 =>
      (cst 7 A v134).bind fun _ =>
      (gI 7 3 A v134).bind fun v140 =>
      some v140
  else if x1 = (0 : Int32) then
    (gR 1 5 A (some this)).bind fun v49 =>
    (gI 3 4 A v49).bind fun v52 =>
    some v52
  else if x1 = (1 : Int32) then
    (gR 1 5 A (some this)).bind fun v57 =>
    (gR 3 1 A v57).bind fun v60 =>
    (rcv 8 A v60).bind fun k63 =>
    (f_J4_size k63 A).bind fun v63 =>
    some v63
  else if x1 = (2 : Int32) then
    (gR 1 5 A (some this)).bind fun v68 =>
    (gI 3 5 A v68).bind fun v71 =>
    some v71
  else if x1 = (3 : Int32) then
    (gR 1 6 A (some this)).bind fun v76 =>
    (gI 4 4 A v76).bind fun v79 =>
    some v79
  else if x1 = (4 : Int32) then
    (gR 1 6 A (some this)).bind fun v84 =>
    (gI 4 5 A v84).bind fun v87 =>
    some v87
  else if x1 = (5 : Int32) then
    (gR 1 5 A (some this)).bind fun v92 =>
    (gI 3 9 A v92).bind fun v95 =>
    some v95
  else if x1 = (6 : Int32) then
    (gR 1 5 A (some this)).bind fun v100 =>
    (rcv 3 A v100).bind fun k103 =>
    (f_X2_pairs k103 A).bind fun v103 =>
    some v103
  else if x1 = (7 : Int32) then
    (rcv 1 A (some this)).bind fun k108 =>
    (f_X0_salted k108 A).bind fun v108 =>
    some v108
  else
    none

/-! SlimeNetModel.pairs()I -/
noncomputable def f_X4_pairs (this : Nat) (A : AH) : Option (Int32) :=
  (gI 5 12 A (some this)).bind fun v1 =>
  (gI 5 12 A (some this)).bind fun v5 =>
  (dvI (v1 * (v5 - (1 : Int32))) (2 : Int32)).bind fun v12 =>
  some v12

/-! SlimeNetModel.told(I)I -/
noncomputable def f_X4_told (this : Nat) (x1 : Int32) (A : AH) : Option (Int32) :=
  (gI 5 11 A (some this)).bind fun v9 =>
  (f_X4_in (Int32.toInt64 x1) (10 : Int64) ((9 : Int64) + (Int32.toInt64 v9))).bind fun v14 =>
  if v14 = 0 then
    (gI 5 11 A (some this)).bind fun v39 =>
    (f_X4_in (Int32.toInt64 x1) (20 : Int64) ((19 : Int64) + (Int32.toInt64 v39))).bind fun v44 =>
    if v44 = 0 then
      (gI 5 12 A (some this)).bind fun v82 =>
      (f_X4_in (Int32.toInt64 x1) (30 : Int64) ((29 : Int64) + (Int32.toInt64 v82))).bind fun v87 =>
      if v87 = 0 then
        if x1.toInt < 0 ∨ 7 < x1.toInt then
          some (-1 : Int32)
        else if x1 = (0 : Int32) then
          (gI 5 10 A (some this)).bind fun v153 =>
          some v153
        else if x1 = (1 : Int32) then
          (gI 5 11 A (some this)).bind fun v158 =>
          some v158
        else if x1 = (2 : Int32) then
          (gI 5 12 A (some this)).bind fun v163 =>
          some v163
        else if x1 = (3 : Int32) then
          (gI 5 13 A (some this)).bind fun v168 =>
          some v168
        else if x1 = (4 : Int32) then
          (gI 5 14 A (some this)).bind fun v173 =>
          some v173
        else if x1 = (5 : Int32) then
          (gI 5 16 A (some this)).bind fun v178 =>
          some v178
        else if x1 = (6 : Int32) then
          (rcv 5 A (some this)).bind fun k183 =>
          (f_X4_pairs k183 A).bind fun v183 =>
          some v183
        else if x1 = (7 : Int32) then
          (gI 5 17 A (some this)).bind fun v188 =>
          some v188
        else
          none
      else
        (gR 5 35 A (some this)).bind fun v94 =>
        (aI 10 A v94 (x1 - (30 : Int32))).bind fun v101 =>
        some v101
    else
      (gR 5 32 A (some this)).bind fun v53 =>
      (aI 10 A v53 (x1 - (20 : Int32))).bind fun v60 =>
      (gR 5 33 A (some this)).bind fun v63 =>
      (aI 10 A v63 (x1 - (20 : Int32))).bind fun v70 =>
      some (((8 : Int32) * v60) + v70)
  else
    (gR 5 34 A (some this)).bind fun v21 =>
    (aI 10 A v21 (x1 - (10 : Int32))).bind fun v28 =>
    some v28

/-! SlimeNet.width(I)I -/
noncomputable def f_X0_width_22 (t0 : Int32) (A : AH) : Option (Int32) :=
  some t0

noncomputable def f_X0_width (this : Nat) (x1 : Int32) (A : AH) : Option (Int32) :=
  (rcv 1 A (some this)).bind fun k2 =>
  (f_X0_isPipe k2 x1 A).bind fun v2 =>
  if v2 = 0 then
    f_X0_width_22 (-2 : Int32) A
  else
    (gR 1 6 A (some this)).bind fun v9 =>
    (gR 4 1 A v9).bind fun v12 =>
    (aI 10 A v12 x1).bind fun v16 =>
    f_X0_width_22 v16 A

/-! SlimeNetModel.isPipe(I)Z -/
noncomputable def f_X4_isPipe (this : Nat) (x1 : Int32) (A : AH) : Option (Int32) :=
  (gI 5 11 A (some this)).bind fun v4 =>
  (f_X4_in (Int32.toInt64 x1) (0 : Int64) ((Int32.toInt64 v4) - (1 : Int64))).bind fun v10 =>
  (ckZ v10).bind fun _ =>
  some v10

/-! SlimeNetModel.width(I)I -/
noncomputable def f_X4_width_19 (t0 : Int32) (A : AH) : Option (Int32) :=
  some t0

noncomputable def f_X4_width (this : Nat) (x1 : Int32) (A : AH) : Option (Int32) :=
  (rcv 5 A (some this)).bind fun k2 =>
  (f_X4_isPipe k2 x1 A).bind fun v2 =>
  if v2 = 0 then
    f_X4_width_19 (-2 : Int32) A
  else
    (gR 5 46 A (some this)).bind fun v9 =>
    (aI 10 A v9 x1).bind fun v13 =>
    f_X4_width_19 v13 A

/-! SlimeNet.learnt(I)I -/
noncomputable def f_X0_learnt_46 (t0 : Int32) (A : AH) : Option (Int32) :=
  some t0

noncomputable def f_X0_learnt (this : Nat) (x1 : Int32) (A : AH) : Option (Int32) :=
  (rcv 1 A (some this)).bind fun k2 =>
  (f_X0_isPipe k2 x1 A).bind fun v2 =>
  if v2 = 0 then
    f_X0_learnt_46 (-2 : Int32) A
  else
    (gR 1 5 A (some this)).bind fun v14 =>
    (gR 3 1 A v14).bind fun v17 =>
    (rcv 8 A v17).bind fun k21 =>
    (f_J4_get k21 x1 A).bind fun v21 =>
    (cst 7 A v21).bind fun _ =>
    (gI 7 4 A v21).bind fun v27 =>
    if v27 = 0 then
      f_X0_learnt_46 (-1 : Int32) A
    else
      (gR 1 6 A (some this)).bind fun v34 =>
      (gR 4 2 A v34).bind fun v37 =>
      (aI 10 A v37 x1).bind fun v41 =>
      f_X0_learnt_46 v41 A

/-! SlimeNetModel.learnt(I)I -/
noncomputable def f_X4_learnt_35 (t0 : Int32) (A : AH) : Option (Int32) :=
  some t0

noncomputable def f_X4_learnt (this : Nat) (x1 : Int32) (A : AH) : Option (Int32) :=
  (rcv 5 A (some this)).bind fun k2 =>
  (f_X4_isPipe k2 x1 A).bind fun v2 =>
  if v2 = 0 then
    f_X4_learnt_35 (-2 : Int32) A
  else
    (gI 5 17 A (some this)).bind fun v14 =>
    if ((v14 >>> (x1 &&& 31)) &&& (1 : Int32)) = (1 : Int32) then
      (gR 5 47 A (some this)).bind fun v26 =>
      (aI 10 A v26 x1).bind fun v30 =>
      f_X4_learnt_35 v30 A
    else
      f_X4_learnt_35 (-1 : Int32) A

/-! SlimeNet.set(II)I -/
noncomputable def f_X0_set_18 (A : AH) : Option (Int32 × AH) :=
  some ((-2 : Int32), A)

noncomputable def f_X0_set (this : Nat) (x1 : Int32) (x2 : Int32) (A : AH) : Option (Int32 × AH) :=
  (rcv 1 A (some this)).bind fun k2 =>
  (f_X0_isPipe k2 x1 A).bind fun v2 =>
  if v2 = 0 then
    f_X0_set_18 A
  else
    (f_X0_in x2 (0 : Int32) (9 : Int32)).bind fun v12 =>
    if v12 = 0 then
      f_X0_set_18 A
    else
      (gR 1 6 A (some this)).bind fun v22 =>
      (gR 4 1 A v22).bind fun v25 =>
      (aI 10 A v25 x1).bind fun v29 =>
      (gR 1 6 A (some this)).bind fun v32 =>
      (gR 4 1 A v32).bind fun v35 =>
      (sI A v35 x1 x2).bind fun A40 =>
      some (v29, A40)

/-! SlimeNetModel.set(II)I -/
noncomputable def f_X4_set_20 (A : AH) : Option (Int32 × AH) :=
  some ((-2 : Int32), A)

noncomputable def f_X4_set (this : Nat) (x1 : Int32) (x2 : Int32) (A : AH) : Option (Int32 × AH) :=
  (rcv 5 A (some this)).bind fun k2 =>
  (f_X4_isPipe k2 x1 A).bind fun v2 =>
  if v2 = 0 then
    f_X4_set_20 A
  else
    (f_X4_in (Int32.toInt64 x2) (0 : Int64) (9 : Int64)).bind fun v14 =>
    if v14 = 0 then
      f_X4_set_20 A
    else
      (gR 5 46 A (some this)).bind fun v24 =>
      (aI 10 A v24 x1).bind fun v28 =>
      (gR 5 46 A (some this)).bind fun v31 =>
      (sI A v31 x1 x2).bind fun A36 =>
      some (v28, A36)

/-! SlimeNet.law(II)I -/
noncomputable def f_X0_law_20 (A : AH) : Option (Int32 × AH) :=
  some ((-2 : Int32), A)

noncomputable def f_X0_law (this : Nat) (x1 : Int32) (x2 : Int32) (A : AH) : Option (Int32 × AH) :=
  (f_X0_in x1 (0 : Int32) (20 : Int32)).bind fun v4 =>
  if v4 = 0 then
    f_X0_law_20 A
  else
    (f_X0_in x2 (0 : Int32) (20 : Int32)).bind fun v14 =>
    if v14 = 0 then
      f_X0_law_20 A
    else
      (gR 1 6 A (some this)).bind fun v24 =>
      (pI 4 4 A v24 x1).bind fun A28 =>
      (gR 1 6 A28 (some this)).bind fun v32 =>
      (pI 4 5 A28 v32 x2).bind fun A36 =>
      some ((1 : Int32), A36)

/-! SlimeNetModel.law(II)I -/
noncomputable def f_X4_law_24 (A : AH) : Option (Int32 × AH) :=
  some ((-2 : Int32), A)

noncomputable def f_X4_law (this : Nat) (x1 : Int32) (x2 : Int32) (A : AH) : Option (Int32 × AH) :=
  (f_X4_in (Int32.toInt64 x1) (0 : Int64) (20 : Int64)).bind fun v6 =>
  if v6 = 0 then
    f_X4_law_24 A
  else
    (f_X4_in (Int32.toInt64 x2) (0 : Int64) (20 : Int64)).bind fun v18 =>
    if v18 = 0 then
      f_X4_law_24 A
    else
      (pI 5 13 A (some this) x1).bind fun A29 =>
      (pI 5 14 A29 (some this) x2).bind fun A34 =>
      some ((1 : Int32), A34)

/-! java/util/Arrays.fill([JJ)V -/
noncomputable def s_J12_fill_2_6 (x0 : Option Nat) (x1 : Int64) (x4 : Int32) (st : Int32 × AH) : Option ((Int32 × AH) ⊕ (AH)) := match st with
  | (x3, A) =>
  if x4 ≤ x3 then
    some (.inr A)
  else
    (sL A x0 x3 x1).bind fun A15 =>
    some (.inl ((x3 + (1 : Int32)), A15))

noncomputable def l_J12_fill_2_6 (x0 : Option Nat) (x1 : Int64) (x4 : Int32) (x3 : Int32) (A : AH) : Option (AH) :=
  (whl (s_J12_fill_2_6 x0 x1 x4) (x3, A)).bind fun e => match e with
  | A =>
    some A

noncomputable def f_J12_fill_2 (x0 : Option Nat) (x1 : Int64) (A : AH) : Option (AH) :=
  (al 13 A x0).bind fun v3 =>
  l_J12_fill_2_6 x0 x1 v3 (0 : Int32) A

/-! SlimeNet$Slime.own()I -/
noncomputable def f_X3_own_27 (this : Nat) (x2 : Int32) (t0 : Int32) (t1 : Int32) (A : AH) : Option ((Int32 × Int32) ⊕ (Int32)) :=
  some (.inl ((t1 ||| t0), (x2 + (1 : Int32))))

noncomputable def s_X3_own_4 (this : Nat) (A : AH) (st : Int32 × Int32) : Option ((Int32 × Int32) ⊕ (Int32)) := match st with
  | (x1, x2) =>
  if (10 : Int32) ≤ x2 then
    some (.inr x1)
  else
    (gR 4 1 A (some this)).bind fun v12 =>
    (aI 10 A v12 x2).bind fun v16 =>
    if v16 ≤ 0 then
      f_X3_own_27 this x2 (0 : Int32) x1 A
    else
      f_X3_own_27 this x2 ((1 : Int32) <<< (x2 &&& 31)) x1 A

noncomputable def l_X3_own_4 (this : Nat) (x1 : Int32) (x2 : Int32) (A : AH) : Option (Int32) :=
  (whl (s_X3_own_4 this A) (x1, x2)).bind fun e => match e with
  | x1 =>
    some x1

noncomputable def f_X3_own (this : Nat) (A : AH) : Option (Int32) :=
  l_X3_own_4 this (0 : Int32) (0 : Int32) A

/-! SlimeNet$Plate.joined(II)I -/
noncomputable def f_X2_joined_94 (this : Nat) (x1 : Int32) (x3 : Int32) (x4 : Int32) (x5 : Int32) (A : AH) : Option ((Int32 × Int32) ⊕ (Int32)) :=
  some (.inl (x3, (x5 + (1 : Int32))))

noncomputable def s_X2_joined_19 (this : Nat) (x1 : Int32) (x4 : Int32) (A : AH) (st : Int32 × Int32) : Option ((Int32 × Int32) ⊕ (Int32)) := match st with
  | (x3, x5) =>
  (gR 3 1 A (some this)).bind fun v22 =>
  (rcv 8 A v22).bind fun k25 =>
  (f_J4_size k25 A).bind fun v25 =>
  if v25 ≤ x5 then
    some (.inr x3)
  else
    (gR 3 1 A (some this)).bind fun v32 =>
    (rcv 8 A v32).bind fun k37 =>
    (f_J4_get k37 x5 A).bind fun v37 =>
    (cst 7 A v37).bind fun _ =>
    if ((x1 >>> (x5 &&& 31)) &&& (1 : Int32)) = (1 : Int32) then
      (gI 7 1 A v37).bind fun v58 =>
      (gI 7 2 A v37).bind fun v67 =>
      if ((x3 >>> (v58 &&& 31)) &&& (1 : Int32)) = ((x3 >>> (v67 &&& 31)) &&& (1 : Int32)) then
        f_X2_joined_94 this x1 x3 x4 x5 A
      else
        (gI 7 1 A v37).bind fun v80 =>
        (gI 7 2 A v37).bind fun v87 =>
        f_X2_joined_94 this x1 (x3 ||| (((1 : Int32) <<< (v80 &&& 31)) ||| ((1 : Int32) <<< (v87 &&& 31)))) x4 x5 A
    else
      f_X2_joined_94 this x1 x3 x4 x5 A

noncomputable def l_X2_joined_19 (this : Nat) (x1 : Int32) (x4 : Int32) (x3 : Int32) (x5 : Int32) (A : AH) : Option ((Int32 × Int32) ⊕ (Int32)) :=
  (whl (s_X2_joined_19 this x1 x4 A) (x3, x5)).bind fun e => match e with
  | x3 =>
    some (.inl (x3, x4))

noncomputable def s_X2_joined_7 (this : Nat) (x1 : Int32) (A : AH) (st : Int32 × Int32) : Option ((Int32 × Int32) ⊕ (Int32)) := match st with
  | (x3, x4) =>
  if x4 = x3 then
    some (.inr x3)
  else
    l_X2_joined_19 this x1 x3 x3 (0 : Int32) A

noncomputable def l_X2_joined_7 (this : Nat) (x1 : Int32) (x3 : Int32) (x4 : Int32) (A : AH) : Option (Int32) :=
  (whl (s_X2_joined_7 this x1 A) (x3, x4)).bind fun e => match e with
  | x3 =>
    some x3

noncomputable def f_X2_joined (this : Nat) (x1 : Int32) (x2 : Int32) (A : AH) : Option (Int32) :=
  l_X2_joined_7 this x1 ((1 : Int32) <<< (x2 &&& 31)) (0 : Int32) A

/-! SlimeNet$Slime.leads(LSlimeNet$Pipe;)J -/
noncomputable def f_X3_leads_53 (x1 : Option Nat) (t0 : Int32) (t1 : Int64) (A : AH) : Option (Int64) :=
  (gI 7 3 A x1).bind fun v56 =>
  (dvL (t1 * (Int32.toInt64 t0)) (Int32.toInt64 v56)).bind fun v60 =>
  some v60

noncomputable def f_X3_leads_31 (this : Nat) (x1 : Option Nat) (t0 : Int32) (A : AH) : Option (Int64) :=
  (gR 4 1 A (some this)).bind fun v33 =>
  (gI 7 0 A x1).bind fun v37 =>
  (aI 10 A v33 v37).bind fun v40 =>
  if t0 = 0 then
    f_X3_leads_53 x1 (24 : Int32) (Int32.toInt64 v40) A
  else
    f_X3_leads_53 x1 (12 : Int32) (Int32.toInt64 v40) A

noncomputable def f_X3_leads_30 (this : Nat) (x1 : Option Nat) (A : AH) : Option (Int64) :=
  f_X3_leads_31 this x1 (0 : Int32) A

noncomputable def f_X3_leads (this : Nat) (x1 : Option Nat) (A : AH) : Option (Int64) :=
  (gI 7 4 A x1).bind fun v1 =>
  if v1 = 0 then
    f_X3_leads_30 this x1 A
  else
    (gR 4 2 A (some this)).bind fun v8 =>
    (gI 7 0 A x1).bind fun v12 =>
    (aI 10 A v8 v12).bind fun v15 =>
    (gR 4 0 A (some this)).bind fun v17 =>
    (gI 3 9 A v17).bind fun v20 =>
    if v20 ≤ v15 then
      f_X3_leads_30 this x1 A
    else
      f_X3_leads_31 this x1 (1 : Int32) A

/-! SlimeNet$Slime.minor(II)J -/
noncomputable def f_X3_minor_96 (rec : Nat → Int32 → Int32 → AH → Option (Int64)) (this : Nat) (x1 : Int32) (x2 : Int32) (x3 : Int64) (x5 : Int32) (x6 : Int32) (A : AH) : Option ((Int64 × Int32 × Int32) ⊕ (Int64)) :=
  some (.inl (x3, x5, (x6 + (1 : Int32))))

noncomputable def f_X3_minor_91 (rec : Nat → Int32 → Int32 → AH → Option (Int64)) (this : Nat) (x1 : Int32) (x2 : Int32) (x3 : Int64) (x5 : Int32) (x6 : Int32) (A : AH) : Option ((Int64 × Int32 × Int32) ⊕ (Int64)) :=
  f_X3_minor_96 rec this x1 x2 x3 (-x5) x6 A

noncomputable def s_X3_minor_18 (rec : Nat → Int32 → Int32 → AH → Option (Int64)) (this : Nat) (x1 : Int32) (x2 : Int32) (A : AH) (st : Int64 × Int32 × Int32) : Option ((Int64 × Int32 × Int32) ⊕ (Int64)) := match st with
  | (x3, x5, x6) =>
  (gI 4 12 A (some this)).bind fun v21 =>
  if v21 ≤ x6 then
    some (.inr x3)
  else
    if ((x2 >>> (x6 &&& 31)) &&& (1 : Int32)) = 0 then
      f_X3_minor_96 rec this x1 x2 x3 x5 x6 A
    else
      (gR 4 7 A (some this)).bind fun v40 =>
      (aL A v40 (((6 : Int32) * x1) + x6)).bind fun v50 =>
      if (lg_cmp v50 (0 : Int64)) = 0 then
        f_X3_minor_91 rec this x1 x2 x3 x5 x6 A
      else
        (gR 4 7 A (some this)).bind fun v61 =>
        (aL A v61 (((6 : Int32) * x1) + x6)).bind fun v71 =>
        (rcv 4 A (some this)).bind fun k85 =>
        (rec k85 (x1 + (1 : Int32)) (x2 &&& (((1 : Int32) <<< (x6 &&& 31)) ^^^ (-1 : Int32))) A).bind fun v85 =>
        f_X3_minor_91 rec this x1 x2 (x3 + (((Int32.toInt64 x5) * v71) * v85)) x5 x6 A

noncomputable def l_X3_minor_18 (rec : Nat → Int32 → Int32 → AH → Option (Int64)) (this : Nat) (x1 : Int32) (x2 : Int32) (x3 : Int64) (x5 : Int32) (x6 : Int32) (A : AH) : Option (Int64) :=
  (whl (s_X3_minor_18 rec this x1 x2 A) (x3, x5, x6)).bind fun e => match e with
  | x3 =>
    some x3

noncomputable def b_X3_minor (rec : Nat → Int32 → Int32 → AH → Option (Int64)) (this : Nat) (x1 : Int32) (x2 : Int32) (A : AH) : Option (Int64) :=
  (gI 4 12 A (some this)).bind fun v2 =>
  if x1 = v2 then
    some (1 : Int64)
  else
    l_X3_minor_18 rec this x1 x2 (0 : Int64) (1 : Int32) (0 : Int32) A

noncomputable def f_X3_minor : Nat → Nat → Int32 → Int32 → AH → Option (Int64)
  | 0 => fun _ _ _ _ => none
  | d + 1 => b_X3_minor (f_X3_minor d)

/-! SlimeNet$Slime.swap(II)V -/
noncomputable def f_X3_swap (this : Nat) (x1 : Int32) (x2 : Int32) (A : AH) : Option (AH) :=
  (gR 4 7 A (some this)).bind fun v1 =>
  (aL A v1 (((6 : Int32) * x1) + x2)).bind fun v10 =>
  (gR 4 7 A (some this)).bind fun v13 =>
  (gR 4 8 A (some this)).bind fun v23 =>
  (aL A v23 x1).bind fun v27 =>
  (sL A v13 (((6 : Int32) * x1) + x2) v27).bind fun A28 =>
  (gR 4 8 A28 (some this)).bind fun v30 =>
  (sL A28 v30 x1 v10).bind fun A35 =>
  some A35

/-! SlimeNet$Slime.inPlace(I)J -/
noncomputable def s_X3_inPlace_39 (this : Nat) (x1 : Int32) (x2 : Int64) (st : Int32 × AH) : Option ((Int32 × AH) ⊕ (AH)) := match st with
  | (x4, A) =>
  (gI 4 12 A (some this)).bind fun v42 =>
  if v42 ≤ x4 then
    some (.inr A)
  else
    (rcv 4 A (some this)).bind fun k52 =>
    (f_X3_swap k52 x4 x1 A).bind fun A52 =>
    some (.inl ((x4 + (1 : Int32)), A52))

noncomputable def l_X3_inPlace_39 (this : Nat) (x1 : Int32) (x2 : Int64) (x4 : Int32) (A : AH) : Option (Int64 × AH) :=
  (whl (s_X3_inPlace_39 this x1 x2) (x4, A)).bind fun e => match e with
  | A =>
    some (x2, A)

noncomputable def s_X3_inPlace_2 (this : Nat) (x1 : Int32) (st : Int32 × AH) : Option ((Int32 × AH) ⊕ (AH)) := match st with
  | (x2, A) =>
  (gI 4 12 A (some this)).bind fun v4 =>
  if v4 ≤ x2 then
    some (.inr A)
  else
    (rcv 4 A (some this)).bind fun k13 =>
    (f_X3_swap k13 x2 x1 A).bind fun A13 =>
    some (.inl ((x2 + (1 : Int32)), A13))

noncomputable def l_X3_inPlace_2 (this : Nat) (x1 : Int32) (x2 : Int32) (A : AH) : Option (Int64 × AH) :=
  (whl (s_X3_inPlace_2 this x1) (x2, A)).bind fun e => match e with
  | A =>
    (gI 4 12 A (some this)).bind fun v26 =>
    (rcv 4 A (some this)).bind fun k32 =>
    (f_X3_minor 8 k32 (0 : Int32) (((1 : Int32) <<< (v26 &&& 31)) - (1 : Int32)) A).bind fun v32 =>
    l_X3_inPlace_39 this x1 v32 (0 : Int32) A

noncomputable def f_X3_inPlace (this : Nat) (x1 : Int32) (A : AH) : Option (Int64 × AH) :=
  l_X3_inPlace_2 this x1 (0 : Int32) A

/-! SlimeNet$Slime.lay(III)V -/
noncomputable def f_X3_lay_67 (this : Nat) (x1 : Int32) (x2 : Int32) (x3 : Int32) (x4 : Int32) (A : AH) : Option ((Int32 × AH) ⊕ (AH)) :=
  some (.inl ((x4 + (1 : Int32)), A))

noncomputable def f_X3_lay_255 (this : Nat) (x1 : Int32) (x3 : Int32) (x4 : Int32) (A : AH) : Option ((Int32 × AH) ⊕ (AH)) :=
  some (.inl ((x4 + (1 : Int32)), A))

noncomputable def f_X3_lay_204 (this : Nat) (x1 : Int32) (x3 : Int32) (x4 : Int32) (x6 : Int32) (x7 : Int32) (x8 : Int64) (A : AH) : Option ((Int32 × AH) ⊕ (AH)) :=
  if x6 = (-1 : Int32) then
    f_X3_lay_255 this x1 x3 x4 A
  else
    if x7 = (-1 : Int32) then
      f_X3_lay_255 this x1 x3 x4 A
    else
      (gR 4 7 A (some this)).bind fun v220 =>
      (aL A v220 (((6 : Int32) * x6) + x7)).bind fun v232 =>
      (sL A v220 (((6 : Int32) * x6) + x7) (v232 - x8)).bind fun A236 =>
      (gR 4 7 A236 (some this)).bind fun v238 =>
      (aL A236 v238 (((6 : Int32) * x7) + x6)).bind fun v250 =>
      (sL A236 v238 (((6 : Int32) * x7) + x6) (v250 - x8)).bind fun A254 =>
      f_X3_lay_255 this x1 x3 x4 A254

noncomputable def f_X3_lay_180 (this : Nat) (x1 : Int32) (x3 : Int32) (x4 : Int32) (x6 : Int32) (x7 : Int32) (x8 : Int64) (A : AH) : Option ((Int32 × AH) ⊕ (AH)) :=
  if x7 = (-1 : Int32) then
    f_X3_lay_204 this x1 x3 x4 x6 x7 x8 A
  else
    (gR 4 7 A (some this)).bind fun v187 =>
    (aL A v187 (((6 : Int32) * x7) + x7)).bind fun v199 =>
    (sL A v187 (((6 : Int32) * x7) + x7) (v199 + x8)).bind fun A203 =>
    f_X3_lay_204 this x1 x3 x4 x6 x7 x8 A203

noncomputable def f_X3_lay_337 (this : Nat) (x3 : Int32) (x4 : Int32) (t0 : Int64) (t1 : Int32) (t2 : Option Nat) (A : AH) : Option ((Int32 × AH) ⊕ (AH)) :=
  (sL A t2 t1 t0).bind fun A337 =>
  some (.inl ((x4 + (1 : Int32)), A337))

noncomputable def f_X3_lay_437 (this : Nat) (x3 : Int32) (x4 : Int32) (A : AH) : Option ((Int32 × AH) ⊕ (AH)) :=
  some (.inl ((x4 + (1 : Int32)), A))

noncomputable def s_X3_lay_347 (this : Nat) (x3 : Int32) (st : Int32 × AH) : Option ((Int32 × AH) ⊕ (AH)) := match st with
  | (x4, A) =>
  (gR 4 0 A (some this)).bind fun v350 =>
  (gR 3 1 A v350).bind fun v353 =>
  (rcv 8 A v353).bind fun k356 =>
  (f_J4_size k356 A).bind fun v356 =>
  if v356 ≤ x4 then
    some (.inr A)
  else
    (gR 4 0 A (some this)).bind fun v363 =>
    (gR 3 1 A v363).bind fun v366 =>
    (rcv 8 A v366).bind fun k371 =>
    (f_J4_get k371 x4 A).bind fun v371 =>
    (cst 7 A v371).bind fun _ =>
    (gR 4 1 A (some this)).bind fun v380 =>
    (aI 10 A v380 x4).bind fun v385 =>
    if v385 ≤ 0 then
      f_X3_lay_437 this x3 x4 A
    else
      (gI 7 1 A v371).bind fun v392 =>
      if ((x3 >>> (v392 &&& 31)) &&& (1 : Int32)) = (1 : Int32) then
        (gR 4 10 A (some this)).bind fun v403 =>
        (rcv 4 A (some this)).bind fun k411 =>
        (f_X3_leads k411 v371 A).bind fun v411 =>
        (gR 4 9 A (some this)).bind fun v415 =>
        (gI 7 1 A v371).bind fun v420 =>
        (aL A v415 v420).bind fun v423 =>
        (gR 4 9 A (some this)).bind fun v425 =>
        (gI 7 2 A v371).bind fun v430 =>
        (aL A v425 v430).bind fun v433 =>
        (sL A v403 x4 (v411 * (v423 - v433))).bind fun A436 =>
        f_X3_lay_437 this x3 x4 A436
      else
        f_X3_lay_437 this x3 x4 A

noncomputable def l_X3_lay_347 (this : Nat) (x3 : Int32) (x4 : Int32) (A : AH) : Option (AH) :=
  (whl (s_X3_lay_347 this x3) (x4, A)).bind fun e => match e with
  | A =>
    some A

noncomputable def s_X3_lay_293 (this : Nat) (x3 : Int32) (st : Int32 × AH) : Option ((Int32 × AH) ⊕ (AH)) := match st with
  | (x4, A) =>
  (gR 4 0 A (some this)).bind fun v296 =>
  (gI 3 4 A v296).bind fun v299 =>
  if v299 ≤ x4 then
    some (.inr A)
  else
    (gR 4 9 A (some this)).bind fun v306 =>
    (gR 4 6 A (some this)).bind fun v312 =>
    (aI 10 A v312 x4).bind fun v317 =>
    if v317 = (-1 : Int32) then
      f_X3_lay_337 this x3 x4 (0 : Int64) x4 v306 A
    else
      (gR 4 6 A (some this)).bind fun v328 =>
      (aI 10 A v328 x4).bind fun v333 =>
      (rcv 4 A (some this)).bind fun k334 =>
      (f_X3_inPlace k334 v333 A).bind fun q334 => match q334 with
      | (v334, A334) =>
      f_X3_lay_337 this x3 x4 v334 x4 v306 A334

noncomputable def l_X3_lay_293 (this : Nat) (x3 : Int32) (x4 : Int32) (A : AH) : Option (AH) :=
  (whl (s_X3_lay_293 this x3) (x4, A)).bind fun e => match e with
  | A =>
    l_X3_lay_347 this x3 (0 : Int32) A

noncomputable def s_X3_lay_92 (this : Nat) (x1 : Int32) (x3 : Int32) (st : Int32 × AH) : Option ((Int32 × AH) ⊕ (AH)) := match st with
  | (x4, A) =>
  (gR 4 0 A (some this)).bind fun v95 =>
  (gR 3 1 A v95).bind fun v98 =>
  (rcv 8 A v98).bind fun k101 =>
  (f_J4_size k101 A).bind fun v101 =>
  if v101 ≤ x4 then
    some (.inr A)
  else
    (gR 4 0 A (some this)).bind fun v108 =>
    (gR 3 1 A v108).bind fun v111 =>
    (rcv 8 A v111).bind fun k116 =>
    (f_J4_get k116 x4 A).bind fun v116 =>
    (cst 7 A v116).bind fun _ =>
    (gR 4 6 A (some this)).bind fun v125 =>
    (gI 7 1 A v116).bind fun v130 =>
    (aI 10 A v125 v130).bind fun v133 =>
    (gR 4 6 A (some this)).bind fun v137 =>
    (gI 7 2 A v116).bind fun v142 =>
    (aI 10 A v137 v142).bind fun v145 =>
    (rcv 4 A (some this)).bind fun k151 =>
    (f_X3_leads k151 v116 A).bind fun v151 =>
    if v133 = (-1 : Int32) then
      f_X3_lay_180 this x1 x3 x4 v133 v145 v151 A
    else
      (gR 4 7 A (some this)).bind fun v163 =>
      (aL A v163 (((6 : Int32) * v133) + v133)).bind fun v175 =>
      (sL A v163 (((6 : Int32) * v133) + v133) (v175 + v151)).bind fun A179 =>
      f_X3_lay_180 this x1 x3 x4 v133 v145 v151 A179

noncomputable def l_X3_lay_92 (this : Nat) (x1 : Int32) (x3 : Int32) (x4 : Int32) (A : AH) : Option (AH) :=
  (whl (s_X3_lay_92 this x1 x3) (x4, A)).bind fun e => match e with
  | A =>
    (gR 4 8 A (some this)).bind fun v262 =>
    (gR 4 6 A (some this)).bind fun v266 =>
    (aI 10 A v266 x1).bind fun v270 =>
    (sL A v262 v270 (1 : Int64)).bind fun A272 =>
    (gI 4 12 A272 (some this)).bind fun v278 =>
    (rcv 4 A272 (some this)).bind fun k284 =>
    (f_X3_minor 8 k284 (0 : Int32) (((1 : Int32) <<< (v278 &&& 31)) - (1 : Int32)) A272).bind fun v284 =>
    (pL 4 11 A272 (some this) v284).bind fun A287 =>
    l_X3_lay_293 this x3 (0 : Int32) A287

noncomputable def s_X3_lay_8 (this : Nat) (x1 : Int32) (x2 : Int32) (x3 : Int32) (st : Int32 × AH) : Option ((Int32 × AH) ⊕ (AH)) := match st with
  | (x4, A) =>
  (gR 4 0 A (some this)).bind fun v11 =>
  (gI 3 4 A v11).bind fun v14 =>
  if v14 ≤ x4 then
    some (.inr A)
  else
    (gR 4 6 A (some this)).bind fun v21 =>
    (sI A v21 x4 (-1 : Int32)).bind fun A27 =>
    if x4 = x2 then
      f_X3_lay_67 this x1 x2 x3 x4 A27
    else
      if ((x3 >>> (x4 &&& 31)) &&& (1 : Int32)) = 0 then
        f_X3_lay_67 this x1 x2 x3 x4 A27
      else
        (gR 4 6 A27 (some this)).bind fun v47 =>
        (gI 4 12 A27 (some this)).bind fun v53 =>
        (sI A27 v47 x4 v53).bind fun A56 =>
        (gI 4 12 A56 (some this)).bind fun v59 =>
        (pI 4 12 A56 (some this) (v59 + (1 : Int32))).bind fun A64 =>
        f_X3_lay_67 this x1 x2 x3 x4 A64

noncomputable def l_X3_lay_8 (this : Nat) (x1 : Int32) (x2 : Int32) (x3 : Int32) (x4 : Int32) (A : AH) : Option (AH) :=
  (whl (s_X3_lay_8 this x1 x2 x3) (x4, A)).bind fun e => match e with
  | A =>
    (gR 4 7 A (some this)).bind fun v74 =>
    (f_J12_fill_2 v74 (0 : Int64) A).bind fun A78 =>
    (gR 4 8 A78 (some this)).bind fun v82 =>
    (f_J12_fill_2 v82 (0 : Int64) A78).bind fun A86 =>
    l_X3_lay_92 this x1 x3 (0 : Int32) A86

noncomputable def f_X3_lay (this : Nat) (x1 : Int32) (x2 : Int32) (x3 : Int32) (A : AH) : Option (AH) :=
  (pI 4 12 A (some this) (0 : Int32)).bind fun A2 =>
  l_X3_lay_8 this x1 x2 x3 (0 : Int32) A2

/-! SlimeNet$Slime.flow()V -/
noncomputable def f_X3_flow_133 (A : AH) : Option (AH) :=
  some A

noncomputable def s_X3_flow_39 (this : Nat) (A : AH) (st : Int32 × Int32) : Option ((Int32 × Int32) ⊕ (Int32 × Int32)) := match st with
  | (x1, x2) =>
  (gR 4 0 A (some this)).bind fun v41 =>
  (gI 3 5 A v41).bind fun v44 =>
  if x1 < ((v44 - (1 : Int32)) - x2) then
    some (.inr (x1, x2))
  else
    (gR 4 0 A (some this)).bind fun v56 =>
    (gI 3 5 A v56).bind fun v59 =>
    some (.inl ((x1 - ((v59 - (1 : Int32)) - x2)), (x2 + (1 : Int32))))

noncomputable def l_X3_flow_39 (this : Nat) (x1 : Int32) (x2 : Int32) (A : AH) : Option (AH) :=
  (whl (s_X3_flow_39 this A) (x1, x2)).bind fun e => match e with
  | (x1, x2) =>
    (gR 4 0 A (some this)).bind fun v75 =>
    (gR 3 2 A v75).bind fun v78 =>
    (aI 10 A v78 x2).bind fun v82 =>
    (gR 4 0 A (some this)).bind fun v85 =>
    (gR 3 2 A v85).bind fun v88 =>
    (aI 10 A v88 ((x2 + (1 : Int32)) + x1)).bind fun v96 =>
    (gR 4 0 A (some this)).bind fun v100 =>
    (rcv 4 A (some this)).bind fun k104 =>
    (f_X3_own k104 A).bind fun v104 =>
    (rcv 3 A v100).bind fun k108 =>
    (f_X2_joined k108 v104 v82 A).bind fun v108 =>
    if ((v108 >>> (v96 &&& 31)) &&& (1 : Int32)) = (1 : Int32) then
      (rcv 4 A (some this)).bind fun k130 =>
      (f_X3_lay k130 v82 v96 v108 A).bind fun A130 =>
      f_X3_flow_133 A130
    else
      f_X3_flow_133 A

noncomputable def f_X3_flow (this : Nat) (A : AH) : Option (AH) :=
  (gR 4 10 A (some this)).bind fun v1 =>
  (f_J12_fill_2 v1 (0 : Int64) A).bind fun A5 =>
  (pL 4 11 A5 (some this) (1 : Int64)).bind fun A10 =>
  (gR 4 0 A10 (some this)).bind fun v14 =>
  (rcv 3 A10 v14).bind fun k17 =>
  (f_X2_pairs k17 A10).bind fun v17 =>
  if v17 = 0 then
    some A10
  else
    (gI 4 3 A10 (some this)).bind fun v25 =>
    (gR 4 0 A10 (some this)).bind fun v29 =>
    (rcv 3 A10 v29).bind fun k32 =>
    (f_X2_pairs k32 A10).bind fun v32 =>
    (rmI v25 v32).bind fun v35 =>
    l_X3_flow_39 this v35 (0 : Int32) A10

/-! SlimeNet.common(JJ)J -/
noncomputable def s_X0_common_9 (st : Int64 × Int64) : Option ((Int64 × Int64) ⊕ (Int64)) := match st with
  | (x4, x6) =>
  if (lg_cmp x6 (0 : Int64)) = 0 then
    some (.inr x4)
  else
    (rmL x4 x6).bind fun v20 =>
    some (.inl (x6, v20))

noncomputable def l_X0_common_9 (x4 : Int64) (x6 : Int64) : Option (Int64) :=
  (whl (s_X0_common_9) (x4, x6)).bind fun e => match e with
  | x4 =>
    some x4

noncomputable def f_X0_common (x0 : Int64) (x2 : Int64) : Option (Int64) :=
  l_X0_common_9 (abL x0) x2

/-! SlimeNet.flow(I)J -/
noncomputable def f_X0_flow (this : Nat) (x1 : Int32) (A : AH) : Option (Int64 × AH) :=
  (rcv 1 A (some this)).bind fun k2 =>
  (f_X0_isPipe k2 x1 A).bind fun v2 =>
  if v2 = 0 then
    some ((-9000000000000000000 : Int64), A)
  else
    (gR 1 6 A (some this)).bind fun v13 =>
    (rcv 4 A v13).bind fun k16 =>
    (f_X3_flow k16 A).bind fun A16 =>
    (gR 1 6 A16 (some this)).bind fun v20 =>
    (gR 4 10 A16 v20).bind fun v23 =>
    (aL A16 v23 x1).bind fun v27 =>
    (gR 1 6 A16 (some this)).bind fun v29 =>
    (gR 4 10 A16 v29).bind fun v32 =>
    (aL A16 v32 x1).bind fun v36 =>
    (gR 1 6 A16 (some this)).bind fun v38 =>
    (gL 4 11 A16 v38).bind fun v41 =>
    (f_X0_common v36 v41).bind fun v44 =>
    (dvL v27 v44).bind fun v47 =>
    some (v47, A16)

/-! SlimeNetModel.widths([II)I -/
noncomputable def f_X4_widths_23 (x0 : Option Nat) (x1 : Int32) (x3 : Int32) (t0 : Int32) (t1 : Int32) (A : AH) : Option ((Int32 × Int32) ⊕ (Int32)) :=
  some (.inl ((t1 ||| t0), (x3 + (1 : Int32))))

noncomputable def s_X4_widths_4 (x0 : Option Nat) (x1 : Int32) (A : AH) (st : Int32 × Int32) : Option ((Int32 × Int32) ⊕ (Int32)) := match st with
  | (x2, x3) =>
  if x1 ≤ x3 then
    some (.inr x2)
  else
    (aI 10 A x0 x3).bind fun v12 =>
    if v12 ≤ 0 then
      f_X4_widths_23 x0 x1 x3 (0 : Int32) x2 A
    else
      f_X4_widths_23 x0 x1 x3 ((1 : Int32) <<< (x3 &&& 31)) x2 A

noncomputable def l_X4_widths_4 (x0 : Option Nat) (x1 : Int32) (x2 : Int32) (x3 : Int32) (A : AH) : Option (Int32) :=
  (whl (s_X4_widths_4 x0 x1 A) (x2, x3)).bind fun e => match e with
  | x2 =>
    some x2

noncomputable def f_X4_widths (x0 : Option Nat) (x1 : Int32) (A : AH) : Option (Int32) :=
  l_X4_widths_4 x0 x1 (0 : Int32) (0 : Int32) A

/-! SlimeNetModel.reach(II)I -/
noncomputable def f_X4_reach_90 (this : Nat) (x1 : Int32) (x3 : Int32) (x4 : Int32) (x5 : Int32) (A : AH) : Option ((Int32 × Int32) ⊕ (Int32)) :=
  some (.inl (x3, (x5 + (1 : Int32))))

noncomputable def f_X4_reach_68 (this : Nat) (x1 : Int32) (x3 : Int32) (x4 : Int32) (x5 : Int32) (A : AH) : Option ((Int32 × Int32) ⊕ (Int32)) :=
  (gR 5 32 A (some this)).bind fun v71 =>
  (aI 10 A v71 x5).bind fun v76 =>
  (gR 5 33 A (some this)).bind fun v80 =>
  (aI 10 A v80 x5).bind fun v85 =>
  f_X4_reach_90 this x1 (x3 ||| (((1 : Int32) <<< (v76 &&& 31)) ||| ((1 : Int32) <<< (v85 &&& 31)))) x4 x5 A

noncomputable def s_X4_reach_19 (this : Nat) (x1 : Int32) (x4 : Int32) (A : AH) (st : Int32 × Int32) : Option ((Int32 × Int32) ⊕ (Int32)) := match st with
  | (x3, x5) =>
  (gI 5 11 A (some this)).bind fun v22 =>
  if v22 ≤ x5 then
    some (.inr x3)
  else
    if ((x1 >>> (x5 &&& 31)) &&& (1 : Int32)) = (1 : Int32) then
      (gR 5 32 A (some this)).bind fun v40 =>
      (aI 10 A v40 x5).bind fun v45 =>
      if ((x3 >>> (v45 &&& 31)) &&& (1 : Int32)) = (1 : Int32) then
        f_X4_reach_68 this x1 x3 x4 x5 A
      else
        (gR 5 33 A (some this)).bind fun v55 =>
        (aI 10 A v55 x5).bind fun v60 =>
        if ((x3 >>> (v60 &&& 31)) &&& (1 : Int32)) = (1 : Int32) then
          f_X4_reach_68 this x1 x3 x4 x5 A
        else
          f_X4_reach_90 this x1 x3 x4 x5 A
    else
      f_X4_reach_90 this x1 x3 x4 x5 A

noncomputable def l_X4_reach_19 (this : Nat) (x1 : Int32) (x4 : Int32) (x3 : Int32) (x5 : Int32) (A : AH) : Option ((Int32 × Int32) ⊕ (Int32)) :=
  (whl (s_X4_reach_19 this x1 x4 A) (x3, x5)).bind fun e => match e with
  | x3 =>
    some (.inl (x3, x4))

noncomputable def s_X4_reach_7 (this : Nat) (x1 : Int32) (A : AH) (st : Int32 × Int32) : Option ((Int32 × Int32) ⊕ (Int32)) := match st with
  | (x3, x4) =>
  if x3 = x4 then
    some (.inr x3)
  else
    l_X4_reach_19 this x1 x3 x3 (0 : Int32) A

noncomputable def l_X4_reach_7 (this : Nat) (x1 : Int32) (x3 : Int32) (x4 : Int32) (A : AH) : Option (Int32) :=
  (whl (s_X4_reach_7 this x1 A) (x3, x4)).bind fun e => match e with
  | x3 =>
    some x3

noncomputable def f_X4_reach (this : Nat) (x1 : Int32) (x2 : Int32) (A : AH) : Option (Int32) :=
  l_X4_reach_7 this x1 ((1 : Int32) <<< (x2 &&& 31)) (0 : Int32) A

/-! SlimeNetModel.addTree(III)V -/
noncomputable def f_X4_addTree_38 (this : Nat) (x1 : Int32) (x2 : Int32) (x3 : Int32) (x4 : Int64) (x6 : Int32) (A : AH) : Option ((Int64 × Int32) ⊕ (Int64)) :=
  some (.inl (x4, (x6 + (1 : Int32))))

noncomputable def f_X4_addTree_186 (this : Nat) (x1 : Int32) (x4 : Int64) (x6 : Int32) (x7 : Int32) (x8 : Int32) (A : AH) : Option ((Int32 × AH) ⊕ (AH)) :=
  some (.inl ((x8 + (1 : Int32)), A))

noncomputable def f_X4_addTree_184 (this : Nat) (x1 : Int32) (x4 : Int64) (x6 : Int32) (x7 : Int32) (x8 : Int32) (t0 : Int64) (t1 : Int64) (t2 : Int32) (t3 : Option Nat) (A : AH) : Option ((Int32 × AH) ⊕ (AH)) :=
  (sL A t3 t2 (t1 + t0)).bind fun A185 =>
  f_X4_addTree_186 this x1 x4 x6 x7 x8 A185

noncomputable def f_X4_addTree_159 (this : Nat) (x1 : Int32) (x4 : Int64) (x6 : Int32) (x7 : Int32) (x8 : Int32) (x10 : Int32) (t0 : Int32) (A : AH) : Option ((Int32 × AH) ⊕ (AH)) :=
  (gR 5 44 A (some this)).bind fun v162 =>
  (aL A v162 x8).bind fun v168 =>
  if t0 = x10 then
    f_X4_addTree_184 this x1 x4 x6 x7 x8 x4 v168 x8 v162 A
  else
    f_X4_addTree_184 this x1 x4 x6 x7 x8 (-x4) v168 x8 v162 A

noncomputable def f_X4_addTree_127 (this : Nat) (x1 : Int32) (x4 : Int64) (x6 : Int32) (x7 : Int32) (x8 : Int32) (x9 : Int32) (t0 : Int32) (A : AH) : Option ((Int32 × AH) ⊕ (AH)) :=
  if x9 = t0 then
    f_X4_addTree_186 this x1 x4 x6 x7 x8 A
  else
    (gR 5 42 A (some this)).bind fun v140 =>
    (aI 10 A v140 x1).bind fun v144 =>
    if ((v144 >>> (x8 &&& 31)) &&& (1 : Int32)) = (1 : Int32) then
      f_X4_addTree_159 this x1 x4 x6 x7 x8 t0 (1 : Int32) A
    else
      f_X4_addTree_159 this x1 x4 x6 x7 x8 t0 (0 : Int32) A

noncomputable def f_X4_addTree_109 (this : Nat) (x1 : Int32) (x4 : Int64) (x6 : Int32) (x7 : Int32) (x8 : Int32) (t0 : Int32) (A : AH) : Option ((Int32 × AH) ⊕ (AH)) :=
  if ((x7 >>> (x8 &&& 31)) &&& (1 : Int32)) = (1 : Int32) then
    f_X4_addTree_127 this x1 x4 x6 x7 x8 t0 (1 : Int32) A
  else
    f_X4_addTree_127 this x1 x4 x6 x7 x8 t0 (0 : Int32) A

noncomputable def s_X4_addTree_84 (this : Nat) (x1 : Int32) (x4 : Int64) (x6 : Int32) (x7 : Int32) (st : Int32 × AH) : Option ((Int32 × AH) ⊕ (AH)) := match st with
  | (x8, A) =>
  (gI 5 11 A (some this)).bind fun v87 =>
  if v87 ≤ x8 then
    some (.inr A)
  else
    if ((x6 >>> (x8 &&& 31)) &&& (1 : Int32)) = (1 : Int32) then
      f_X4_addTree_109 this x1 x4 x6 x7 x8 (1 : Int32) A
    else
      f_X4_addTree_109 this x1 x4 x6 x7 x8 (0 : Int32) A

noncomputable def l_X4_addTree_84 (this : Nat) (x1 : Int32) (x4 : Int64) (x6 : Int32) (x7 : Int32) (x8 : Int32) (A : AH) : Option (AH) :=
  (whl (s_X4_addTree_84 this x1 x4 x6 x7) (x8, A)).bind fun e => match e with
  | A =>
    some A

noncomputable def s_X4_addTree_6 (this : Nat) (x1 : Int32) (x2 : Int32) (x3 : Int32) (A : AH) (st : Int64 × Int32) : Option ((Int64 × Int32) ⊕ (Int64)) := match st with
  | (x4, x6) =>
  (gI 5 11 A (some this)).bind fun v9 =>
  if v9 ≤ x6 then
    some (.inr x4)
  else
    if ((x1 >>> (x6 &&& 31)) &&& (1 : Int32)) = (1 : Int32) then
      (gR 5 43 A (some this)).bind fun v28 =>
      (aI 10 A v28 x6).bind fun v33 =>
      f_X4_addTree_38 this x1 x2 x3 (x4 * (Int32.toInt64 v33)) x6 A
    else
      f_X4_addTree_38 this x1 x2 x3 x4 x6 A

noncomputable def l_X4_addTree_6 (this : Nat) (x1 : Int32) (x2 : Int32) (x3 : Int32) (x4 : Int64) (x6 : Int32) (A : AH) : Option (AH) :=
  (whl (s_X4_addTree_6 this x1 x2 x3 A) (x4, x6)).bind fun e => match e with
  | x4 =>
    (gL 5 45 A (some this)).bind fun v46 =>
    (pL 5 45 A (some this) (v46 + x4)).bind fun A52 =>
    (gR 5 41 A52 (some this)).bind fun v56 =>
    (aI 10 A52 v56 (((6 : Int32) * x1) + x2)).bind fun v65 =>
    (gR 5 41 A52 (some this)).bind fun v69 =>
    (aI 10 A52 v69 (((6 : Int32) * x1) + x3)).bind fun v78 =>
    l_X4_addTree_84 this x1 x4 v65 v78 (0 : Int32) A52

noncomputable def f_X4_addTree (this : Nat) (x1 : Int32) (x2 : Int32) (x3 : Int32) (A : AH) : Option (AH) :=
  l_X4_addTree_6 this x1 x2 x3 (1 : Int64) (0 : Int32) A

/-! SlimeNetModel.findFlows([I[II)V -/
noncomputable def f_X4_findFlows_204 (this : Nat) (x1 : Option Nat) (x2 : Option Nat) (x6 : Int32) (x7 : Int32) (x8 : Int32) (x9 : Int32) (x10 : Int32) (t0 : Int32) (t1 : Int32) (t2 : Int32) (t3 : Option Nat) (A : AH) : Option ((Int32 × AH) ⊕ (AH)) :=
  (gR 5 34 A (some this)).bind fun v206 =>
  (aI 10 A v206 x10).bind fun v211 =>
  (dvI (t1 * t0) v211).bind fun v212 =>
  (sI A t3 t2 v212).bind fun A213 =>
  some (.inl ((x10 + (1 : Int32)), A213))

noncomputable def f_X4_findFlows_180 (this : Nat) (x1 : Option Nat) (x2 : Option Nat) (x6 : Int32) (x7 : Int32) (x8 : Int32) (x9 : Int32) (x10 : Int32) (t0 : Int32) (A : AH) : Option ((Int32 × AH) ⊕ (AH)) :=
  (gR 5 43 A (some this)).bind fun v183 =>
  (aI 10 A x1 x10).bind fun v191 =>
  if t0 = 0 then
    f_X4_findFlows_204 this x1 x2 x6 x7 x8 x9 x10 (24 : Int32) v191 x10 v183 A
  else
    f_X4_findFlows_204 this x1 x2 x6 x7 x8 x9 x10 (12 : Int32) v191 x10 v183 A

noncomputable def f_X4_findFlows_179 (this : Nat) (x1 : Option Nat) (x2 : Option Nat) (x6 : Int32) (x7 : Int32) (x8 : Int32) (x9 : Int32) (x10 : Int32) (A : AH) : Option ((Int32 × AH) ⊕ (AH)) :=
  f_X4_findFlows_180 this x1 x2 x6 x7 x8 x9 x10 (0 : Int32) A

noncomputable def f_X4_findFlows_256 (this : Nat) (x6 : Int32) (x7 : Int32) (x8 : Int32) (x9 : Int32) (x10 : Int32) (A : AH) : Option ((Int32 × AH) ⊕ (AH)) :=
  some (.inl (((x10 - (1 : Int32)) &&& x8), A))

noncomputable def s_X4_findFlows_229 (this : Nat) (x6 : Int32) (x7 : Int32) (x8 : Int32) (x9 : Int32) (st : Int32 × AH) : Option ((Int32 × AH) ⊕ (AH)) := match st with
  | (x10, A) =>
  if x10 ≤ 0 then
    some (.inr A)
  else
    (gR 5 40 A (some this)).bind fun v235 =>
    (aI 10 A v235 x10).bind fun v240 =>
    if v240 = x9 then
      (rcv 5 A (some this)).bind fun k253 =>
      (f_X4_addTree k253 x10 x6 x7 A).bind fun A253 =>
      f_X4_findFlows_256 this x6 x7 x8 x9 x10 A253
    else
      f_X4_findFlows_256 this x6 x7 x8 x9 x10 A

noncomputable def l_X4_findFlows_229 (this : Nat) (x6 : Int32) (x7 : Int32) (x8 : Int32) (x9 : Int32) (x10 : Int32) (A : AH) : Option (AH) :=
  (whl (s_X4_findFlows_229 this x6 x7 x8 x9) (x10, A)).bind fun e => match e with
  | A =>
    some A

noncomputable def s_X4_findFlows_142 (this : Nat) (x1 : Option Nat) (x2 : Option Nat) (x6 : Int32) (x7 : Int32) (x8 : Int32) (x9 : Int32) (st : Int32 × AH) : Option ((Int32 × AH) ⊕ (AH)) := match st with
  | (x10, A) =>
  (gI 5 11 A (some this)).bind fun v145 =>
  if v145 ≤ x10 then
    some (.inr A)
  else
    (gI 5 17 A (some this)).bind fun v152 =>
    if ((v152 >>> (x10 &&& 31)) &&& (1 : Int32)) = (1 : Int32) then
      (aI 10 A x2 x10).bind fun v167 =>
      (gI 5 16 A (some this)).bind fun v169 =>
      if v169 ≤ v167 then
        f_X4_findFlows_179 this x1 x2 x6 x7 x8 x9 x10 A
      else
        f_X4_findFlows_180 this x1 x2 x6 x7 x8 x9 x10 (1 : Int32) A
    else
      f_X4_findFlows_179 this x1 x2 x6 x7 x8 x9 x10 A

noncomputable def l_X4_findFlows_142 (this : Nat) (x1 : Option Nat) (x2 : Option Nat) (x6 : Int32) (x7 : Int32) (x8 : Int32) (x9 : Int32) (x10 : Int32) (A : AH) : Option (AH) :=
  (whl (s_X4_findFlows_142 this x1 x2 x6 x7 x8 x9) (x10, A)).bind fun e => match e with
  | A =>
    (pL 5 45 A (some this) (0 : Int64)).bind fun A222 =>
    l_X4_findFlows_229 this x6 x7 x8 x9 x8 A222

noncomputable def s_X4_findFlows_51 (this : Nat) (x1 : Option Nat) (x2 : Option Nat) (A : AH) (st : Int32 × Int32) : Option ((Int32 × Int32) ⊕ (Int32 × Int32)) := match st with
  | (x4, x5) =>
  (gI 5 12 A (some this)).bind fun v54 =>
  if x4 < ((v54 - (1 : Int32)) - x5) then
    some (.inr (x4, x5))
  else
    (gI 5 12 A (some this)).bind fun v68 =>
    some (.inl ((x4 - ((v68 - (1 : Int32)) - x5)), (x5 + (1 : Int32))))

noncomputable def l_X4_findFlows_51 (this : Nat) (x1 : Option Nat) (x2 : Option Nat) (x4 : Int32) (x5 : Int32) (A : AH) : Option (AH) :=
  (whl (s_X4_findFlows_51 this x1 x2 A) (x4, x5)).bind fun e => match e with
  | (x4, x5) =>
    (gR 5 35 A (some this)).bind fun v86 =>
    (aI 10 A v86 x5).bind fun v91 =>
    (gR 5 35 A (some this)).bind fun v95 =>
    (aI 10 A v95 ((x5 + (1 : Int32)) + x4)).bind fun v105 =>
    (gI 5 11 A (some this)).bind fun v110 =>
    (f_X4_widths x1 v110 A).bind fun v113 =>
    (rcv 5 A (some this)).bind fun k123 =>
    (f_X4_reach k123 v113 v91 A).bind fun v123 =>
    if ((v123 >>> (v105 &&& 31)) &&& (1 : Int32)) = 0 then
      some A
    else
      l_X4_findFlows_142 this x1 x2 v91 v105 v113 v123 (0 : Int32) A

noncomputable def s_X4_findFlows_8 (this : Nat) (x1 : Option Nat) (x2 : Option Nat) (x3 : Int32) (st : Int32 × AH) : Option ((Int32 × AH) ⊕ (AH)) := match st with
  | (x4, A) =>
  (gI 5 11 A (some this)).bind fun v11 =>
  if v11 ≤ x4 then
    some (.inr A)
  else
    (gR 5 44 A (some this)).bind fun v18 =>
    (sL A v18 x4 (0 : Int64)).bind fun A24 =>
    some (.inl ((x4 + (1 : Int32)), A24))

noncomputable def l_X4_findFlows_8 (this : Nat) (x1 : Option Nat) (x2 : Option Nat) (x3 : Int32) (x4 : Int32) (A : AH) : Option (AH) :=
  (whl (s_X4_findFlows_8 this x1 x2 x3) (x4, A)).bind fun e => match e with
  | A =>
    (gI 5 12 A (some this)).bind fun v32 =>
    if (2 : Int32) ≤ v32 then
      (rcv 5 A (some this)).bind fun k42 =>
      (f_X4_pairs k42 A).bind fun v42 =>
      (rmI x3 v42).bind fun v45 =>
      l_X4_findFlows_51 this x1 x2 v45 (0 : Int32) A
    else
      some A

noncomputable def f_X4_findFlows (this : Nat) (x1 : Option Nat) (x2 : Option Nat) (x3 : Int32) (A : AH) : Option (AH) :=
  (pL 5 45 A (some this) (1 : Int64)).bind fun A2 =>
  l_X4_findFlows_8 this x1 x2 x3 (0 : Int32) A2

/-! SlimeNetModel.common(JJ)J -/
noncomputable def s_X4_common_17 (st : Int64 × Int64) : Option ((Int64 × Int64) ⊕ (Int64)) := match st with
  | (x4, x6) =>
  if (lg_cmp x6 (0 : Int64)) = 0 then
    some (.inr x4)
  else
    (rmL x4 x6).bind fun v28 =>
    some (.inl (x6, v28))

noncomputable def l_X4_common_17 (x4 : Int64) (x6 : Int64) : Option (Int64) :=
  (whl (s_X4_common_17) (x4, x6)).bind fun e => match e with
  | x4 =>
    some x4

noncomputable def f_X4_common_12 (x2 : Int64) (t0 : Int64) : Option (Int64) :=
  l_X4_common_17 t0 x2

noncomputable def f_X4_common (x0 : Int64) (x2 : Int64) : Option (Int64) :=
  if 0 ≤ (lg_cmp x0 (0 : Int64)) then
    f_X4_common_12 x2 x0
  else
    f_X4_common_12 x2 (-x0)

/-! SlimeNetModel.flow(I)J -/
noncomputable def f_X4_flow (this : Nat) (x1 : Int32) (A : AH) : Option (Int64 × AH) :=
  (rcv 5 A (some this)).bind fun k2 =>
  (f_X4_isPipe k2 x1 A).bind fun v2 =>
  if v2 = 0 then
    some ((-9000000000000000000 : Int64), A)
  else
    (gR 5 46 A (some this)).bind fun v14 =>
    (gR 5 47 A (some this)).bind fun v18 =>
    (gI 5 48 A (some this)).bind fun v22 =>
    (rcv 5 A (some this)).bind fun k25 =>
    (f_X4_findFlows k25 v14 v18 v22 A).bind fun A25 =>
    (gR 5 44 A25 (some this)).bind fun v29 =>
    (aL A25 v29 x1).bind fun v33 =>
    (gR 5 44 A25 (some this)).bind fun v35 =>
    (aL A25 v35 x1).bind fun v39 =>
    (gL 5 45 A25 (some this)).bind fun v41 =>
    (f_X4_common v39 v41).bind fun v44 =>
    (dvL v33 v44).bind fun v47 =>
    some (v47, A25)

/-! SlimeNet.under(I)J -/
noncomputable def f_X0_under (this : Nat) (x1 : Int32) (A : AH) : Option (Int64 × AH) :=
  (rcv 1 A (some this)).bind fun k2 =>
  (f_X0_isPipe k2 x1 A).bind fun v2 =>
  if v2 = 0 then
    some ((0 : Int64), A)
  else
    (gR 1 6 A (some this)).bind fun v11 =>
    (rcv 4 A v11).bind fun k14 =>
    (f_X3_flow k14 A).bind fun A14 =>
    (gR 1 6 A14 (some this)).bind fun v18 =>
    (gL 4 11 A14 v18).bind fun v21 =>
    (gR 1 6 A14 (some this)).bind fun v25 =>
    (gR 4 10 A14 v25).bind fun v28 =>
    (aL A14 v28 x1).bind fun v32 =>
    (gR 1 6 A14 (some this)).bind fun v34 =>
    (gL 4 11 A14 v34).bind fun v37 =>
    (f_X0_common v32 v37).bind fun v40 =>
    (dvL v21 v40).bind fun v43 =>
    some (v43, A14)

/-! SlimeNetModel.under(I)J -/
noncomputable def f_X4_under (this : Nat) (x1 : Int32) (A : AH) : Option (Int64 × AH) :=
  (rcv 5 A (some this)).bind fun k2 =>
  (f_X4_isPipe k2 x1 A).bind fun v2 =>
  if v2 = 0 then
    some ((0 : Int64), A)
  else
    (gR 5 46 A (some this)).bind fun v12 =>
    (gR 5 47 A (some this)).bind fun v16 =>
    (gI 5 48 A (some this)).bind fun v20 =>
    (rcv 5 A (some this)).bind fun k23 =>
    (f_X4_findFlows k23 v12 v16 v20 A).bind fun A23 =>
    (gL 5 45 A23 (some this)).bind fun v27 =>
    (gR 5 44 A23 (some this)).bind fun v31 =>
    (aL A23 v31 x1).bind fun v35 =>
    (gL 5 45 A23 (some this)).bind fun v37 =>
    (f_X4_common v35 v37).bind fun v40 =>
    (dvL v27 v40).bind fun v43 =>
    some (v43, A23)

/-! SlimeNet$Slime.live()V -/
noncomputable def f_X3_live_180 (this : Nat) (x1 : Int32) (A : AH) : Option ((Int32 × AH) ⊕ (AH)) :=
  some (.inl ((x1 + (1 : Int32)), A))

noncomputable def f_X3_live_179 (this : Nat) (x1 : Int32) (t0 : Int32) (t1 : Int32) (t2 : Option Nat) (A : AH) : Option ((Int32 × AH) ⊕ (AH)) :=
  (sI A t2 t1 t0).bind fun A179 =>
  f_X3_live_180 this x1 A179

noncomputable def f_X3_live_167 (this : Nat) (x1 : Int32) (t0 : Int32) (t1 : Option Nat) (A : AH) : Option ((Int32 × AH) ⊕ (AH)) :=
  (gR 4 2 A (some this)).bind fun v169 =>
  (aI 10 A v169 x1).bind fun v173 =>
  f_X3_live_179 this x1 (mxI (0 : Int32) (v173 - (1 : Int32))) t0 t1 A

noncomputable def f_X3_live_105 (this : Nat) (x1 : Int32) (x2 : Int64) (A : AH) : Option ((Int32 × AH) ⊕ (AH)) :=
  (gR 4 0 A (some this)).bind fun v106 =>
  (gR 3 1 A v106).bind fun v109 =>
  (rcv 8 A v109).bind fun k113 =>
  (f_J4_get k113 x1 A).bind fun v113 =>
  (cst 7 A v113).bind fun _ =>
  (gI 7 4 A v113).bind fun v119 =>
  if v119 = 0 then
    f_X3_live_180 this x1 A
  else
    (gR 4 2 A (some this)).bind fun v126 =>
    (gI 4 5 A (some this)).bind fun v132 =>
    (gL 4 11 A (some this)).bind fun v137 =>
    if (lg_cmp x2 ((Int32.toInt64 v132) * v137)) < 0 then
      f_X3_live_167 this x1 x1 v126 A
    else
      if (lg_cmp x2 (0 : Int64)) ≤ 0 then
        f_X3_live_167 this x1 x1 v126 A
      else
        (gR 4 2 A (some this)).bind fun v154 =>
        (aI 10 A v154 x1).bind fun v158 =>
        f_X3_live_179 this x1 (mnI (9 : Int32) (v158 + (1 : Int32))) x1 v126 A

noncomputable def s_X3_live_6 (this : Nat) (st : Int32 × AH) : Option ((Int32 × AH) ⊕ (AH)) := match st with
  | (x1, A) =>
  (gR 4 0 A (some this)).bind fun v8 =>
  (gR 3 1 A v8).bind fun v11 =>
  (rcv 8 A v11).bind fun k14 =>
  (f_J4_size k14 A).bind fun v14 =>
  if v14 ≤ x1 then
    some (.inr A)
  else
    (gR 4 10 A (some this)).bind fun v24 =>
    (aL A v24 x1).bind fun v28 =>
    (gR 4 1 A (some this)).bind fun v35 =>
    (aI 10 A v35 x1).bind fun v39 =>
    if v39 ≤ 0 then
      f_X3_live_105 this x1 ((10 : Int64) * (abL v28)) A
    else
      (gI 4 4 A (some this)).bind fun v45 =>
      (gL 4 11 A (some this)).bind fun v50 =>
      if (lg_cmp ((10 : Int64) * (abL v28)) ((Int32.toInt64 v45) * v50)) < 0 then
        (gI 4 5 A (some this)).bind fun v82 =>
        (gL 4 11 A (some this)).bind fun v87 =>
        if 0 ≤ (lg_cmp ((10 : Int64) * (abL v28)) ((Int32.toInt64 v82) * v87)) then
          f_X3_live_105 this x1 ((10 : Int64) * (abL v28)) A
        else
          (gR 4 1 A (some this)).bind fun v96 =>
          (aI 10 A v96 x1).bind fun v101 =>
          (sI A v96 x1 (v101 - (1 : Int32))).bind fun A104 =>
          f_X3_live_105 this x1 ((10 : Int64) * (abL v28)) A104
      else
        (gR 4 1 A (some this)).bind fun v59 =>
        (gR 4 1 A (some this)).bind fun v66 =>
        (aI 10 A v66 x1).bind fun v70 =>
        (sI A v59 x1 (mnI (9 : Int32) (v70 + (1 : Int32)))).bind fun A76 =>
        f_X3_live_105 this x1 ((10 : Int64) * (abL v28)) A76

noncomputable def l_X3_live_6 (this : Nat) (x1 : Int32) (A : AH) : Option (AH) :=
  (whl (s_X3_live_6 this) (x1, A)).bind fun e => match e with
  | A =>
    (gI 4 3 A (some this)).bind fun v188 =>
    (pI 4 3 A (some this) (v188 + (1 : Int32))).bind fun A193 =>
    some A193

noncomputable def f_X3_live (this : Nat) (A : AH) : Option (AH) :=
  (rcv 4 A (some this)).bind fun k1 =>
  (f_X3_flow k1 A).bind fun A1 =>
  l_X3_live_6 this (0 : Int32) A1

/-! SlimeNet.hours(I)I -/
noncomputable def s_X0_hours_16 (this : Nat) (x1 : Int32) (st : Int32 × AH) : Option ((Int32 × AH) ⊕ (AH)) := match st with
  | (x2, A) =>
  if x1 ≤ x2 then
    some (.inr A)
  else
    (gR 1 6 A (some this)).bind fun v22 =>
    (rcv 4 A v22).bind fun k25 =>
    (f_X3_live k25 A).bind fun A25 =>
    some (.inl ((x2 + (1 : Int32)), A25))

noncomputable def l_X0_hours_16 (this : Nat) (x1 : Int32) (x2 : Int32) (A : AH) : Option (Int32 × AH) :=
  (whl (s_X0_hours_16 this x1) (x2, A)).bind fun e => match e with
  | A =>
    (gR 1 6 A (some this)).bind fun v35 =>
    (gI 4 3 A v35).bind fun v38 =>
    some (v38, A)

noncomputable def f_X0_hours (this : Nat) (x1 : Int32) (A : AH) : Option (Int32 × AH) :=
  (f_X0_in x1 (0 : Int32) (500 : Int32)).bind fun v5 =>
  if v5 = 0 then
    some ((-2 : Int32), A)
  else
    l_X0_hours_16 this x1 (0 : Int32) A

/-! SlimeNetModel.pass([I[IIII)V -/
noncomputable def f_X4_pass_181 (this : Nat) (x1 : Option Nat) (x2 : Option Nat) (x4 : Int32) (x5 : Int32) (x6 : Int32) (A : AH) : Option ((Int32 × AH) ⊕ (AH)) :=
  some (.inl ((x6 + (1 : Int32)), A))

noncomputable def f_X4_pass_180 (this : Nat) (x1 : Option Nat) (x2 : Option Nat) (x4 : Int32) (x5 : Int32) (x6 : Int32) (t0 : Int32) (t1 : Int32) (t2 : Option Nat) (A : AH) : Option ((Int32 × AH) ⊕ (AH)) :=
  (sI A t2 t1 t0).bind fun A180 =>
  f_X4_pass_181 this x1 x2 x4 x5 x6 A180

noncomputable def f_X4_pass_170 (this : Nat) (x1 : Option Nat) (x2 : Option Nat) (x4 : Int32) (x5 : Int32) (x6 : Int32) (t0 : Int32) (t1 : Option Nat) (A : AH) : Option ((Int32 × AH) ⊕ (AH)) :=
  (aI 10 A x2 x6).bind fun v174 =>
  f_X4_pass_180 this x1 x2 x4 x5 x6 (mxI (0 : Int32) (v174 - (1 : Int32))) t0 t1 A

noncomputable def f_X4_pass_119 (this : Nat) (x1 : Option Nat) (x2 : Option Nat) (x4 : Int32) (x5 : Int32) (x6 : Int32) (x7 : Int64) (A : AH) : Option ((Int32 × AH) ⊕ (AH)) :=
  (gI 5 17 A (some this)).bind fun v120 =>
  if ((v120 >>> (x6 &&& 31)) &&& (1 : Int32)) = (1 : Int32) then
    if (lg_cmp x7 (0 : Int64)) ≤ 0 then
      f_X4_pass_170 this x1 x2 x4 x5 x6 x6 x2 A
    else
      (gL 5 45 A (some this)).bind fun v148 =>
      if (lg_cmp x7 ((Int32.toInt64 x5) * v148)) < 0 then
        f_X4_pass_170 this x1 x2 x4 x5 x6 x6 x2 A
      else
        (aI 10 A x2 x6).bind fun v161 =>
        f_X4_pass_180 this x1 x2 x4 x5 x6 (mnI (9 : Int32) (v161 + (1 : Int32))) x6 x2 A
  else
    f_X4_pass_181 this x1 x2 x4 x5 x6 A

noncomputable def f_X4_pass_56 (this : Nat) (x1 : Option Nat) (x2 : Option Nat) (x4 : Int32) (x5 : Int32) (x6 : Int32) (t0 : Int64) (A : AH) : Option ((Int32 × AH) ⊕ (AH)) :=
  (aI 10 A x1 x6).bind fun v61 =>
  if v61 ≤ 0 then
    f_X4_pass_119 this x1 x2 x4 x5 x6 t0 A
  else
    (gL 5 45 A (some this)).bind fun v71 =>
    if (lg_cmp t0 ((Int32.toInt64 x4) * v71)) < 0 then
      (gL 5 45 A (some this)).bind fun v103 =>
      if 0 ≤ (lg_cmp t0 ((Int32.toInt64 x5) * v103)) then
        f_X4_pass_119 this x1 x2 x4 x5 x6 t0 A
      else
        (aI 10 A x1 x6).bind fun v115 =>
        (sI A x1 x6 (v115 - (1 : Int32))).bind fun A118 =>
        f_X4_pass_119 this x1 x2 x4 x5 x6 t0 A118
    else
      (aI 10 A x1 x6).bind fun v87 =>
      (sI A x1 x6 (mnI (9 : Int32) (v87 + (1 : Int32)))).bind fun A93 =>
      f_X4_pass_119 this x1 x2 x4 x5 x6 t0 A93

noncomputable def s_X4_pass_10 (this : Nat) (x1 : Option Nat) (x2 : Option Nat) (x4 : Int32) (x5 : Int32) (st : Int32 × AH) : Option ((Int32 × AH) ⊕ (AH)) := match st with
  | (x6, A) =>
  (gI 5 11 A (some this)).bind fun v13 =>
  if v13 ≤ x6 then
    some (.inr A)
  else
    (gR 5 44 A (some this)).bind fun v20 =>
    (aL A v20 x6).bind fun v25 =>
    if 0 ≤ (lg_cmp v25 (0 : Int64)) then
      (gR 5 44 A (some this)).bind fun v49 =>
      (aL A v49 x6).bind fun v54 =>
      f_X4_pass_56 this x1 x2 x4 x5 x6 ((10 : Int64) * v54) A
    else
      (gR 5 44 A (some this)).bind fun v35 =>
      (aL A v35 x6).bind fun v40 =>
      f_X4_pass_56 this x1 x2 x4 x5 x6 ((-10 : Int64) * v40) A

noncomputable def l_X4_pass_10 (this : Nat) (x1 : Option Nat) (x2 : Option Nat) (x4 : Int32) (x5 : Int32) (x6 : Int32) (A : AH) : Option (AH) :=
  (whl (s_X4_pass_10 this x1 x2 x4 x5) (x6, A)).bind fun e => match e with
  | A =>
    some A

noncomputable def f_X4_pass (this : Nat) (x1 : Option Nat) (x2 : Option Nat) (x3 : Int32) (x4 : Int32) (x5 : Int32) (A : AH) : Option (AH) :=
  (rcv 5 A (some this)).bind fun k4 =>
  (f_X4_findFlows k4 x1 x2 x3 A).bind fun A4 =>
  l_X4_pass_10 this x1 x2 x4 x5 (0 : Int32) A4

/-! SlimeNetModel.goOn(I)V -/
noncomputable def s_X4_goOn_2 (this : Nat) (x1 : Int32) (st : Int32 × AH) : Option ((Int32 × AH) ⊕ (AH)) := match st with
  | (x2, A) =>
  if x1 ≤ x2 then
    some (.inr A)
  else
    (gR 5 46 A (some this)).bind fun v9 =>
    (gR 5 47 A (some this)).bind fun v13 =>
    (gI 5 48 A (some this)).bind fun v17 =>
    (gI 5 13 A (some this)).bind fun v21 =>
    (gI 5 14 A (some this)).bind fun v25 =>
    (rcv 5 A (some this)).bind fun k28 =>
    (f_X4_pass k28 v9 v13 v17 v21 v25 A).bind fun A28 =>
    (gI 5 48 A28 (some this)).bind fun v33 =>
    (pI 5 48 A28 (some this) (v33 + (1 : Int32))).bind fun A38 =>
    some (.inl ((x2 + (1 : Int32)), A38))

noncomputable def l_X4_goOn_2 (this : Nat) (x1 : Int32) (x2 : Int32) (A : AH) : Option (AH) :=
  (whl (s_X4_goOn_2 this x1) (x2, A)).bind fun e => match e with
  | A =>
    some A

noncomputable def f_X4_goOn (this : Nat) (x1 : Int32) (A : AH) : Option (AH) :=
  l_X4_goOn_2 this x1 (0 : Int32) A

/-! SlimeNetModel.hours(I)I -/
noncomputable def f_X4_hours (this : Nat) (x1 : Int32) (A : AH) : Option (Int32 × AH) :=
  (f_X4_in (Int32.toInt64 x1) (0 : Int64) (500 : Int64)).bind fun v6 =>
  if v6 = 0 then
    some ((-2 : Int32), A)
  else
    (rcv 5 A (some this)).bind fun k17 =>
    (f_X4_goOn k17 x1 A).bind fun A17 =>
    (gI 5 48 A17 (some this)).bind fun v21 =>
    some (v21, A17)

/-! SlimeNet.note(I)V -/
noncomputable def s_X0_note_2 (this : Nat) (x1 : Int32) (st : Int32 × AH) : Option ((Int32 × AH) ⊕ (AH)) := match st with
  | (x2, A) =>
  if (10 : Int32) ≤ x2 then
    some (.inr A)
  else
    (gR 1 11 A (some this)).bind fun v9 =>
    (gR 1 6 A (some this)).bind fun v19 =>
    (gR 4 1 A v19).bind fun v22 =>
    (aI 10 A v22 x2).bind fun v26 =>
    (sI A v9 (((20 : Int32) * x1) + x2) v26).bind fun A27 =>
    (gR 1 11 A27 (some this)).bind fun v29 =>
    (gR 1 6 A27 (some this)).bind fun v42 =>
    (gR 4 2 A27 v42).bind fun v45 =>
    (aI 10 A27 v45 x2).bind fun v49 =>
    (sI A27 v29 ((((20 : Int32) * x1) + (10 : Int32)) + x2) v49).bind fun A50 =>
    some (.inl ((x2 + (1 : Int32)), A50))

noncomputable def l_X0_note_2 (this : Nat) (x1 : Int32) (x2 : Int32) (A : AH) : Option (AH) :=
  (whl (s_X0_note_2 this x1) (x2, A)).bind fun e => match e with
  | A =>
    some A

noncomputable def f_X0_note (this : Nat) (x1 : Int32) (A : AH) : Option (AH) :=
  l_X0_note_2 this x1 (0 : Int32) A

/-! SlimeNet$Slime.liveRound()V -/
noncomputable def s_X3_liveRound_12 (this : Nat) (st : Int32 × AH) : Option ((Int32 × AH) ⊕ (AH)) := match st with
  | (x1, A) =>
  if x1 ≤ 0 then
    some (.inr A)
  else
    (rcv 4 A (some this)).bind fun k17 =>
    (f_X3_live k17 A).bind fun A17 =>
    some (.inl ((x1 + (-1 : Int32)), A17))

noncomputable def l_X3_liveRound_12 (this : Nat) (x1 : Int32) (A : AH) : Option (AH) :=
  (whl (s_X3_liveRound_12 this) (x1, A)).bind fun e => match e with
  | A =>
    some A

noncomputable def f_X3_liveRound (this : Nat) (A : AH) : Option (AH) :=
  (gR 4 0 A (some this)).bind fun v2 =>
  (rcv 3 A v2).bind fun k5 =>
  (f_X2_pairs k5 A).bind fun v5 =>
  l_X3_liveRound_12 this (mxI (1 : Int32) v5) A

/-! SlimeNet.isAsThen(II)Z -/
noncomputable def s_X0_isAsThen_2 (this : Nat) (x1 : Int32) (x2 : Int32) (A : AH) (st : Int32) : Option ((Int32) ⊕ ((Unit) ⊕ (Unit))) := match st with
  | x3 =>
  if (20 : Int32) ≤ x3 then
    some (.inr (.inr ()))
  else
    (gR 1 11 A (some this)).bind fun v9 =>
    (aI 10 A v9 (((20 : Int32) * x1) + x3)).bind fun v18 =>
    (gR 1 11 A (some this)).bind fun v20 =>
    (aI 10 A v20 (((20 : Int32) * x2) + x3)).bind fun v29 =>
    if v18 = v29 then
      some (.inl (x3 + (1 : Int32)))
    else
      some (.inr (.inl ()))

noncomputable def l_X0_isAsThen_2 (this : Nat) (x1 : Int32) (x2 : Int32) (x3 : Int32) (A : AH) : Option (Int32) :=
  (whl (s_X0_isAsThen_2 this x1 x2 A) x3).bind fun e => match e with
  | (.inl ()) =>
    (some (0 : Int32))
  | (.inr ()) =>
    (some (1 : Int32))

noncomputable def f_X0_isAsThen (this : Nat) (x1 : Int32) (x2 : Int32) (A : AH) : Option (Int32) :=
  l_X0_isAsThen_2 this x1 x2 (0 : Int32) A

/-! SlimeNet.rest()I -/
noncomputable def s_X0_rest_30 (this : Nat) (x1 : Int32) (A : AH) (st : Int32) : Option ((Int32) ⊕ ((Int32) ⊕ (Unit))) := match st with
  | x2 =>
  if x2 < 0 then
    some (.inr (.inr ()))
  else
    (rcv 1 A (some this)).bind fun k37 =>
    (f_X0_isAsThen k37 x1 x2 A).bind fun v37 =>
    if v37 = 0 then
      some (.inl (x2 + (-1 : Int32)))
    else
      some (.inr (.inl x2))

noncomputable def l_X0_rest_30 (this : Nat) (x1 : Int32) (x2 : Int32) (A : AH) : Option ((Int32 × AH) ⊕ ((Int32 × Int32 × AH) ⊕ (AH))) :=
  (whl (s_X0_rest_30 this x1 A) x2).bind fun e => match e with
  | (.inl x2) =>
    (some (.inr (.inl (x1, x2, A))))
  | (.inr ()) =>
    (some (.inl ((x1 + (1 : Int32)), A)))

noncomputable def s_X0_rest_7 (this : Nat) (st : Int32 × AH) : Option ((Int32 × AH) ⊕ ((Int32 × Int32 × AH) ⊕ (AH))) := match st with
  | (x1, A) =>
  if (200 : Int32) < x1 then
    some (.inr (.inr A))
  else
    (gR 1 6 A (some this)).bind fun v15 =>
    (rcv 4 A v15).bind fun k18 =>
    (f_X3_liveRound k18 A).bind fun A18 =>
    (rcv 1 A18 (some this)).bind fun k23 =>
    (f_X0_note k23 x1 A18).bind fun A23 =>
    l_X0_rest_30 this x1 (x1 - (1 : Int32)) A23

noncomputable def l_X0_rest_7 (this : Nat) (x1 : Int32) (A : AH) : Option (Int32 × AH) :=
  (whl (s_X0_rest_7 this) (x1, A)).bind fun e => match e with
  | (.inl (x1, x2, A)) =>
    ((pI 1 10 A (some this) (x1 - x2)).bind fun A50 =>
      some (x1, A50))
  | (.inr A) =>
    (some ((-1 : Int32), A))

noncomputable def f_X0_rest (this : Nat) (A : AH) : Option (Int32 × AH) :=
  (rcv 1 A (some this)).bind fun k2 =>
  (f_X0_note k2 (0 : Int32) A).bind fun A2 =>
  l_X0_rest_7 this (1 : Int32) A2

/-! SlimeNetModel.note(I)V -/
noncomputable def s_X4_note_2 (this : Nat) (x1 : Int32) (st : Int32 × AH) : Option ((Int32 × AH) ⊕ (AH)) := match st with
  | (x2, A) =>
  (gI 5 11 A (some this)).bind fun v4 =>
  if v4 ≤ x2 then
    some (.inr A)
  else
    (gR 5 49 A (some this)).bind fun v11 =>
    (gR 5 46 A (some this)).bind fun v21 =>
    (aI 10 A v21 x2).bind fun v25 =>
    (sI A v11 (((10 : Int32) * x1) + x2) v25).bind fun A26 =>
    (gR 5 50 A26 (some this)).bind fun v28 =>
    (gR 5 47 A26 (some this)).bind fun v38 =>
    (aI 10 A26 v38 x2).bind fun v42 =>
    (sI A26 v28 (((10 : Int32) * x1) + x2) v42).bind fun A43 =>
    some (.inl ((x2 + (1 : Int32)), A43))

noncomputable def l_X4_note_2 (this : Nat) (x1 : Int32) (x2 : Int32) (A : AH) : Option (AH) :=
  (whl (s_X4_note_2 this x1) (x2, A)).bind fun e => match e with
  | A =>
    some A

noncomputable def f_X4_note (this : Nat) (x1 : Int32) (A : AH) : Option (AH) :=
  l_X4_note_2 this x1 (0 : Int32) A

/-! SlimeNetModel.isAsIn(I)Z -/
noncomputable def f_X4_isAsIn_50 (A : AH) : Option (Int32) :=
  some (0 : Int32)

noncomputable def s_X4_isAsIn_2 (this : Nat) (x1 : Int32) (A : AH) (st : Int32) : Option ((Int32) ⊕ ((Unit) ⊕ (Unit))) := match st with
  | x2 =>
  (gI 5 11 A (some this)).bind fun v4 =>
  if v4 ≤ x2 then
    some (.inr (.inr ()))
  else
    (gR 5 49 A (some this)).bind fun v11 =>
    (aI 10 A v11 (((10 : Int32) * x1) + x2)).bind fun v20 =>
    (gR 5 46 A (some this)).bind fun v22 =>
    (aI 10 A v22 x2).bind fun v26 =>
    if v20 = v26 then
      (gR 5 50 A (some this)).bind fun v31 =>
      (aI 10 A v31 (((10 : Int32) * x1) + x2)).bind fun v40 =>
      (gR 5 47 A (some this)).bind fun v42 =>
      (aI 10 A v42 x2).bind fun v46 =>
      if v40 = v46 then
        some (.inl (x2 + (1 : Int32)))
      else
        some (.inr (.inl ()))
    else
      some (.inr (.inl ()))

noncomputable def l_X4_isAsIn_2 (this : Nat) (x1 : Int32) (x2 : Int32) (A : AH) : Option (Int32) :=
  (whl (s_X4_isAsIn_2 this x1 A) x2).bind fun e => match e with
  | (.inl ()) =>
    (f_X4_isAsIn_50 A)
  | (.inr ()) =>
    (some (1 : Int32))

noncomputable def f_X4_isAsIn (this : Nat) (x1 : Int32) (A : AH) : Option (Int32) :=
  l_X4_isAsIn_2 this x1 (0 : Int32) A

/-! SlimeNetModel.rest()I -/
noncomputable def s_X4_rest_30 (this : Nat) (x1 : Int32) (A : AH) (st : Int32) : Option ((Int32) ⊕ ((Int32) ⊕ (Unit))) := match st with
  | x2 =>
  if x2 < 0 then
    some (.inr (.inr ()))
  else
    (rcv 5 A (some this)).bind fun k36 =>
    (f_X4_isAsIn k36 x2 A).bind fun v36 =>
    if v36 = 0 then
      some (.inl (x2 + (-1 : Int32)))
    else
      some (.inr (.inl x2))

noncomputable def l_X4_rest_30 (this : Nat) (x1 : Int32) (x2 : Int32) (A : AH) : Option ((Int32 × AH) ⊕ ((Int32 × Int32 × AH) ⊕ (AH))) :=
  (whl (s_X4_rest_30 this x1 A) x2).bind fun e => match e with
  | (.inl x2) =>
    (some (.inr (.inl (x1, x2, A))))
  | (.inr ()) =>
    ((rcv 5 A (some this)).bind fun k62 =>
      (f_X4_note k62 x1 A).bind fun A62 =>
      some (.inl ((x1 + (1 : Int32)), A62)))

noncomputable def s_X4_rest_7 (this : Nat) (st : Int32 × AH) : Option ((Int32 × AH) ⊕ ((Int32 × Int32 × AH) ⊕ (AH))) := match st with
  | (x1, A) =>
  if (200 : Int32) < x1 then
    some (.inr (.inr A))
  else
    (rcv 5 A (some this)).bind fun k17 =>
    (f_X4_pairs k17 A).bind fun v17 =>
    (rcv 5 A (some this)).bind fun k23 =>
    (f_X4_goOn k23 (mxI (1 : Int32) v17) A).bind fun A23 =>
    l_X4_rest_30 this x1 (x1 - (1 : Int32)) A23

noncomputable def l_X4_rest_7 (this : Nat) (x1 : Int32) (A : AH) : Option (Int32 × AH) :=
  (whl (s_X4_rest_7 this) (x1, A)).bind fun e => match e with
  | (.inl (x1, x2, A)) =>
    ((pI 5 51 A (some this) (x1 - x2)).bind fun A49 =>
      some (x1, A49))
  | (.inr A) =>
    (some ((-1 : Int32), A))

noncomputable def f_X4_rest (this : Nat) (A : AH) : Option (Int32 × AH) :=
  (rcv 5 A (some this)).bind fun k2 =>
  (f_X4_note k2 (0 : Int32) A).bind fun A2 =>
  l_X4_rest_7 this (1 : Int32) A2

/-! SlimeNet.ring()I -/
noncomputable def f_X0_ring (this : Nat) (A : AH) : Option (Int32) :=
  (gI 1 10 A (some this)).bind fun v1 =>
  some v1

/-! SlimeNetModel.ring()I -/
noncomputable def f_X4_ring (this : Nat) (A : AH) : Option (Int32) :=
  (gI 5 51 A (some this)).bind fun v1 =>
  some v1

/-! java/util/Arrays.fill([II)V -/
noncomputable def s_J12_fill_3_5 (x0 : Option Nat) (x1 : Int32) (x3 : Int32) (st : Int32 × AH) : Option ((Int32 × AH) ⊕ (AH)) := match st with
  | (x2, A) =>
  if x3 ≤ x2 then
    some (.inr A)
  else
    (sI A x0 x2 x1).bind fun A13 =>
    some (.inl ((x2 + (1 : Int32)), A13))

noncomputable def l_J12_fill_3_5 (x0 : Option Nat) (x1 : Int32) (x3 : Int32) (x2 : Int32) (A : AH) : Option (AH) :=
  (whl (s_J12_fill_3_5 x0 x1 x3) (x2, A)).bind fun e => match e with
  | A =>
    some A

noncomputable def f_J12_fill_3 (x0 : Option Nat) (x1 : Int32) (A : AH) : Option (AH) :=
  (al 10 A x0).bind fun v3 =>
  l_J12_fill_3_5 x0 x1 v3 (0 : Int32) A

/-! SlimeNet.chance(I)I -/
noncomputable def s_X0_chance_13 (this : Nat) (st : Int64 × Int32 × AH) : Option ((Int64 × Int32 × AH) ⊕ (AH)) := match st with
  | (x2, x4, A) =>
  (gR 1 5 A (some this)).bind fun v16 =>
  (gR 3 1 A v16).bind fun v19 =>
  (rcv 8 A v19).bind fun k22 =>
  (f_J4_size k22 A).bind fun v22 =>
  if v22 ≤ x4 then
    some (.inr A)
  else
    (rmL (((1103515245 : Int64) * x2) + (12345 : Int64)) (2147483648 : Int64)).bind fun v40 =>
    (gR 1 6 A (some this)).bind fun v43 =>
    (gR 4 1 A v43).bind fun v46 =>
    (dvL v40 (65536 : Int64)).bind fun v56 =>
    (rmL v56 (9 : Int64)).bind fun v60 =>
    (sI A v46 x4 (Int64.toInt32 ((1 : Int64) + v60))).bind fun A63 =>
    some (.inl (v40, (x4 + (1 : Int32)), A63))

noncomputable def l_X0_chance_13 (this : Nat) (x2 : Int64) (x4 : Int32) (A : AH) : Option (Int32 × AH) :=
  (whl (s_X0_chance_13 this) (x2, x4, A)).bind fun e => match e with
  | A =>
    (gR 1 6 A (some this)).bind fun v71 =>
    (gR 4 2 A v71).bind fun v74 =>
    (f_J12_fill_3 v74 (0 : Int32) A).bind fun A78 =>
    (gR 1 6 A78 (some this)).bind fun v82 =>
    (pI 4 3 A78 v82 (0 : Int32)).bind fun A86 =>
    some ((1 : Int32), A86)

noncomputable def f_X0_chance (this : Nat) (x1 : Int32) (A : AH) : Option (Int32 × AH) :=
  if 0 ≤ x1 then
    l_X0_chance_13 this (Int32.toInt64 x1) (0 : Int32) A
  else
    some ((-2 : Int32), A)

/-! SlimeNetModel.chance(I)I -/
noncomputable def s_X4_chance_13 (this : Nat) (st : Int64 × Int32 × AH) : Option ((Int64 × Int32 × AH) ⊕ (AH)) := match st with
  | (x2, x4, A) =>
  (gI 5 11 A (some this)).bind fun v16 =>
  if v16 ≤ x4 then
    some (.inr A)
  else
    (rmL (((1103515245 : Int64) * x2) + (12345 : Int64)) (2147483648 : Int64)).bind fun v34 =>
    (gR 5 46 A (some this)).bind fun v37 =>
    (dvL v34 (65536 : Int64)).bind fun v47 =>
    (rmL v47 (9 : Int64)).bind fun v51 =>
    (sI A v37 x4 ((1 : Int32) + (Int64.toInt32 v51))).bind fun A54 =>
    (gR 5 47 A54 (some this)).bind fun v56 =>
    (sI A54 v56 x4 (0 : Int32)).bind fun A62 =>
    some (.inl (v34, (x4 + (1 : Int32)), A62))

noncomputable def l_X4_chance_13 (this : Nat) (x2 : Int64) (x4 : Int32) (A : AH) : Option (Int32 × AH) :=
  (whl (s_X4_chance_13 this) (x2, x4, A)).bind fun e => match e with
  | A =>
    (pI 5 48 A (some this) (0 : Int32)).bind fun A71 =>
    some ((1 : Int32), A71)

noncomputable def f_X4_chance (this : Nat) (x1 : Int32) (A : AH) : Option (Int32 × AH) :=
  if 0 ≤ x1 then
    l_X4_chance_13 this (Int32.toInt64 x1) (0 : Int32) A
  else
    some ((-2 : Int32), A)

/-! SlimeNet.isSlot(I)Z -/
noncomputable def f_X0_isSlot (x0 : Int32) : Option (Int32) :=
  (f_X0_in x0 (0 : Int32) (3 : Int32)).bind fun v3 =>
  (ckZ v3).bind fun _ =>
  some v3

/-! SlimeNet$Slime.become(LSlimeNet$Slime;)V -/
noncomputable def s_X3_become_10 (this : Nat) (x1 : Option Nat) (st : Int32 × AH) : Option ((Int32 × AH) ⊕ (AH)) := match st with
  | (x2, A) =>
  if (10 : Int32) ≤ x2 then
    some (.inr A)
  else
    (gR 4 1 A (some this)).bind fun v17 =>
    (gR 4 1 A x1).bind fun v22 =>
    (aI 10 A v22 x2).bind fun v26 =>
    (sI A v17 x2 v26).bind fun A27 =>
    (gR 4 2 A27 (some this)).bind fun v29 =>
    (gR 4 2 A27 x1).bind fun v34 =>
    (aI 10 A27 v34 x2).bind fun v38 =>
    (sI A27 v29 x2 v38).bind fun A39 =>
    some (.inl ((x2 + (1 : Int32)), A39))

noncomputable def l_X3_become_10 (this : Nat) (x1 : Option Nat) (x2 : Int32) (A : AH) : Option (AH) :=
  (whl (s_X3_become_10 this x1) (x2, A)).bind fun e => match e with
  | A =>
    some A

noncomputable def f_X3_become (this : Nat) (x1 : Option Nat) (A : AH) : Option (AH) :=
  (gI 4 3 A x1).bind fun v2 =>
  (pI 4 3 A (some this) v2).bind fun A5 =>
  l_X3_become_10 this x1 (0 : Int32) A5

/-! SlimeNet.keep(I)I -/
noncomputable def f_X0_keep (this : Nat) (x1 : Int32) (A : AH) : Option (Int32 × AH) :=
  (f_X0_isSlot x1).bind fun v1 =>
  if v1 = 0 then
    some ((-2 : Int32), A)
  else
    (gR 1 8 A (some this)).bind fun v11 =>
    (aR 15 A v11 x1).bind fun v15 =>
    (gR 1 6 A (some this)).bind fun v17 =>
    (rcv 4 A v15).bind fun k20 =>
    (f_X3_become k20 v17 A).bind fun A20 =>
    (gR 1 9 A20 (some this)).bind fun v24 =>
    (sZ A20 v24 x1 (1 : Int32)).bind fun A29 =>
    (gR 1 6 A29 (some this)).bind fun v31 =>
    (gI 4 3 A29 v31).bind fun v34 =>
    some (v34, A29)

/-! SlimeNetModel.isSlot(I)Z -/
noncomputable def f_X4_isSlot (x0 : Int32) : Option (Int32) :=
  (f_X4_in (Int32.toInt64 x0) (0 : Int64) (3 : Int64)).bind fun v6 =>
  (ckZ v6).bind fun _ =>
  some v6

/-! SlimeNetModel.keep(I)I -/
noncomputable def s_X4_keep_12 (this : Nat) (x1 : Int32) (st : Int32 × AH) : Option ((Int32 × AH) ⊕ (AH)) := match st with
  | (x2, A) =>
  (gI 5 11 A (some this)).bind fun v14 =>
  if v14 ≤ x2 then
    some (.inr A)
  else
    (gR 5 52 A (some this)).bind fun v21 =>
    (gR 5 46 A (some this)).bind fun v31 =>
    (aI 10 A v31 x2).bind fun v35 =>
    (sI A v21 (((10 : Int32) * x1) + x2) v35).bind fun A36 =>
    (gR 5 53 A36 (some this)).bind fun v38 =>
    (gR 5 47 A36 (some this)).bind fun v48 =>
    (aI 10 A36 v48 x2).bind fun v52 =>
    (sI A36 v38 (((10 : Int32) * x1) + x2) v52).bind fun A53 =>
    some (.inl ((x2 + (1 : Int32)), A53))

noncomputable def l_X4_keep_12 (this : Nat) (x1 : Int32) (x2 : Int32) (A : AH) : Option (Int32 × AH) :=
  (whl (s_X4_keep_12 this x1) (x2, A)).bind fun e => match e with
  | A =>
    (gR 5 54 A (some this)).bind fun v61 =>
    (gI 5 48 A (some this)).bind fun v66 =>
    (sI A v61 x1 v66).bind fun A69 =>
    (gR 5 55 A69 (some this)).bind fun v71 =>
    (sZ A69 v71 x1 (1 : Int32)).bind fun A76 =>
    (gI 5 48 A76 (some this)).bind fun v78 =>
    some (v78, A76)

noncomputable def f_X4_keep (this : Nat) (x1 : Int32) (A : AH) : Option (Int32 × AH) :=
  (f_X4_isSlot x1).bind fun v1 =>
  if v1 = 0 then
    some ((-2 : Int32), A)
  else
    l_X4_keep_12 this x1 (0 : Int32) A

/-! SlimeNet.take(I)I -/
noncomputable def f_X0_take (this : Nat) (x1 : Int32) (A : AH) : Option (Int32 × AH) :=
  (f_X0_isSlot x1).bind fun v1 =>
  if v1 = 0 then
    some ((-2 : Int32), A)
  else
    (gR 1 9 A (some this)).bind fun v11 =>
    (aI 12 A v11 x1).bind fun v15 =>
    if v15 = 0 then
      some ((-4 : Int32), A)
    else
      (gR 1 6 A (some this)).bind fun v23 =>
      (gR 1 8 A (some this)).bind fun v27 =>
      (aR 15 A v27 x1).bind fun v31 =>
      (rcv 4 A v23).bind fun k32 =>
      (f_X3_become k32 v31 A).bind fun A32 =>
      (gR 1 6 A32 (some this)).bind fun v36 =>
      (gI 4 3 A32 v36).bind fun v39 =>
      some (v39, A32)

/-! SlimeNetModel.take(I)I -/
noncomputable def s_X4_take_24 (this : Nat) (x1 : Int32) (st : Int32 × AH) : Option ((Int32 × AH) ⊕ (AH)) := match st with
  | (x2, A) =>
  (gI 5 11 A (some this)).bind fun v26 =>
  if v26 ≤ x2 then
    some (.inr A)
  else
    (gR 5 46 A (some this)).bind fun v33 =>
    (gR 5 52 A (some this)).bind fun v38 =>
    (aI 10 A v38 (((10 : Int32) * x1) + x2)).bind fun v47 =>
    (sI A v33 x2 v47).bind fun A48 =>
    (gR 5 47 A48 (some this)).bind fun v50 =>
    (gR 5 53 A48 (some this)).bind fun v55 =>
    (aI 10 A48 v55 (((10 : Int32) * x1) + x2)).bind fun v64 =>
    (sI A48 v50 x2 v64).bind fun A65 =>
    some (.inl ((x2 + (1 : Int32)), A65))

noncomputable def l_X4_take_24 (this : Nat) (x1 : Int32) (x2 : Int32) (A : AH) : Option (Int32 × AH) :=
  (whl (s_X4_take_24 this x1) (x2, A)).bind fun e => match e with
  | A =>
    (gR 5 54 A (some this)).bind fun v74 =>
    (aI 10 A v74 x1).bind fun v78 =>
    (pI 5 48 A (some this) v78).bind fun A79 =>
    (gI 5 48 A79 (some this)).bind fun v83 =>
    some (v83, A79)

noncomputable def f_X4_take (this : Nat) (x1 : Int32) (A : AH) : Option (Int32 × AH) :=
  (f_X4_isSlot x1).bind fun v1 =>
  if v1 = 0 then
    some ((-2 : Int32), A)
  else
    (gR 5 55 A (some this)).bind fun v11 =>
    (aI 12 A v11 x1).bind fun v15 =>
    if v15 = 0 then
      some ((-4 : Int32), A)
    else
      l_X4_take_24 this x1 (0 : Int32) A

/-! java/lang/Integer.bitCount(I)I -/
noncomputable def f_J13_bitCount (x0 : Int32) : Option (Int32) :=
  some ((((((((x0 - ((ushI x0 (1 : Int32)) &&& (1431655765 : Int32))) &&& (858993459 : Int32)) + ((ushI (x0 - ((ushI x0 (1 : Int32)) &&& (1431655765 : Int32))) (2 : Int32)) &&& (858993459 : Int32))) + (ushI (((x0 - ((ushI x0 (1 : Int32)) &&& (1431655765 : Int32))) &&& (858993459 : Int32)) + ((ushI (x0 - ((ushI x0 (1 : Int32)) &&& (1431655765 : Int32))) (2 : Int32)) &&& (858993459 : Int32))) (4 : Int32))) &&& (252645135 : Int32)) + (ushI (((((x0 - ((ushI x0 (1 : Int32)) &&& (1431655765 : Int32))) &&& (858993459 : Int32)) + ((ushI (x0 - ((ushI x0 (1 : Int32)) &&& (1431655765 : Int32))) (2 : Int32)) &&& (858993459 : Int32))) + (ushI (((x0 - ((ushI x0 (1 : Int32)) &&& (1431655765 : Int32))) &&& (858993459 : Int32)) + ((ushI (x0 - ((ushI x0 (1 : Int32)) &&& (1431655765 : Int32))) (2 : Int32)) &&& (858993459 : Int32))) (4 : Int32))) &&& (252645135 : Int32)) (8 : Int32))) + (ushI ((((((x0 - ((ushI x0 (1 : Int32)) &&& (1431655765 : Int32))) &&& (858993459 : Int32)) + ((ushI (x0 - ((ushI x0 (1 : Int32)) &&& (1431655765 : Int32))) (2 : Int32)) &&& (858993459 : Int32))) + (ushI (((x0 - ((ushI x0 (1 : Int32)) &&& (1431655765 : Int32))) &&& (858993459 : Int32)) + ((ushI (x0 - ((ushI x0 (1 : Int32)) &&& (1431655765 : Int32))) (2 : Int32)) &&& (858993459 : Int32))) (4 : Int32))) &&& (252645135 : Int32)) + (ushI (((((x0 - ((ushI x0 (1 : Int32)) &&& (1431655765 : Int32))) &&& (858993459 : Int32)) + ((ushI (x0 - ((ushI x0 (1 : Int32)) &&& (1431655765 : Int32))) (2 : Int32)) &&& (858993459 : Int32))) + (ushI (((x0 - ((ushI x0 (1 : Int32)) &&& (1431655765 : Int32))) &&& (858993459 : Int32)) + ((ushI (x0 - ((ushI x0 (1 : Int32)) &&& (1431655765 : Int32))) (2 : Int32)) &&& (858993459 : Int32))) (4 : Int32))) &&& (252645135 : Int32)) (8 : Int32))) (16 : Int32))) &&& (63 : Int32))

/-! SlimeNet.alike(II)I -/
noncomputable def f_X0_alike_14 (A : AH) : Option (Int32) :=
  some (-2 : Int32)

noncomputable def f_X0_alike_35 (A : AH) : Option (Int32) :=
  some (-4 : Int32)

noncomputable def f_X0_alike (this : Nat) (x1 : Int32) (x2 : Int32) (A : AH) : Option (Int32) :=
  (f_X0_isSlot x1).bind fun v1 =>
  if v1 = 0 then
    f_X0_alike_14 A
  else
    (f_X0_isSlot x2).bind fun v8 =>
    if v8 = 0 then
      f_X0_alike_14 A
    else
      (gR 1 9 A (some this)).bind fun v18 =>
      (aI 12 A v18 x1).bind fun v22 =>
      if v22 = 0 then
        f_X0_alike_35 A
      else
        (gR 1 9 A (some this)).bind fun v27 =>
        (aI 12 A v27 x2).bind fun v31 =>
        if v31 = 0 then
          f_X0_alike_35 A
        else
          (gR 1 5 A (some this)).bind fun v39 =>
          (gR 3 1 A v39).bind fun v42 =>
          (rcv 8 A v42).bind fun k45 =>
          (f_J4_size k45 A).bind fun v45 =>
          (gR 1 8 A (some this)).bind fun v49 =>
          (aR 15 A v49 x1).bind fun v53 =>
          (rcv 4 A v53).bind fun k54 =>
          (f_X3_own k54 A).bind fun v54 =>
          (gR 1 8 A (some this)).bind fun v58 =>
          (aR 15 A v58 x2).bind fun v62 =>
          (rcv 4 A v62).bind fun k63 =>
          (f_X3_own k63 A).bind fun v63 =>
          (f_J13_bitCount (v54 ^^^ v63)).bind fun v67 =>
          some (v45 - v67)

/-! SlimeNetModel.alike(II)I -/
noncomputable def f_X4_alike_14 (A : AH) : Option (Int32) :=
  some (-2 : Int32)

noncomputable def f_X4_alike_35 (A : AH) : Option (Int32) :=
  some (-4 : Int32)

noncomputable def f_X4_alike_101 (this : Nat) (x1 : Int32) (x2 : Int32) (x4 : Int32) (t0 : Int32) (t1 : Int32) (A : AH) : Option ((Int32 × Int32) ⊕ (Int32)) :=
  some (.inl ((t1 + t0), (x4 + (1 : Int32))))

noncomputable def f_X4_alike_93 (this : Nat) (x1 : Int32) (x2 : Int32) (x4 : Int32) (t0 : Int32) (t1 : Int32) (t2 : Int32) (A : AH) : Option ((Int32 × Int32) ⊕ (Int32)) :=
  if t1 = t0 then
    f_X4_alike_101 this x1 x2 x4 (1 : Int32) t2 A
  else
    f_X4_alike_101 this x1 x2 x4 (0 : Int32) t2 A

noncomputable def f_X4_alike_73 (this : Nat) (x1 : Int32) (x2 : Int32) (x4 : Int32) (t0 : Int32) (t1 : Int32) (A : AH) : Option ((Int32 × Int32) ⊕ (Int32)) :=
  (gR 5 52 A (some this)).bind fun v74 =>
  (aI 10 A v74 (((10 : Int32) * x2) + x4)).bind fun v84 =>
  if v84 ≤ 0 then
    f_X4_alike_93 this x1 x2 x4 (0 : Int32) t0 t1 A
  else
    f_X4_alike_93 this x1 x2 x4 (1 : Int32) t0 t1 A

noncomputable def s_X4_alike_43 (this : Nat) (x1 : Int32) (x2 : Int32) (A : AH) (st : Int32 × Int32) : Option ((Int32 × Int32) ⊕ (Int32)) := match st with
  | (x3, x4) =>
  (gI 5 11 A (some this)).bind fun v46 =>
  if v46 ≤ x4 then
    some (.inr x3)
  else
    (gR 5 52 A (some this)).bind fun v54 =>
    (aI 10 A v54 (((10 : Int32) * x1) + x4)).bind fun v64 =>
    if v64 ≤ 0 then
      f_X4_alike_73 this x1 x2 x4 (0 : Int32) x3 A
    else
      f_X4_alike_73 this x1 x2 x4 (1 : Int32) x3 A

noncomputable def l_X4_alike_43 (this : Nat) (x1 : Int32) (x2 : Int32) (x3 : Int32) (x4 : Int32) (A : AH) : Option (Int32) :=
  (whl (s_X4_alike_43 this x1 x2 A) (x3, x4)).bind fun e => match e with
  | x3 =>
    some x3

noncomputable def f_X4_alike (this : Nat) (x1 : Int32) (x2 : Int32) (A : AH) : Option (Int32) :=
  (f_X4_isSlot x1).bind fun v1 =>
  if v1 = 0 then
    f_X4_alike_14 A
  else
    (f_X4_isSlot x2).bind fun v8 =>
    if v8 = 0 then
      f_X4_alike_14 A
    else
      (gR 5 55 A (some this)).bind fun v18 =>
      (aI 12 A v18 x1).bind fun v22 =>
      if v22 = 0 then
        f_X4_alike_35 A
      else
        (gR 5 55 A (some this)).bind fun v27 =>
        (aI 12 A v27 x2).bind fun v31 =>
        if v31 = 0 then
          f_X4_alike_35 A
        else
          l_X4_alike_43 this x1 x2 (0 : Int32) (0 : Int32) A

/-! SlimeNet.tell(I)I -/
noncomputable def f_X0_tell_81 (this : Nat) (x1 : Int32) (x2 : Int32) (x3 : Int32) (A : AH) : Option ((Int32 × Int32 × AH) ⊕ (Int32 × AH)) :=
  some (.inl (x2, (x3 + (1 : Int32)), A))

noncomputable def s_X0_tell_26 (this : Nat) (x1 : Int32) (st : Int32 × Int32 × AH) : Option ((Int32 × Int32 × AH) ⊕ (Int32 × AH)) := match st with
  | (x2, x3, A) =>
  if (10 : Int32) ≤ x3 then
    some (.inr (x2, A))
  else
    (gR 1 8 A (some this)).bind fun v33 =>
    (aR 15 A v33 x1).bind fun v37 =>
    (gR 4 2 A v37).bind fun v38 =>
    (aI 10 A v38 x3).bind fun v42 =>
    (gR 1 6 A (some this)).bind fun v44 =>
    (gR 4 2 A v44).bind fun v47 =>
    (aI 10 A v47 x3).bind fun v51 =>
    if v51 < v42 then
      (gR 1 6 A (some this)).bind fun v59 =>
      (gR 4 2 A v59).bind fun v62 =>
      (gR 1 8 A (some this)).bind fun v67 =>
      (aR 15 A v67 x1).bind fun v71 =>
      (gR 4 2 A v71).bind fun v72 =>
      (aI 10 A v72 x3).bind fun v76 =>
      (sI A v62 x3 v76).bind fun A77 =>
      f_X0_tell_81 this x1 (x2 + (1 : Int32)) x3 A77
    else
      f_X0_tell_81 this x1 x2 x3 A

noncomputable def l_X0_tell_26 (this : Nat) (x1 : Int32) (x2 : Int32) (x3 : Int32) (A : AH) : Option (Int32 × AH) :=
  (whl (s_X0_tell_26 this x1) (x2, x3, A)).bind fun e => match e with
  | (x2, A) =>
    some (x2, A)

noncomputable def f_X0_tell (this : Nat) (x1 : Int32) (A : AH) : Option (Int32 × AH) :=
  (f_X0_isSlot x1).bind fun v1 =>
  if v1 = 0 then
    some ((-2 : Int32), A)
  else
    (gR 1 9 A (some this)).bind fun v11 =>
    (aI 12 A v11 x1).bind fun v15 =>
    if v15 = 0 then
      some ((-4 : Int32), A)
    else
      l_X0_tell_26 this x1 (0 : Int32) (0 : Int32) A

/-! SlimeNetModel.tell(I)I -/
noncomputable def f_X4_tell_77 (this : Nat) (x1 : Int32) (x2 : Int32) (x3 : Int32) (A : AH) : Option ((Int32 × Int32 × AH) ⊕ (Int32 × AH)) :=
  some (.inl (x2, (x3 + (1 : Int32)), A))

noncomputable def s_X4_tell_26 (this : Nat) (x1 : Int32) (st : Int32 × Int32 × AH) : Option ((Int32 × Int32 × AH) ⊕ (Int32 × AH)) := match st with
  | (x2, x3, A) =>
  (gI 5 11 A (some this)).bind fun v28 =>
  if v28 ≤ x3 then
    some (.inr (x2, A))
  else
    (gR 5 53 A (some this)).bind fun v35 =>
    (aI 10 A v35 (((10 : Int32) * x1) + x3)).bind fun v44 =>
    (gR 5 47 A (some this)).bind fun v46 =>
    (aI 10 A v46 x3).bind fun v50 =>
    if v50 < v44 then
      (gR 5 47 A (some this)).bind fun v58 =>
      (gR 5 53 A (some this)).bind fun v63 =>
      (aI 10 A v63 (((10 : Int32) * x1) + x3)).bind fun v72 =>
      (sI A v58 x3 v72).bind fun A73 =>
      f_X4_tell_77 this x1 (x2 + (1 : Int32)) x3 A73
    else
      f_X4_tell_77 this x1 x2 x3 A

noncomputable def l_X4_tell_26 (this : Nat) (x1 : Int32) (x2 : Int32) (x3 : Int32) (A : AH) : Option (Int32 × AH) :=
  (whl (s_X4_tell_26 this x1) (x2, x3, A)).bind fun e => match e with
  | (x2, A) =>
    some (x2, A)

noncomputable def f_X4_tell (this : Nat) (x1 : Int32) (A : AH) : Option (Int32 × AH) :=
  (f_X4_isSlot x1).bind fun v1 =>
  if v1 = 0 then
    some ((-2 : Int32), A)
  else
    (gR 5 55 A (some this)).bind fun v11 =>
    (aI 12 A v11 x1).bind fun v15 =>
    if v15 = 0 then
      some ((-4 : Int32), A)
    else
      l_X4_tell_26 this x1 (0 : Int32) (0 : Int32) A

/-! SlimeNet.own()I -/
noncomputable def f_X0_own (this : Nat) (A : AH) : Option (Int32) :=
  (gR 1 6 A (some this)).bind fun v1 =>
  (rcv 4 A v1).bind fun k4 =>
  (f_X3_own k4 A).bind fun v4 =>
  some v4

/-! SlimeNetModel.own()I -/
noncomputable def f_X4_own (this : Nat) (A : AH) : Option (Int32) :=
  (gR 5 46 A (some this)).bind fun v1 =>
  (gI 5 11 A (some this)).bind fun v5 =>
  (f_X4_widths v1 v5 A).bind fun v8 =>
  some v8

/-! SlimeNet.isNet(I)Z -/
noncomputable def f_X0_isNet (this : Nat) (x1 : Int32) (A : AH) : Option (Int32) :=
  (gR 1 5 A (some this)).bind fun v4 =>
  (gR 3 1 A v4).bind fun v7 =>
  (rcv 8 A v7).bind fun k10 =>
  (f_J4_size k10 A).bind fun v10 =>
  (f_X0_in x1 (0 : Int32) (((1 : Int32) <<< (v10 &&& 31)) - (1 : Int32))).bind fun v16 =>
  (ckZ v16).bind fun _ =>
  some v16

/-! SlimeNet$Plate.length(I)I -/
noncomputable def f_X2_length_43 (this : Nat) (x1 : Int32) (x3 : Int32) (t0 : Int32) (t1 : Int32) (A : AH) : Option ((Int32 × Int32) ⊕ (Int32)) :=
  some (.inl ((t1 + t0), (x3 + (1 : Int32))))

noncomputable def s_X2_length_4 (this : Nat) (x1 : Int32) (A : AH) (st : Int32 × Int32) : Option ((Int32 × Int32) ⊕ (Int32)) := match st with
  | (x2, x3) =>
  (gR 3 1 A (some this)).bind fun v6 =>
  (rcv 8 A v6).bind fun k9 =>
  (f_J4_size k9 A).bind fun v9 =>
  if v9 ≤ x3 then
    some (.inr x2)
  else
    if ((x1 >>> (x3 &&& 31)) &&& (1 : Int32)) = (1 : Int32) then
      (gR 3 1 A (some this)).bind fun v26 =>
      (rcv 8 A v26).bind fun k30 =>
      (f_J4_get k30 x3 A).bind fun v30 =>
      (cst 7 A v30).bind fun _ =>
      (gI 7 3 A v30).bind fun v36 =>
      f_X2_length_43 this x1 x3 v36 x2 A
    else
      f_X2_length_43 this x1 x3 (0 : Int32) x2 A

noncomputable def l_X2_length_4 (this : Nat) (x1 : Int32) (x2 : Int32) (x3 : Int32) (A : AH) : Option (Int32) :=
  (whl (s_X2_length_4 this x1 A) (x2, x3)).bind fun e => match e with
  | x2 =>
    some x2

noncomputable def f_X2_length (this : Nat) (x1 : Int32) (A : AH) : Option (Int32) :=
  l_X2_length_4 this x1 (0 : Int32) (0 : Int32) A

/-! SlimeNet$Plate.joins(I)Z -/
noncomputable def s_X2_joins_23 (this : Nat) (x2 : Int32) (A : AH) (st : Int32) : Option ((Int32) ⊕ ((Unit) ⊕ (Unit))) := match st with
  | x3 =>
  (gI 3 5 A (some this)).bind fun v25 =>
  if v25 ≤ x3 then
    some (.inr (.inr ()))
  else
    (gR 3 2 A (some this)).bind fun v33 =>
    (aI 10 A v33 x3).bind fun v37 =>
    if ((x2 >>> (v37 &&& 31)) &&& (1 : Int32)) = 0 then
      some (.inr (.inl ()))
    else
      some (.inl (x3 + (1 : Int32)))

noncomputable def l_X2_joins_23 (this : Nat) (x2 : Int32) (x3 : Int32) (A : AH) : Option (Int32) :=
  (whl (s_X2_joins_23 this x2 A) x3).bind fun e => match e with
  | (.inl ()) =>
    (some (0 : Int32))
  | (.inr ()) =>
    (some (1 : Int32))

noncomputable def f_X2_joins (this : Nat) (x1 : Int32) (A : AH) : Option (Int32) :=
  (gI 3 5 A (some this)).bind fun v1 =>
  if v1 = 0 then
    some (1 : Int32)
  else
    (gR 3 2 A (some this)).bind fun v12 =>
    (aI 10 A v12 (0 : Int32)).bind fun v16 =>
    (rcv 3 A (some this)).bind fun k17 =>
    (f_X2_joined k17 x1 v16 A).bind fun v17 =>
    l_X2_joins_23 this v17 (1 : Int32) A

/-! SlimeNet$Plate.sure(I)I -/
noncomputable def f_X2_sure_54 (this : Nat) (x1 : Int32) (x3 : Int32) (t0 : Int32) (t1 : Int32) (A : AH) : Option ((Int32 × Int32) ⊕ (Int32)) :=
  some (.inl ((t1 + t0), (x3 + (1 : Int32))))

noncomputable def f_X2_sure_53 (this : Nat) (x1 : Int32) (x3 : Int32) (t0 : Int32) (A : AH) : Option ((Int32 × Int32) ⊕ (Int32)) :=
  f_X2_sure_54 this x1 x3 (0 : Int32) t0 A

noncomputable def s_X2_sure_14 (this : Nat) (x1 : Int32) (A : AH) (st : Int32 × Int32) : Option ((Int32 × Int32) ⊕ (Int32)) := match st with
  | (x2, x3) =>
  (gR 3 1 A (some this)).bind fun v16 =>
  (rcv 8 A v16).bind fun k19 =>
  (f_J4_size k19 A).bind fun v19 =>
  if v19 ≤ x3 then
    some (.inr x2)
  else
    if ((x1 >>> (x3 &&& 31)) &&& (1 : Int32)) = (1 : Int32) then
      (rcv 3 A (some this)).bind fun k43 =>
      (f_X2_joins k43 (x1 &&& (((1 : Int32) <<< (x3 &&& 31)) ^^^ (-1 : Int32))) A).bind fun v43 =>
      if v43 = 0 then
        f_X2_sure_53 this x1 x3 x2 A
      else
        f_X2_sure_54 this x1 x3 (1 : Int32) x2 A
    else
      f_X2_sure_53 this x1 x3 x2 A

noncomputable def l_X2_sure_14 (this : Nat) (x1 : Int32) (x2 : Int32) (x3 : Int32) (A : AH) : Option (Int32) :=
  (whl (s_X2_sure_14 this x1 A) (x2, x3)).bind fun e => match e with
  | x2 =>
    some x2

noncomputable def f_X2_sure (this : Nat) (x1 : Int32) (A : AH) : Option (Int32) :=
  (rcv 3 A (some this)).bind fun k2 =>
  (f_X2_joins k2 x1 A).bind fun v2 =>
  if v2 = 0 then
    some (0 : Int32)
  else
    l_X2_sure_14 this x1 (0 : Int32) (0 : Int32) A

/-! SlimeNet$Plate.way(III)I -/
noncomputable def f_X2_way_148 (this : Nat) (x1 : Int32) (x3 : Int32) (x4 : Int32) (x5 : Int32) (A : AH) : Option ((Int32 × AH) ⊕ (AH)) :=
  some (.inl ((x5 + (1 : Int32)), A))

noncomputable def s_X2_way_32 (this : Nat) (x1 : Int32) (x3 : Int32) (x4 : Int32) (st : Int32 × AH) : Option ((Int32 × AH) ⊕ (AH)) := match st with
  | (x5, A) =>
  (gR 3 1 A (some this)).bind fun v35 =>
  (rcv 8 A v35).bind fun k38 =>
  (f_J4_size k38 A).bind fun v38 =>
  if v38 ≤ x5 then
    some (.inr A)
  else
    (gR 3 1 A (some this)).bind fun v45 =>
    (rcv 8 A v45).bind fun k50 =>
    (f_J4_get k50 x5 A).bind fun v50 =>
    (cst 7 A v50).bind fun _ =>
    if ((x1 >>> (x5 &&& 31)) &&& (1 : Int32)) = 0 then
      f_X2_way_148 this x1 x3 x4 x5 A
    else
      (gR 3 3 A (some this)).bind fun v71 =>
      (gI 7 2 A v50).bind fun v76 =>
      (gR 3 3 A (some this)).bind fun v80 =>
      (gI 7 2 A v50).bind fun v85 =>
      (aI 10 A v80 v85).bind fun v88 =>
      (gR 3 3 A (some this)).bind fun v90 =>
      (gI 7 1 A v50).bind fun v95 =>
      (aI 10 A v90 v95).bind fun v98 =>
      (gI 7 3 A v50).bind fun v101 =>
      (sI A v71 v76 (mnI v88 (v98 + v101))).bind fun A108 =>
      (gR 3 3 A108 (some this)).bind fun v110 =>
      (gI 7 1 A108 v50).bind fun v115 =>
      (gR 3 3 A108 (some this)).bind fun v119 =>
      (gI 7 1 A108 v50).bind fun v124 =>
      (aI 10 A108 v119 v124).bind fun v127 =>
      (gR 3 3 A108 (some this)).bind fun v129 =>
      (gI 7 2 A108 v50).bind fun v134 =>
      (aI 10 A108 v129 v134).bind fun v137 =>
      (gI 7 3 A108 v50).bind fun v140 =>
      (sI A108 v110 v115 (mnI v127 (v137 + v140))).bind fun A147 =>
      f_X2_way_148 this x1 x3 x4 x5 A147

noncomputable def l_X2_way_32 (this : Nat) (x1 : Int32) (x3 : Int32) (x4 : Int32) (x5 : Int32) (A : AH) : Option ((Int32 × AH) ⊕ (AH)) :=
  (whl (s_X2_way_32 this x1 x3 x4) (x5, A)).bind fun e => match e with
  | A =>
    some (.inl ((x4 + (1 : Int32)), A))

noncomputable def s_X2_way_20 (this : Nat) (x1 : Int32) (x3 : Int32) (st : Int32 × AH) : Option ((Int32 × AH) ⊕ (AH)) := match st with
  | (x4, A) =>
  (gI 3 4 A (some this)).bind fun v23 =>
  if v23 ≤ x4 then
    some (.inr A)
  else
    l_X2_way_32 this x1 x3 x4 (0 : Int32) A

noncomputable def l_X2_way_20 (this : Nat) (x1 : Int32) (x3 : Int32) (x4 : Int32) (A : AH) : Option (Int32 × AH) :=
  (whl (s_X2_way_20 this x1 x3) (x4, A)).bind fun e => match e with
  | A =>
    (gR 3 3 A (some this)).bind fun v161 =>
    (aI 10 A v161 x3).bind fun v165 =>
    some (v165, A)

noncomputable def f_X2_way (this : Nat) (x1 : Int32) (x2 : Int32) (x3 : Int32) (A : AH) : Option (Int32 × AH) :=
  (gR 3 3 A (some this)).bind fun v1 =>
  (f_J12_fill_3 v1 (1000 : Int32) A).bind fun A7 =>
  (gR 3 3 A7 (some this)).bind fun v11 =>
  (sI A7 v11 x2 (0 : Int32)).bind fun A16 =>
  l_X2_way_20 this x1 x3 (0 : Int32) A16

/-! SlimeNet$Plate.ways(I)I -/
noncomputable def s_X2_ways_17 (this : Nat) (x1 : Int32) (x3 : Int32) (st : Int32 × Int32 × AH) : Option ((Int32 × Int32 × AH) ⊕ (Int32 × AH)) := match st with
  | (x2, x4, A) =>
  (gI 3 5 A (some this)).bind fun v20 =>
  if v20 ≤ x4 then
    some (.inr (x2, A))
  else
    (gR 3 2 A (some this)).bind fun v30 =>
    (aI 10 A v30 x3).bind fun v34 =>
    (gR 3 2 A (some this)).bind fun v36 =>
    (aI 10 A v36 x4).bind fun v41 =>
    (rcv 3 A (some this)).bind fun k42 =>
    (f_X2_way k42 x1 v34 v41 A).bind fun q42 => match q42 with
    | (v42, A42) =>
    some (.inl ((x2 + v42), (x4 + (1 : Int32)), A42))

noncomputable def l_X2_ways_17 (this : Nat) (x1 : Int32) (x3 : Int32) (x2 : Int32) (x4 : Int32) (A : AH) : Option ((Int32 × Int32 × AH) ⊕ (Int32 × AH)) :=
  (whl (s_X2_ways_17 this x1 x3) (x2, x4, A)).bind fun e => match e with
  | (x2, A) =>
    some (.inl (x2, (x3 + (1 : Int32)), A))

noncomputable def s_X2_ways_4 (this : Nat) (x1 : Int32) (st : Int32 × Int32 × AH) : Option ((Int32 × Int32 × AH) ⊕ (Int32 × AH)) := match st with
  | (x2, x3, A) =>
  (gI 3 5 A (some this)).bind fun v6 =>
  if v6 ≤ x3 then
    some (.inr (x2, A))
  else
    l_X2_ways_17 this x1 x3 x2 (x3 + (1 : Int32)) A

noncomputable def l_X2_ways_4 (this : Nat) (x1 : Int32) (x2 : Int32) (x3 : Int32) (A : AH) : Option (Int32 × AH) :=
  (whl (s_X2_ways_4 this x1) (x2, x3, A)).bind fun e => match e with
  | (x2, A) =>
    some (x2, A)

noncomputable def f_X2_ways (this : Nat) (x1 : Int32) (A : AH) : Option (Int32 × AH) :=
  l_X2_ways_4 this x1 (0 : Int32) (0 : Int32) A

/-! SlimeNet.isGood(I)Z -/
noncomputable def f_X0_isGood_90 (this : Nat) (x1 : Int32) (x2 : Int32) (A : AH) : Option ((Int32) ⊕ ((Unit) ⊕ (Unit))) :=
  some (.inl (x2 + (1 : Int32)))

noncomputable def f_X0_isGood_88 (A : AH) : Option (Int32) :=
  some (0 : Int32)

noncomputable def s_X0_isGood_2 (this : Nat) (x1 : Int32) (A : AH) (st : Int32) : Option ((Int32) ⊕ ((Unit) ⊕ (Unit))) := match st with
  | x2 =>
  (gI 1 16 A (some this)).bind fun v4 =>
  if v4 ≤ x2 then
    some (.inr (.inr ()))
  else
    (gR 1 13 A (some this)).bind fun v11 =>
    (aI 10 A v11 x2).bind fun v15 =>
    if v15 = (-1 : Int32) then
      f_X0_isGood_90 this x1 x2 A
    else
      (gR 1 13 A (some this)).bind fun v21 =>
      (aI 10 A v21 x2).bind fun v25 =>
      (gR 1 13 A (some this)).bind fun v27 =>
      (aI 10 A v27 x1).bind fun v31 =>
      if v31 < v25 then
        f_X0_isGood_90 this x1 x2 A
      else
        (gR 1 14 A (some this)).bind fun v36 =>
        (aI 10 A v36 x2).bind fun v40 =>
        (gR 1 14 A (some this)).bind fun v42 =>
        (aI 10 A v42 x1).bind fun v46 =>
        if v46 ≤ v40 then
          (gR 1 13 A (some this)).bind fun v54 =>
          (aI 10 A v54 x2).bind fun v58 =>
          (gR 1 13 A (some this)).bind fun v60 =>
          (aI 10 A v60 x1).bind fun v64 =>
          if v58 < v64 then
            some (.inr (.inl ()))
          else
            (gR 1 14 A (some this)).bind fun v69 =>
            (aI 10 A v69 x2).bind fun v73 =>
            (gR 1 14 A (some this)).bind fun v75 =>
            (aI 10 A v75 x1).bind fun v79 =>
            if v79 < v73 then
              some (.inr (.inl ()))
            else
              if x1 ≤ x2 then
                f_X0_isGood_90 this x1 x2 A
              else
                some (.inr (.inl ()))
        else
          f_X0_isGood_90 this x1 x2 A

noncomputable def l_X0_isGood_2 (this : Nat) (x1 : Int32) (x2 : Int32) (A : AH) : Option (Int32) :=
  (whl (s_X0_isGood_2 this x1 A) x2).bind fun e => match e with
  | (.inl ()) =>
    (f_X0_isGood_88 A)
  | (.inr ()) =>
    (some (1 : Int32))

noncomputable def f_X0_isGood (this : Nat) (x1 : Int32) (A : AH) : Option (Int32) :=
  l_X0_isGood_2 this x1 (0 : Int32) A

/-! SlimeNet.insert(I)V -/
noncomputable def f_X0_insert_51 (this : Nat) (x1 : Int32) (x2 : Int32) (A : AH) : Option (AH) :=
  (gR 1 15 A (some this)).bind fun v52 =>
  (sI A v52 x2 x1).bind fun A57 =>
  (gI 1 17 A57 (some this)).bind fun v60 =>
  (pI 1 17 A57 (some this) (v60 + (1 : Int32))).bind fun A65 =>
  some A65

noncomputable def s_X0_insert_5 (this : Nat) (x1 : Int32) (st : Int32 × AH) : Option ((Int32 × AH) ⊕ (Int32 × AH)) := match st with
  | (x2, A) =>
  if x2 ≤ 0 then
    some (.inr (x2, A))
  else
    (gR 1 13 A (some this)).bind fun v10 =>
    (gR 1 15 A (some this)).bind fun v14 =>
    (aI 10 A v14 (x2 - (1 : Int32))).bind fun v20 =>
    (aI 10 A v10 v20).bind fun v21 =>
    (gR 1 13 A (some this)).bind fun v23 =>
    (aI 10 A v23 x1).bind fun v27 =>
    if v21 ≤ v27 then
      some (.inr (x2, A))
    else
      (gR 1 15 A (some this)).bind fun v32 =>
      (gR 1 15 A (some this)).bind fun v37 =>
      (aI 10 A v37 (x2 - (1 : Int32))).bind fun v43 =>
      (sI A v32 x2 v43).bind fun A44 =>
      some (.inl ((x2 + (-1 : Int32)), A44))

noncomputable def l_X0_insert_5 (this : Nat) (x1 : Int32) (x2 : Int32) (A : AH) : Option (AH) :=
  (whl (s_X0_insert_5 this x1) (x2, A)).bind fun e => match e with
  | (x2, A) =>
    f_X0_insert_51 this x1 x2 A

noncomputable def f_X0_insert (this : Nat) (x1 : Int32) (A : AH) : Option (AH) :=
  (gI 1 17 A (some this)).bind fun v1 =>
  l_X0_insert_5 this x1 v1 A

/-! SlimeNet.list()V -/
noncomputable def f_X0_list_67 (this : Nat) (x1 : Int32) (t0 : Int32) (t1 : Int32) (t2 : Option Nat) (A : AH) : Option ((Int32 × AH) ⊕ (AH)) :=
  (sI A t2 t1 t0).bind fun A67 =>
  (gR 1 14 A67 (some this)).bind fun v69 =>
  (gR 1 5 A67 (some this)).bind fun v74 =>
  (rcv 3 A67 v74).bind fun k78 =>
  (f_X2_sure k78 x1 A67).bind fun v78 =>
  (sI A67 v69 x1 v78).bind fun A81 =>
  some (.inl ((x1 + (1 : Int32)), A81))

noncomputable def f_X0_list_126 (this : Nat) (x1 : Int32) (A : AH) : Option ((Int32 × AH) ⊕ (AH)) :=
  some (.inl ((x1 + (1 : Int32)), A))

noncomputable def s_X0_list_95 (this : Nat) (st : Int32 × AH) : Option ((Int32 × AH) ⊕ (AH)) := match st with
  | (x1, A) =>
  (gI 1 16 A (some this)).bind fun v97 =>
  if v97 ≤ x1 then
    some (.inr A)
  else
    (gR 1 13 A (some this)).bind fun v104 =>
    (aI 10 A v104 x1).bind fun v108 =>
    if v108 = (-1 : Int32) then
      f_X0_list_126 this x1 A
    else
      (rcv 1 A (some this)).bind fun k115 =>
      (f_X0_isGood k115 x1 A).bind fun v115 =>
      if v115 = 0 then
        f_X0_list_126 this x1 A
      else
        (rcv 1 A (some this)).bind fun k123 =>
        (f_X0_insert k123 x1 A).bind fun A123 =>
        f_X0_list_126 this x1 A123

noncomputable def l_X0_list_95 (this : Nat) (x1 : Int32) (A : AH) : Option (AH) :=
  (whl (s_X0_list_95 this) (x1, A)).bind fun e => match e with
  | A =>
    some A

noncomputable def s_X0_list_31 (this : Nat) (st : Int32 × AH) : Option ((Int32 × AH) ⊕ (AH)) := match st with
  | (x1, A) =>
  (gI 1 16 A (some this)).bind fun v33 =>
  if v33 ≤ x1 then
    some (.inr A)
  else
    (gR 1 13 A (some this)).bind fun v40 =>
    (gR 1 5 A (some this)).bind fun v45 =>
    (rcv 3 A v45).bind fun k49 =>
    (f_X2_joins k49 x1 A).bind fun v49 =>
    if v49 = 0 then
      f_X0_list_67 this x1 (-1 : Int32) x1 v40 A
    else
      (gR 1 5 A (some this)).bind fun v56 =>
      (rcv 3 A v56).bind fun k60 =>
      (f_X2_length k60 x1 A).bind fun v60 =>
      f_X0_list_67 this x1 v60 x1 v40 A

noncomputable def l_X0_list_31 (this : Nat) (x1 : Int32) (A : AH) : Option (AH) :=
  (whl (s_X0_list_31 this) (x1, A)).bind fun e => match e with
  | A =>
    (pI 1 17 A (some this) (0 : Int32)).bind fun A90 =>
    l_X0_list_95 this (0 : Int32) A90

noncomputable def f_X0_list (this : Nat) (A : AH) : Option (AH) :=
  (gI 1 12 A (some this)).bind fun v1 =>
  if v1 = 0 then
    (pZ 1 12 A (some this) (1 : Int32)).bind fun A10 =>
    (gR 1 5 A10 (some this)).bind fun v16 =>
    (gR 3 1 A10 v16).bind fun v19 =>
    (rcv 8 A10 v19).bind fun k22 =>
    (f_J4_size k22 A10).bind fun v22 =>
    (pI 1 16 A10 (some this) ((1 : Int32) <<< (v22 &&& 31))).bind fun A26 =>
    l_X0_list_31 this (0 : Int32) A26
  else
    some A

/-! SlimeNet.beside(I)I -/
noncomputable def f_X0_beside_71 (this : Nat) (x1 : Int32) (x2 : Int32) (x4 : Int32) (t0 : Int32) (t1 : Int32) (A : AH) : Option ((Int32 × Int32) ⊕ (Int32)) :=
  some (.inl ((t1 + t0), (x4 + (1 : Int32))))

noncomputable def f_X0_beside_70 (this : Nat) (x1 : Int32) (x2 : Int32) (x4 : Int32) (t0 : Int32) (A : AH) : Option ((Int32 × Int32) ⊕ (Int32)) :=
  f_X0_beside_71 this x1 x2 x4 (0 : Int32) t0 A

noncomputable def s_X0_beside_18 (this : Nat) (x1 : Int32) (x2 : Int32) (A : AH) (st : Int32 × Int32) : Option ((Int32 × Int32) ⊕ (Int32)) := match st with
  | (x3, x4) =>
  (gI 1 16 A (some this)).bind fun v21 =>
  if v21 ≤ x4 then
    some (.inr x3)
  else
    (gR 1 13 A (some this)).bind fun v29 =>
    (aI 10 A v29 x4).bind fun v34 =>
    if v34 = (-1 : Int32) then
      f_X0_beside_70 this x1 x2 x4 x3 A
    else
      (gR 1 13 A (some this)).bind fun v40 =>
      (aI 10 A v40 x4).bind fun v45 =>
      if x2 < v45 then
        f_X0_beside_70 this x1 x2 x4 x3 A
      else
        (gR 1 14 A (some this)).bind fun v51 =>
        (aI 10 A v51 x4).bind fun v56 =>
        (gR 1 14 A (some this)).bind fun v58 =>
        (aI 10 A v58 x1).bind fun v62 =>
        if v56 ≤ v62 then
          f_X0_beside_70 this x1 x2 x4 x3 A
        else
          f_X0_beside_71 this x1 x2 x4 (1 : Int32) x3 A

noncomputable def l_X0_beside_18 (this : Nat) (x1 : Int32) (x2 : Int32) (x3 : Int32) (x4 : Int32) (A : AH) : Option (Int32 × AH) :=
  (whl (s_X0_beside_18 this x1 x2 A) (x3, x4)).bind fun e => match e with
  | x3 =>
    some (x3, A)

noncomputable def f_X0_beside (this : Nat) (x1 : Int32) (A : AH) : Option (Int32 × AH) :=
  (rcv 1 A (some this)).bind fun k1 =>
  (f_X0_list k1 A).bind fun A1 =>
  (gR 1 5 A1 (some this)).bind fun v5 =>
  (rcv 3 A1 v5).bind fun k9 =>
  (f_X2_length k9 x1 A1).bind fun v9 =>
  l_X0_beside_18 this x1 v9 (0 : Int32) (0 : Int32) A1

/-! SlimeNet.net(II)I -/
noncomputable def f_X0_net_17 (A : AH) : Option (Int32 × AH) :=
  some ((-2 : Int32), A)

noncomputable def f_X0_net_77 (t0 : Int32) (A : AH) : Option (Int32 × AH) :=
  some (t0, A)

noncomputable def f_X0_net_110 (t0 : Int32) (A : AH) : Option (Int32 × AH) :=
  some (t0, A)

noncomputable def f_X0_net (this : Nat) (x1 : Int32) (x2 : Int32) (A : AH) : Option (Int32 × AH) :=
  (rcv 1 A (some this)).bind fun k2 =>
  (f_X0_isNet k2 x1 A).bind fun v2 =>
  if v2 = 0 then
    f_X0_net_17 A
  else
    (f_X0_in x2 (0 : Int32) (4 : Int32)).bind fun v11 =>
    if v11 = 0 then
      f_X0_net_17 A
    else
      if x2.toInt < 0 ∨ 3 < x2.toInt then
        (rcv 1 A (some this)).bind fun k113 =>
        (f_X0_beside k113 x1 A).bind fun q113 => match q113 with
        | (v113, A113) =>
        some (v113, A113)
      else if x2 = (0 : Int32) then
        (gR 1 5 A (some this)).bind fun v53 =>
        (rcv 3 A v53).bind fun k57 =>
        (f_X2_length k57 x1 A).bind fun v57 =>
        some (v57, A)
      else if x2 = (1 : Int32) then
        (gR 1 5 A (some this)).bind fun v62 =>
        (rcv 3 A v62).bind fun k66 =>
        (f_X2_joins k66 x1 A).bind fun v66 =>
        if v66 = 0 then
          f_X0_net_77 (0 : Int32) A
        else
          f_X0_net_77 (1 : Int32) A
      else if x2 = (2 : Int32) then
        (gR 1 5 A (some this)).bind fun v79 =>
        (rcv 3 A v79).bind fun k83 =>
        (f_X2_sure k83 x1 A).bind fun v83 =>
        some (v83, A)
      else if x2 = (3 : Int32) then
        (gR 1 5 A (some this)).bind fun v88 =>
        (rcv 3 A v88).bind fun k92 =>
        (f_X2_joins k92 x1 A).bind fun v92 =>
        if v92 = 0 then
          f_X0_net_110 (-1 : Int32) A
        else
          (gR 1 5 A (some this)).bind fun v99 =>
          (rcv 3 A v99).bind fun k103 =>
          (f_X2_ways k103 x1 A).bind fun q103 => match q103 with
          | (v103, A103) =>
          f_X0_net_110 v103 A103
      else
        none

/-! SlimeNetModel.isNet(I)Z -/
noncomputable def f_X4_isNet (this : Nat) (x1 : Int32) (A : AH) : Option (Int32) :=
  (gI 5 11 A (some this)).bind fun v5 =>
  (f_X4_in (Int32.toInt64 x1) (0 : Int64) (((1 : Int64) <<< (Int32.toInt64 v5 &&& 63)) - (1 : Int64))).bind fun v11 =>
  (ckZ v11).bind fun _ =>
  some v11

/-! SlimeNetModel.lengthOf(I)I -/
noncomputable def f_X4_lengthOf_32 (this : Nat) (x1 : Int32) (x3 : Int32) (t0 : Int32) (t1 : Int32) (A : AH) : Option ((Int32 × Int32) ⊕ (Int32)) :=
  some (.inl ((t1 + t0), (x3 + (1 : Int32))))

noncomputable def s_X4_lengthOf_4 (this : Nat) (x1 : Int32) (A : AH) (st : Int32 × Int32) : Option ((Int32 × Int32) ⊕ (Int32)) := match st with
  | (x2, x3) =>
  (gI 5 11 A (some this)).bind fun v6 =>
  if v6 ≤ x3 then
    some (.inr x2)
  else
    if ((x1 >>> (x3 &&& 31)) &&& (1 : Int32)) = (1 : Int32) then
      (gR 5 34 A (some this)).bind fun v23 =>
      (aI 10 A v23 x3).bind fun v27 =>
      f_X4_lengthOf_32 this x1 x3 v27 x2 A
    else
      f_X4_lengthOf_32 this x1 x3 (0 : Int32) x2 A

noncomputable def l_X4_lengthOf_4 (this : Nat) (x1 : Int32) (x2 : Int32) (x3 : Int32) (A : AH) : Option (Int32) :=
  (whl (s_X4_lengthOf_4 this x1 A) (x2, x3)).bind fun e => match e with
  | x2 =>
    some x2

noncomputable def f_X4_lengthOf (this : Nat) (x1 : Int32) (A : AH) : Option (Int32) :=
  l_X4_lengthOf_4 this x1 (0 : Int32) (0 : Int32) A

/-! SlimeNetModel.joins(I)Z -/
noncomputable def s_X4_joins_24 (this : Nat) (x2 : Int32) (A : AH) (st : Int32) : Option ((Int32) ⊕ ((Unit) ⊕ (Unit))) := match st with
  | x3 =>
  (gI 5 12 A (some this)).bind fun v26 =>
  if v26 ≤ x3 then
    some (.inr (.inr ()))
  else
    (gR 5 35 A (some this)).bind fun v34 =>
    (aI 10 A v34 x3).bind fun v38 =>
    if ((x2 >>> (v38 &&& 31)) &&& (1 : Int32)) = 0 then
      some (.inr (.inl ()))
    else
      some (.inl (x3 + (1 : Int32)))

noncomputable def l_X4_joins_24 (this : Nat) (x2 : Int32) (x3 : Int32) (A : AH) : Option (Int32) :=
  (whl (s_X4_joins_24 this x2 A) x3).bind fun e => match e with
  | (.inl ()) =>
    (some (0 : Int32))
  | (.inr ()) =>
    (some (1 : Int32))

noncomputable def f_X4_joins (this : Nat) (x1 : Int32) (A : AH) : Option (Int32) :=
  (gI 5 12 A (some this)).bind fun v1 =>
  if (2 : Int32) ≤ v1 then
    (gR 5 35 A (some this)).bind fun v13 =>
    (aI 10 A v13 (0 : Int32)).bind fun v17 =>
    (rcv 5 A (some this)).bind fun k18 =>
    (f_X4_reach k18 x1 v17 A).bind fun v18 =>
    l_X4_joins_24 this v18 (1 : Int32) A
  else
    some (1 : Int32)

/-! SlimeNetModel.sureOf(I)I -/
noncomputable def f_X4_sureOf_51 (this : Nat) (x1 : Int32) (x3 : Int32) (t0 : Int32) (t1 : Int32) (A : AH) : Option ((Int32 × Int32) ⊕ (Int32)) :=
  some (.inl ((t1 + t0), (x3 + (1 : Int32))))

noncomputable def f_X4_sureOf_50 (this : Nat) (x1 : Int32) (x3 : Int32) (t0 : Int32) (A : AH) : Option ((Int32 × Int32) ⊕ (Int32)) :=
  f_X4_sureOf_51 this x1 x3 (0 : Int32) t0 A

noncomputable def s_X4_sureOf_14 (this : Nat) (x1 : Int32) (A : AH) (st : Int32 × Int32) : Option ((Int32 × Int32) ⊕ (Int32)) := match st with
  | (x2, x3) =>
  (gI 5 11 A (some this)).bind fun v16 =>
  if v16 ≤ x3 then
    some (.inr x2)
  else
    if ((x1 >>> (x3 &&& 31)) &&& (1 : Int32)) = (1 : Int32) then
      (rcv 5 A (some this)).bind fun k40 =>
      (f_X4_joins k40 (x1 &&& (((1 : Int32) <<< (x3 &&& 31)) ^^^ (-1 : Int32))) A).bind fun v40 =>
      if v40 = 0 then
        f_X4_sureOf_50 this x1 x3 x2 A
      else
        f_X4_sureOf_51 this x1 x3 (1 : Int32) x2 A
    else
      f_X4_sureOf_50 this x1 x3 x2 A

noncomputable def l_X4_sureOf_14 (this : Nat) (x1 : Int32) (x2 : Int32) (x3 : Int32) (A : AH) : Option (Int32) :=
  (whl (s_X4_sureOf_14 this x1 A) (x2, x3)).bind fun e => match e with
  | x2 =>
    some x2

noncomputable def f_X4_sureOf (this : Nat) (x1 : Int32) (A : AH) : Option (Int32) :=
  (rcv 5 A (some this)).bind fun k2 =>
  (f_X4_joins k2 x1 A).bind fun v2 =>
  if v2 = 0 then
    some (0 : Int32)
  else
    l_X4_sureOf_14 this x1 (0 : Int32) (0 : Int32) A

/-! SlimeNetModel.way(III)I -/
noncomputable def f_X4_way_29 (this : Nat) (x1 : Int32) (x2 : Int32) (x3 : Int32) (x4 : Int32) (t0 : Int32) (t1 : Int32) (t2 : Option Nat) (A : AH) : Option ((Int32 × AH) ⊕ (AH)) :=
  (sI A t2 t1 t0).bind fun A29 =>
  some (.inl ((x4 + (1 : Int32)), A29))

noncomputable def f_X4_way_166 (this : Nat) (x1 : Int32) (x3 : Int32) (x4 : Int32) (x5 : Int32) (A : AH) : Option ((Int32 × AH) ⊕ (AH)) :=
  some (.inl ((x5 + (1 : Int32)), A))

noncomputable def s_X4_way_51 (this : Nat) (x1 : Int32) (x3 : Int32) (x4 : Int32) (st : Int32 × AH) : Option ((Int32 × AH) ⊕ (AH)) := match st with
  | (x5, A) =>
  (gI 5 11 A (some this)).bind fun v54 =>
  if v54 ≤ x5 then
    some (.inr A)
  else
    if ((x1 >>> (x5 &&& 31)) &&& (1 : Int32)) = 0 then
      f_X4_way_166 this x1 x3 x4 x5 A
    else
      (gR 5 56 A (some this)).bind fun v73 =>
      (gR 5 32 A (some this)).bind fun v77 =>
      (aI 10 A v77 x5).bind fun v82 =>
      (gR 5 56 A (some this)).bind fun v84 =>
      (gR 5 32 A (some this)).bind fun v88 =>
      (aI 10 A v88 x5).bind fun v93 =>
      (aI 10 A v84 v93).bind fun v94 =>
      (gR 5 56 A (some this)).bind fun v96 =>
      (gR 5 33 A (some this)).bind fun v100 =>
      (aI 10 A v100 x5).bind fun v105 =>
      (aI 10 A v96 v105).bind fun v106 =>
      (gR 5 34 A (some this)).bind fun v108 =>
      (aI 10 A v108 x5).bind fun v113 =>
      (sI A v73 v82 (mnI v94 (v106 + v113))).bind fun A118 =>
      (gR 5 56 A118 (some this)).bind fun v120 =>
      (gR 5 33 A118 (some this)).bind fun v124 =>
      (aI 10 A118 v124 x5).bind fun v129 =>
      (gR 5 56 A118 (some this)).bind fun v131 =>
      (gR 5 33 A118 (some this)).bind fun v135 =>
      (aI 10 A118 v135 x5).bind fun v140 =>
      (aI 10 A118 v131 v140).bind fun v141 =>
      (gR 5 56 A118 (some this)).bind fun v143 =>
      (gR 5 32 A118 (some this)).bind fun v147 =>
      (aI 10 A118 v147 x5).bind fun v152 =>
      (aI 10 A118 v143 v152).bind fun v153 =>
      (gR 5 34 A118 (some this)).bind fun v155 =>
      (aI 10 A118 v155 x5).bind fun v160 =>
      (sI A118 v120 v129 (mnI v141 (v153 + v160))).bind fun A165 =>
      f_X4_way_166 this x1 x3 x4 x5 A165

noncomputable def l_X4_way_51 (this : Nat) (x1 : Int32) (x3 : Int32) (x4 : Int32) (x5 : Int32) (A : AH) : Option ((Int32 × AH) ⊕ (AH)) :=
  (whl (s_X4_way_51 this x1 x3 x4) (x5, A)).bind fun e => match e with
  | A =>
    some (.inl ((x4 + (1 : Int32)), A))

noncomputable def s_X4_way_39 (this : Nat) (x1 : Int32) (x3 : Int32) (st : Int32 × AH) : Option ((Int32 × AH) ⊕ (AH)) := match st with
  | (x4, A) =>
  (gI 5 10 A (some this)).bind fun v42 =>
  if v42 ≤ x4 then
    some (.inr A)
  else
    l_X4_way_51 this x1 x3 x4 (0 : Int32) A

noncomputable def l_X4_way_39 (this : Nat) (x1 : Int32) (x3 : Int32) (x4 : Int32) (A : AH) : Option (Int32 × AH) :=
  (whl (s_X4_way_39 this x1 x3) (x4, A)).bind fun e => match e with
  | A =>
    (gR 5 56 A (some this)).bind fun v179 =>
    (aI 10 A v179 x3).bind fun v183 =>
    some (v183, A)

noncomputable def s_X4_way_3 (this : Nat) (x1 : Int32) (x2 : Int32) (x3 : Int32) (st : Int32 × AH) : Option ((Int32 × AH) ⊕ (AH)) := match st with
  | (x4, A) =>
  if (6 : Int32) ≤ x4 then
    some (.inr A)
  else
    (gR 5 56 A (some this)).bind fun v11 =>
    if x4 = x2 then
      f_X4_way_29 this x1 x2 x3 x4 (0 : Int32) x4 v11 A
    else
      f_X4_way_29 this x1 x2 x3 x4 (1000000 : Int32) x4 v11 A

noncomputable def l_X4_way_3 (this : Nat) (x1 : Int32) (x2 : Int32) (x3 : Int32) (x4 : Int32) (A : AH) : Option (Int32 × AH) :=
  (whl (s_X4_way_3 this x1 x2 x3) (x4, A)).bind fun e => match e with
  | A =>
    l_X4_way_39 this x1 x3 (0 : Int32) A

noncomputable def f_X4_way (this : Nat) (x1 : Int32) (x2 : Int32) (x3 : Int32) (A : AH) : Option (Int32 × AH) :=
  l_X4_way_3 this x1 x2 x3 (0 : Int32) A

/-! SlimeNetModel.waysOf(I)I -/
noncomputable def s_X4_waysOf_27 (this : Nat) (x1 : Int32) (x3 : Int32) (st : Int32 × Int32 × AH) : Option ((Int32 × Int32 × AH) ⊕ (Int32 × AH)) := match st with
  | (x2, x4, A) =>
  (gI 5 12 A (some this)).bind fun v30 =>
  if v30 ≤ x4 then
    some (.inr (x2, A))
  else
    (gR 5 35 A (some this)).bind fun v40 =>
    (aI 10 A v40 x3).bind fun v44 =>
    (gR 5 35 A (some this)).bind fun v46 =>
    (aI 10 A v46 x4).bind fun v51 =>
    (rcv 5 A (some this)).bind fun k52 =>
    (f_X4_way k52 x1 v44 v51 A).bind fun q52 => match q52 with
    | (v52, A52) =>
    some (.inl ((x2 + v52), (x4 + (1 : Int32)), A52))

noncomputable def l_X4_waysOf_27 (this : Nat) (x1 : Int32) (x3 : Int32) (x2 : Int32) (x4 : Int32) (A : AH) : Option ((Int32 × Int32 × AH) ⊕ (Int32 × AH)) :=
  (whl (s_X4_waysOf_27 this x1 x3) (x2, x4, A)).bind fun e => match e with
  | (x2, A) =>
    some (.inl (x2, (x3 + (1 : Int32)), A))

noncomputable def s_X4_waysOf_14 (this : Nat) (x1 : Int32) (st : Int32 × Int32 × AH) : Option ((Int32 × Int32 × AH) ⊕ (Int32 × AH)) := match st with
  | (x2, x3, A) =>
  (gI 5 12 A (some this)).bind fun v16 =>
  if v16 ≤ x3 then
    some (.inr (x2, A))
  else
    l_X4_waysOf_27 this x1 x3 x2 (x3 + (1 : Int32)) A

noncomputable def l_X4_waysOf_14 (this : Nat) (x1 : Int32) (x2 : Int32) (x3 : Int32) (A : AH) : Option (Int32 × AH) :=
  (whl (s_X4_waysOf_14 this x1) (x2, x3, A)).bind fun e => match e with
  | (x2, A) =>
    some (x2, A)

noncomputable def f_X4_waysOf (this : Nat) (x1 : Int32) (A : AH) : Option (Int32 × AH) :=
  (rcv 5 A (some this)).bind fun k2 =>
  (f_X4_joins k2 x1 A).bind fun v2 =>
  if v2 = 0 then
    some ((-1 : Int32), A)
  else
    l_X4_waysOf_14 this x1 (0 : Int32) (0 : Int32) A

/-! SlimeNetModel.besideOf(I)I -/
noncomputable def f_X4_besideOf_65 (this : Nat) (x2 : Int32) (x3 : Int32) (x5 : Int32) (t0 : Int32) (t1 : Int32) (A : AH) : Option ((Int32 × Int32) ⊕ (Int32)) :=
  some (.inl ((t1 + t0), (x5 + (1 : Int32))))

noncomputable def f_X4_besideOf_64 (this : Nat) (x2 : Int32) (x3 : Int32) (x5 : Int32) (t0 : Int32) (A : AH) : Option ((Int32 × Int32) ⊕ (Int32)) :=
  f_X4_besideOf_65 this x2 x3 x5 (0 : Int32) t0 A

noncomputable def s_X4_besideOf_18 (this : Nat) (x2 : Int32) (x3 : Int32) (A : AH) (st : Int32 × Int32) : Option ((Int32 × Int32) ⊕ (Int32)) := match st with
  | (x4, x5) =>
  (gI 5 11 A (some this)).bind fun v22 =>
  if ((1 : Int32) <<< (v22 &&& 31)) ≤ x5 then
    some (.inr x4)
  else
    (rcv 5 A (some this)).bind fun k34 =>
    (f_X4_joins k34 x5 A).bind fun v34 =>
    if v34 = 0 then
      f_X4_besideOf_64 this x2 x3 x5 x4 A
    else
      (rcv 5 A (some this)).bind fun k43 =>
      (f_X4_lengthOf k43 x5 A).bind fun v43 =>
      if x2 < v43 then
        f_X4_besideOf_64 this x2 x3 x5 x4 A
      else
        (rcv 5 A (some this)).bind fun k53 =>
        (f_X4_sureOf k53 x5 A).bind fun v53 =>
        if v53 ≤ x3 then
          f_X4_besideOf_64 this x2 x3 x5 x4 A
        else
          f_X4_besideOf_65 this x2 x3 x5 (1 : Int32) x4 A

noncomputable def l_X4_besideOf_18 (this : Nat) (x2 : Int32) (x3 : Int32) (x4 : Int32) (x5 : Int32) (A : AH) : Option (Int32) :=
  (whl (s_X4_besideOf_18 this x2 x3 A) (x4, x5)).bind fun e => match e with
  | x4 =>
    some x4

noncomputable def f_X4_besideOf (this : Nat) (x1 : Int32) (A : AH) : Option (Int32) :=
  (rcv 5 A (some this)).bind fun k2 =>
  (f_X4_lengthOf k2 x1 A).bind fun v2 =>
  (rcv 5 A (some this)).bind fun k8 =>
  (f_X4_sureOf k8 x1 A).bind fun v8 =>
  l_X4_besideOf_18 this v2 v8 (0 : Int32) (0 : Int32) A

/-! SlimeNetModel.net(II)I -/
noncomputable def f_X4_net_67 (t0 : Int32) (A : AH) : Option (Int32 × AH) :=
  some (t0, A)

noncomputable def f_X4_net (this : Nat) (x1 : Int32) (x2 : Int32) (A : AH) : Option (Int32 × AH) :=
  (rcv 5 A (some this)).bind fun k2 =>
  (f_X4_isNet k2 x1 A).bind fun v2 =>
  if v2 = 0 then
    some ((-2 : Int32), A)
  else
    if x2.toInt < 0 ∨ 4 < x2.toInt then
      some ((-2 : Int32), A)
    else if x2 = (0 : Int32) then
      (rcv 5 A (some this)).bind fun k50 =>
      (f_X4_lengthOf k50 x1 A).bind fun v50 =>
      some (v50, A)
    else if x2 = (1 : Int32) then
      (rcv 5 A (some this)).bind fun k56 =>
      (f_X4_joins k56 x1 A).bind fun v56 =>
      if v56 = 0 then
        f_X4_net_67 (0 : Int32) A
      else
        f_X4_net_67 (1 : Int32) A
    else if x2 = (2 : Int32) then
      (rcv 5 A (some this)).bind fun k70 =>
      (f_X4_sureOf k70 x1 A).bind fun v70 =>
      some (v70, A)
    else if x2 = (3 : Int32) then
      (rcv 5 A (some this)).bind fun k76 =>
      (f_X4_waysOf k76 x1 A).bind fun q76 => match q76 with
      | (v76, A76) =>
      some (v76, A76)
    else if x2 = (4 : Int32) then
      (rcv 5 A (some this)).bind fun k82 =>
      (f_X4_besideOf k82 x1 A).bind fun v82 =>
      some (v82, A)
    else
      none

/-! SlimeNet.shortest()I -/
noncomputable def f_X0_shortest_81 (this : Nat) (x1 : Int32) (x2 : Int32) (A : AH) : Option ((Int32 × Int32) ⊕ (Int32)) :=
  some (.inl (x1, (x2 + (1 : Int32))))

noncomputable def f_X0_shortest_79 (this : Nat) (x2 : Int32) (A : AH) : Option ((Int32 × Int32) ⊕ (Int32)) :=
  f_X0_shortest_81 this x2 x2 A

noncomputable def s_X0_shortest_8 (this : Nat) (A : AH) (st : Int32 × Int32) : Option ((Int32 × Int32) ⊕ (Int32)) := match st with
  | (x1, x2) =>
  (gI 1 16 A (some this)).bind fun v10 =>
  if v10 ≤ x2 then
    some (.inr x1)
  else
    (gR 1 13 A (some this)).bind fun v17 =>
    (aI 10 A v17 x2).bind fun v21 =>
    if v21 = (-1 : Int32) then
      f_X0_shortest_81 this x1 x2 A
    else
      if x1 = (-1 : Int32) then
        f_X0_shortest_79 this x2 A
      else
        (gR 1 13 A (some this)).bind fun v32 =>
        (aI 10 A v32 x2).bind fun v36 =>
        (gR 1 13 A (some this)).bind fun v38 =>
        (aI 10 A v38 x1).bind fun v42 =>
        if v42 < v36 then
          f_X0_shortest_81 this x1 x2 A
        else
          (gR 1 13 A (some this)).bind fun v47 =>
          (aI 10 A v47 x2).bind fun v51 =>
          (gR 1 13 A (some this)).bind fun v53 =>
          (aI 10 A v53 x1).bind fun v57 =>
          if v51 = v57 then
            (gR 1 14 A (some this)).bind fun v62 =>
            (aI 10 A v62 x2).bind fun v66 =>
            (gR 1 14 A (some this)).bind fun v68 =>
            (aI 10 A v68 x1).bind fun v72 =>
            if v72 < v66 then
              f_X0_shortest_79 this x2 A
            else
              f_X0_shortest_81 this x1 x2 A
          else
            f_X0_shortest_79 this x2 A

noncomputable def l_X0_shortest_8 (this : Nat) (x1 : Int32) (x2 : Int32) (A : AH) : Option (Int32 × AH) :=
  (whl (s_X0_shortest_8 this A) (x1, x2)).bind fun e => match e with
  | x1 =>
    some (x1, A)

noncomputable def f_X0_shortest (this : Nat) (A : AH) : Option (Int32 × AH) :=
  (rcv 1 A (some this)).bind fun k1 =>
  (f_X0_list k1 A).bind fun A1 =>
  l_X0_shortest_8 this (-1 : Int32) (0 : Int32) A1

/-! SlimeNetModel.shortest()I -/
noncomputable def f_X4_shortest_69 (this : Nat) (x1 : Int32) (x2 : Int32) (A : AH) : Option ((Int32 × Int32) ⊕ (Int32)) :=
  some (.inl (x1, (x2 + (1 : Int32))))

noncomputable def f_X4_shortest_67 (this : Nat) (x2 : Int32) (A : AH) : Option ((Int32 × Int32) ⊕ (Int32)) :=
  f_X4_shortest_69 this x2 x2 A

noncomputable def f_X4_shortest_45 (this : Nat) (x1 : Int32) (x2 : Int32) (t0 : Int32) (A : AH) : Option ((Int32 × Int32) ⊕ (Int32)) :=
  if t0 < 0 then
    f_X4_shortest_67 this x2 A
  else
    if t0 = 0 then
      (rcv 5 A (some this)).bind fun k56 =>
      (f_X4_sureOf k56 x2 A).bind fun v56 =>
      (rcv 5 A (some this)).bind fun k61 =>
      (f_X4_sureOf k61 x1 A).bind fun v61 =>
      if v56 ≤ v61 then
        f_X4_shortest_69 this x1 x2 A
      else
        f_X4_shortest_67 this x2 A
    else
      f_X4_shortest_69 this x1 x2 A

noncomputable def s_X4_shortest_4 (this : Nat) (A : AH) (st : Int32 × Int32) : Option ((Int32 × Int32) ⊕ (Int32)) := match st with
  | (x1, x2) =>
  (gI 5 11 A (some this)).bind fun v7 =>
  if ((1 : Int32) <<< (v7 &&& 31)) ≤ x2 then
    some (.inr x1)
  else
    (rcv 5 A (some this)).bind fun k16 =>
    (f_X4_joins k16 x2 A).bind fun v16 =>
    if v16 = 0 then
      f_X4_shortest_69 this x1 x2 A
    else
      if x1 = (-1 : Int32) then
        f_X4_shortest_45 this x1 x2 (-1 : Int32) A
      else
        (rcv 5 A (some this)).bind fun k36 =>
        (f_X4_lengthOf k36 x2 A).bind fun v36 =>
        (rcv 5 A (some this)).bind fun k41 =>
        (f_X4_lengthOf k41 x1 A).bind fun v41 =>
        f_X4_shortest_45 this x1 x2 (v36 - v41) A

noncomputable def l_X4_shortest_4 (this : Nat) (x1 : Int32) (x2 : Int32) (A : AH) : Option (Int32) :=
  (whl (s_X4_shortest_4 this A) (x1, x2)).bind fun e => match e with
  | x1 =>
    some x1

noncomputable def f_X4_shortest (this : Nat) (A : AH) : Option (Int32) :=
  l_X4_shortest_4 this (-1 : Int32) (0 : Int32) A

/-! SlimeNet.good(I)I -/
noncomputable def f_X0_good_40 (t0 : Int32) (A : AH) : Option (Int32 × AH) :=
  some (t0, A)

noncomputable def f_X0_good (this : Nat) (x1 : Int32) (A : AH) : Option (Int32 × AH) :=
  (rcv 1 A (some this)).bind fun k1 =>
  (f_X0_list k1 A).bind fun A1 =>
  if x1 = (-1 : Int32) then
    (gI 1 17 A1 (some this)).bind fun v10 =>
    f_X0_good_40 v10 A1
  else
    (gI 1 17 A1 (some this)).bind fun v19 =>
    (f_X0_in x1 (0 : Int32) (v19 - (1 : Int32))).bind fun v24 =>
    if v24 = 0 then
      f_X0_good_40 (-1 : Int32) A1
    else
      (gR 1 15 A1 (some this)).bind fun v31 =>
      (aI 10 A1 v31 x1).bind fun v35 =>
      f_X0_good_40 v35 A1

/-! SlimeNetModel.good(I)I -/
noncomputable def f_X4_good_97 (this : Nat) (x1 : Int32) (x2 : Int32) (A : AH) : Option ((Int32 × AH) ⊕ (AH)) :=
  some (.inl ((x2 + (1 : Int32)), A))

noncomputable def f_X4_good_158 (this : Nat) (x1 : Int32) (x2 : Int32) (x3 : Int32) (x4 : Int32) (A : AH) : Option ((Int32 × Int32 × Int32) ⊕ ((Int32) ⊕ (Int32))) :=
  some (.inl (x2, x3, (x4 + (1 : Int32))))

noncomputable def f_X4_good_174 (t0 : Int32) (A : AH) : Option (Int32 × AH) :=
  some (t0, A)

noncomputable def s_X4_good_110 (this : Nat) (x1 : Int32) (A : AH) (st : Int32 × Int32 × Int32) : Option ((Int32 × Int32 × Int32) ⊕ ((Int32) ⊕ (Int32))) := match st with
  | (x2, x3, x4) =>
  (gR 5 57 A (some this)).bind fun v113 =>
  (al 10 A v113).bind fun v116 =>
  if v116 ≤ x4 then
    some (.inr (.inr x3))
  else
    (gR 5 57 A (some this)).bind fun v121 =>
    (aI 10 A v121 x4).bind fun v126 =>
    if x2 < v126 then
      (gR 5 57 A (some this)).bind fun v135 =>
      (aI 10 A v135 x4).bind fun v140 =>
      if x3 = x1 then
        some (.inr (.inl x4))
      else
        f_X4_good_158 this x1 v140 (x3 + (1 : Int32)) x4 A
    else
      f_X4_good_158 this x1 x2 x3 x4 A

noncomputable def l_X4_good_110 (this : Nat) (x1 : Int32) (x2 : Int32) (x3 : Int32) (x4 : Int32) (A : AH) : Option (Int32 × AH) :=
  (whl (s_X4_good_110 this x1 A) (x2, x3, x4)).bind fun e => match e with
  | (.inl x4) =>
    ((gR 5 58 A (some this)).bind fun v148 =>
      (aI 10 A v148 x4).bind fun v153 =>
      some (v153, A))
  | (.inr x3) =>
    (if x1 = (-1 : Int32) then
        f_X4_good_174 x3 A
      else
        f_X4_good_174 (-1 : Int32) A)

noncomputable def s_X4_good_33 (this : Nat) (x1 : Int32) (st : Int32 × AH) : Option ((Int32 × AH) ⊕ (AH)) := match st with
  | (x2, A) =>
  (gI 5 11 A (some this)).bind fun v36 =>
  if ((1 : Int32) <<< (v36 &&& 31)) ≤ x2 then
    some (.inr A)
  else
    (rcv 5 A (some this)).bind fun k45 =>
    (f_X4_joins k45 x2 A).bind fun v45 =>
    if v45 = 0 then
      f_X4_good_97 this x1 x2 A
    else
      (rcv 5 A (some this)).bind fun k56 =>
      (f_X4_sureOf k56 x2 A).bind fun v56 =>
      (rcv 5 A (some this)).bind fun k62 =>
      (f_X4_lengthOf k62 x2 A).bind fun v62 =>
      (gR 5 57 A (some this)).bind fun v69 =>
      (aI 10 A v69 v62).bind fun v74 =>
      if v74 < v56 then
        (gR 5 57 A (some this)).bind fun v82 =>
        (sI A v82 v62 v56).bind fun A88 =>
        (gR 5 58 A88 (some this)).bind fun v90 =>
        (sI A88 v90 v62 x2).bind fun A96 =>
        f_X4_good_97 this x1 x2 A96
      else
        f_X4_good_97 this x1 x2 A

noncomputable def l_X4_good_33 (this : Nat) (x1 : Int32) (x2 : Int32) (A : AH) : Option (Int32 × AH) :=
  (whl (s_X4_good_33 this x1) (x2, A)).bind fun e => match e with
  | A =>
    l_X4_good_110 this x1 (-1 : Int32) (0 : Int32) (0 : Int32) A

noncomputable def s_X4_good_9 (this : Nat) (x1 : Int32) (st : Int32 × AH) : Option ((Int32 × AH) ⊕ (AH)) := match st with
  | (x2, A) =>
  (gR 5 57 A (some this)).bind fun v11 =>
  (al 10 A v11).bind fun v14 =>
  if v14 ≤ x2 then
    some (.inr A)
  else
    (gR 5 57 A (some this)).bind fun v19 =>
    (sI A v19 x2 (-1 : Int32)).bind fun A24 =>
    some (.inl ((x2 + (1 : Int32)), A24))

noncomputable def l_X4_good_9 (this : Nat) (x1 : Int32) (x2 : Int32) (A : AH) : Option (Int32 × AH) :=
  (whl (s_X4_good_9 this x1) (x2, A)).bind fun e => match e with
  | A =>
    l_X4_good_33 this x1 (0 : Int32) A

noncomputable def f_X4_good (this : Nat) (x1 : Int32) (A : AH) : Option (Int32 × AH) :=
  if (-1 : Int32) ≤ x1 then
    l_X4_good_9 this x1 (0 : Int32) A
  else
    some ((-1 : Int32), A)

/-! SlimeNet.maze()I -/
noncomputable def f_X0_maze_103 (t0 : Int32) (A : AH) : Option (Int32 × AH) :=
  some (t0, A)

noncomputable def f_X0_maze_102 (A : AH) : Option (Int32 × AH) :=
  f_X0_maze_103 (0 : Int32) A

noncomputable def f_X0_maze (this : Nat) (A : AH) : Option (Int32 × AH) :=
  (gR 1 5 A (some this)).bind fun v1 =>
  (gI 3 5 A v1).bind fun v4 =>
  if v4 = (2 : Int32) then
    (gR 1 5 A (some this)).bind fun v16 =>
    (gR 3 1 A v16).bind fun v19 =>
    (rcv 8 A v19).bind fun k22 =>
    (f_J4_size k22 A).bind fun v22 =>
    (gR 1 5 A (some this)).bind fun v30 =>
    (rcv 3 A v30).bind fun k34 =>
    (f_X2_joins k34 (((1 : Int32) <<< (v22 &&& 31)) - (1 : Int32)) A).bind fun v34 =>
    if v34 = 0 then
      some ((-1 : Int32), A)
    else
      (gR 1 6 A (some this)).bind fun v43 =>
      (rcv 4 A v43).bind fun k46 =>
      (f_X3_own k46 A).bind fun v46 =>
      (gR 1 5 A (some this)).bind fun v51 =>
      (rcv 3 A v51).bind fun k55 =>
      (f_X2_joins k55 v46 A).bind fun v55 =>
      if v55 = 0 then
        f_X0_maze_102 A
      else
        (gR 1 5 A (some this)).bind fun v62 =>
        (rcv 3 A v62).bind fun k66 =>
        (f_X2_length k66 v46 A).bind fun v66 =>
        (gR 1 5 A (some this)).bind fun v70 =>
        (gR 1 5 A (some this)).bind fun v75 =>
        (gR 3 2 A v75).bind fun v78 =>
        (aI 10 A v78 (0 : Int32)).bind fun v82 =>
        (gR 1 5 A (some this)).bind fun v84 =>
        (gR 3 2 A v84).bind fun v87 =>
        (aI 10 A v87 (1 : Int32)).bind fun v91 =>
        (rcv 3 A v70).bind fun k92 =>
        (f_X2_way k92 (((1 : Int32) <<< (v22 &&& 31)) - (1 : Int32)) v82 v91 A).bind fun q92 => match q92 with
        | (v92, A92) =>
        if v66 = v92 then
          f_X0_maze_103 (1 : Int32) A92
        else
          f_X0_maze_102 A92
  else
    some ((-4 : Int32), A)

/-! SlimeNetModel.maze()I -/
noncomputable def f_X4_maze_73 (t0 : Int32) (A : AH) : Option (Int32 × AH) :=
  some (t0, A)

noncomputable def f_X4_maze_72 (A : AH) : Option (Int32 × AH) :=
  f_X4_maze_73 (0 : Int32) A

noncomputable def f_X4_maze (this : Nat) (A : AH) : Option (Int32 × AH) :=
  (gI 5 12 A (some this)).bind fun v1 =>
  if v1 = (2 : Int32) then
    (gI 5 11 A (some this)).bind fun v14 =>
    (gR 5 35 A (some this)).bind fun v21 =>
    (aI 10 A v21 (0 : Int32)).bind fun v25 =>
    (gR 5 35 A (some this)).bind fun v27 =>
    (aI 10 A v27 (1 : Int32)).bind fun v31 =>
    (rcv 5 A (some this)).bind fun k32 =>
    (f_X4_way k32 (((1 : Int32) <<< (v14 &&& 31)) - (1 : Int32)) v25 v31 A).bind fun q32 => match q32 with
    | (v32, A32) =>
    if v32 < (1000000 : Int32) then
      (rcv 5 A32 (some this)).bind fun k47 =>
      (f_X4_own k47 A32).bind fun v47 =>
      (rcv 5 A32 (some this)).bind fun k50 =>
      (f_X4_joins k50 v47 A32).bind fun v50 =>
      if v50 = 0 then
        f_X4_maze_72 A32
      else
        (rcv 5 A32 (some this)).bind fun k58 =>
        (f_X4_own k58 A32).bind fun v58 =>
        (rcv 5 A32 (some this)).bind fun k61 =>
        (f_X4_lengthOf k61 v58 A32).bind fun v61 =>
        if v61 = v32 then
          f_X4_maze_73 (1 : Int32) A32
        else
          f_X4_maze_72 A32
    else
      some ((-1 : Int32), A32)
  else
    some ((-4 : Int32), A)

/-! SlimeNet.see(III)I -/
noncomputable def f_X0_see_32 (A : AH) : Option (Int32 × AH) :=
  some ((-2 : Int32), A)

noncomputable def f_X0_see (this : Nat) (x1 : Int32) (x2 : Int32) (x3 : Int32) (A : AH) : Option (Int32 × AH) :=
  (gI 1 20 A (some this)).bind fun v2 =>
  (f_X0_in x1 v2 (999 : Int32)).bind fun v8 =>
  if v8 = 0 then
    f_X0_see_32 A
  else
    (f_X0_in x2 (0 : Int32) (40 : Int32)).bind fun v18 =>
    if v18 = 0 then
      f_X0_see_32 A
    else
      (rcv 1 A (some this)).bind fun k26 =>
      (f_X0_isNet k26 x3 A).bind fun v26 =>
      if v26 = 0 then
        f_X0_see_32 A
      else
        (gI 1 18 A (some this)).bind fun v36 =>
        if v36 = (16 : Int32) then
          some ((-3 : Int32), A)
        else
          (pI 1 20 A (some this) x1).bind fun A49 =>
          (gR 1 21 A49 (some this)).bind fun v53 =>
          (gI 1 18 A49 (some this)).bind fun v57 =>
          (sI A49 v53 v57 x1).bind fun A61 =>
          (gR 1 22 A61 (some this)).bind fun v63 =>
          (gI 1 18 A61 (some this)).bind fun v67 =>
          (sI A61 v63 v67 x2).bind fun A71 =>
          (gR 1 23 A71 (some this)).bind fun v73 =>
          (gI 1 18 A71 (some this)).bind fun v77 =>
          (sI A71 v73 v77 x3).bind fun A81 =>
          (gI 1 18 A81 (some this)).bind fun v84 =>
          (pI 1 18 A81 (some this) (v84 + (1 : Int32))).bind fun A89 =>
          (gI 1 18 A89 (some this)).bind fun v93 =>
          some ((v93 - (1 : Int32)), A89)

/-! SlimeNetModel.isHour(I)Z -/
noncomputable def f_X4_isHour (x0 : Int32) : Option (Int32) :=
  (f_X4_in (Int32.toInt64 x0) (0 : Int64) (40 : Int64)).bind fun v6 =>
  (ckZ v6).bind fun _ =>
  some v6

/-! SlimeNetModel.see(III)I -/
noncomputable def f_X4_see_31 (A : AH) : Option (Int32 × AH) :=
  some ((-2 : Int32), A)

noncomputable def f_X4_see (this : Nat) (x1 : Int32) (x2 : Int32) (x3 : Int32) (A : AH) : Option (Int32 × AH) :=
  (gI 5 65 A (some this)).bind fun v3 =>
  (f_X4_in (Int32.toInt64 x1) (Int32.toInt64 v3) (999 : Int64)).bind fun v10 =>
  if v10 = 0 then
    f_X4_see_31 A
  else
    (f_X4_isHour x2).bind fun v17 =>
    if v17 = 0 then
      f_X4_see_31 A
    else
      (rcv 5 A (some this)).bind fun k25 =>
      (f_X4_isNet k25 x3 A).bind fun v25 =>
      if v25 = 0 then
        f_X4_see_31 A
      else
        (gI 5 63 A (some this)).bind fun v35 =>
        if v35 = (16 : Int32) then
          some ((-3 : Int32), A)
        else
          (pI 5 65 A (some this) x1).bind fun A48 =>
          (gR 5 66 A48 (some this)).bind fun v52 =>
          (gI 5 63 A48 (some this)).bind fun v56 =>
          (sI A48 v52 v56 x2).bind fun A60 =>
          (gR 5 67 A60 (some this)).bind fun v62 =>
          (gI 5 63 A60 (some this)).bind fun v66 =>
          (sI A60 v62 v66 x3).bind fun A70 =>
          (gR 5 68 A70 (some this)).bind fun v72 =>
          (gI 5 63 A70 (some this)).bind fun v76 =>
          (sI A70 v72 v76 x1).bind fun A80 =>
          (gI 5 63 A80 (some this)).bind fun v83 =>
          (pI 5 63 A80 (some this) (v83 + (1 : Int32))).bind fun A88 =>
          (gI 5 63 A88 (some this)).bind fun v92 =>
          some ((v92 - (1 : Int32)), A88)

/-! SlimeNet.right(III)I -/
noncomputable def f_X0_right_36 (A : AH) : Option (Int32 × AH) :=
  some ((-2 : Int32), A)

noncomputable def f_X0_right_129 (this : Nat) (x2 : Int32) (x5 : Int32) (t0 : Int32) (t1 : Int32) (A : AH) : Option ((Int32 × Int32) ⊕ (Int32)) :=
  some (.inl ((t1 + t0), (x5 + (1 : Int32))))

noncomputable def s_X0_right_102 (this : Nat) (x2 : Int32) (A : AH) (st : Int32 × Int32) : Option ((Int32 × Int32) ⊕ (Int32)) := match st with
  | (x4, x5) =>
  (gI 1 19 A (some this)).bind fun v105 =>
  if v105 ≤ x5 then
    some (.inr x4)
  else
    (gR 1 25 A (some this)).bind fun v114 =>
    (aI 10 A v114 x5).bind fun v119 =>
    if v119 = x2 then
      f_X0_right_129 this x2 x5 (1 : Int32) x4 A
    else
      f_X0_right_129 this x2 x5 (0 : Int32) x4 A

noncomputable def l_X0_right_102 (this : Nat) (x2 : Int32) (x4 : Int32) (x5 : Int32) (A : AH) : Option (Int32 × AH) :=
  (whl (s_X0_right_102 this x2 A) (x4, x5)).bind fun e => match e with
  | x4 =>
    some (x4, A)

noncomputable def f_X0_right (this : Nat) (x1 : Int32) (x2 : Int32) (x3 : Int32) (A : AH) : Option (Int32 × AH) :=
  (gI 1 20 A (some this)).bind fun v2 =>
  (f_X0_in x1 v2 (999 : Int32)).bind fun v8 =>
  if v8 = 0 then
    f_X0_right_36 A
  else
    (gI 1 18 A (some this)).bind fun v17 =>
    (f_X0_in x2 (0 : Int32) (v17 - (1 : Int32))).bind fun v22 =>
    if v22 = 0 then
      f_X0_right_36 A
    else
      (rcv 1 A (some this)).bind fun k30 =>
      (f_X0_isNet k30 x3 A).bind fun v30 =>
      if v30 = 0 then
        f_X0_right_36 A
      else
        (gI 1 19 A (some this)).bind fun v40 =>
        if v40 = (20 : Int32) then
          some ((-3 : Int32), A)
        else
          (pI 1 20 A (some this) x1).bind fun A53 =>
          (gR 1 24 A53 (some this)).bind fun v57 =>
          (gI 1 19 A53 (some this)).bind fun v61 =>
          (sI A53 v57 v61 x1).bind fun A65 =>
          (gR 1 25 A65 (some this)).bind fun v67 =>
          (gI 1 19 A65 (some this)).bind fun v71 =>
          (sI A65 v67 v71 x2).bind fun A75 =>
          (gR 1 26 A75 (some this)).bind fun v77 =>
          (gI 1 19 A75 (some this)).bind fun v81 =>
          (sI A75 v77 v81 x3).bind fun A85 =>
          (gI 1 19 A85 (some this)).bind fun v88 =>
          (pI 1 19 A85 (some this) (v88 + (1 : Int32))).bind fun A93 =>
          l_X0_right_102 this x2 (0 : Int32) (0 : Int32) A93

/-! SlimeNetModel.right(III)I -/
noncomputable def f_X4_right_40 (A : AH) : Option (Int32 × AH) :=
  some ((-2 : Int32), A)

noncomputable def f_X4_right_133 (this : Nat) (x2 : Int32) (x5 : Int32) (t0 : Int32) (t1 : Int32) (A : AH) : Option ((Int32 × Int32) ⊕ (Int32)) :=
  some (.inl ((t1 + t0), (x5 + (1 : Int32))))

noncomputable def s_X4_right_106 (this : Nat) (x2 : Int32) (A : AH) (st : Int32 × Int32) : Option ((Int32 × Int32) ⊕ (Int32)) := match st with
  | (x4, x5) =>
  (gI 5 64 A (some this)).bind fun v109 =>
  if v109 ≤ x5 then
    some (.inr x4)
  else
    (gR 5 69 A (some this)).bind fun v118 =>
    (aI 10 A v118 x5).bind fun v123 =>
    if v123 = x2 then
      f_X4_right_133 this x2 x5 (1 : Int32) x4 A
    else
      f_X4_right_133 this x2 x5 (0 : Int32) x4 A

noncomputable def l_X4_right_106 (this : Nat) (x2 : Int32) (x4 : Int32) (x5 : Int32) (A : AH) : Option (Int32 × AH) :=
  (whl (s_X4_right_106 this x2 A) (x4, x5)).bind fun e => match e with
  | x4 =>
    some (x4, A)

noncomputable def f_X4_right (this : Nat) (x1 : Int32) (x2 : Int32) (x3 : Int32) (A : AH) : Option (Int32 × AH) :=
  (gI 5 65 A (some this)).bind fun v3 =>
  (f_X4_in (Int32.toInt64 x1) (Int32.toInt64 v3) (999 : Int64)).bind fun v10 =>
  if v10 = 0 then
    f_X4_right_40 A
  else
    (gI 5 63 A (some this)).bind fun v20 =>
    (f_X4_in (Int32.toInt64 x2) (0 : Int64) ((Int32.toInt64 v20) - (1 : Int64))).bind fun v26 =>
    if v26 = 0 then
      f_X4_right_40 A
    else
      (rcv 5 A (some this)).bind fun k34 =>
      (f_X4_isNet k34 x3 A).bind fun v34 =>
      if v34 = 0 then
        f_X4_right_40 A
      else
        (gI 5 64 A (some this)).bind fun v44 =>
        if v44 = (20 : Int32) then
          some ((-3 : Int32), A)
        else
          (pI 5 65 A (some this) x1).bind fun A57 =>
          (gR 5 69 A57 (some this)).bind fun v61 =>
          (gI 5 64 A57 (some this)).bind fun v65 =>
          (sI A57 v61 v65 x2).bind fun A69 =>
          (gR 5 70 A69 (some this)).bind fun v71 =>
          (gI 5 64 A69 (some this)).bind fun v75 =>
          (sI A69 v71 v75 x3).bind fun A79 =>
          (gR 5 71 A79 (some this)).bind fun v81 =>
          (gI 5 64 A79 (some this)).bind fun v85 =>
          (sI A79 v81 v85 x1).bind fun A89 =>
          (gI 5 64 A89 (some this)).bind fun v92 =>
          (pI 5 64 A89 (some this) (v92 + (1 : Int32))).bind fun A97 =>
          l_X4_right_106 this x2 (0 : Int32) (0 : Int32) A97

/-! SlimeNet.know(I)V -/
noncomputable def f_X0_know_80 (this : Nat) (x1 : Int32) (x2 : Int32) (x3 : Int32) (x4 : Int32) (A : AH) : Option ((Int32 × Int32) ⊕ (Int32)) :=
  some (.inl (x3, (x4 + (1 : Int32))))

noncomputable def f_X0_know_129 (this : Nat) (x1 : Int32) (x2 : Int32) (A : AH) : Option ((Int32 × AH) ⊕ (AH)) :=
  some (.inl ((x2 + (1 : Int32)), A))

noncomputable def f_X0_know_128 (this : Nat) (x1 : Int32) (x2 : Int32) (t0 : Int32) (t1 : Int32) (t2 : Option Nat) (A : AH) : Option ((Int32 × AH) ⊕ (AH)) :=
  (sI A t2 t1 t0).bind fun A128 =>
  f_X0_know_129 this x1 x2 A128

noncomputable def f_X0_know_122 (this : Nat) (x1 : Int32) (x2 : Int32) (x3 : Int32) (t0 : Int32) (t1 : Option Nat) (A : AH) : Option ((Int32 × AH) ⊕ (AH)) :=
  f_X0_know_128 this x1 x2 x3 t0 t1 A

noncomputable def s_X0_know_41 (this : Nat) (x1 : Int32) (x2 : Int32) (A : AH) (st : Int32 × Int32) : Option ((Int32 × Int32) ⊕ (Int32)) := match st with
  | (x3, x4) =>
  (gI 1 19 A (some this)).bind fun v44 =>
  if v44 ≤ x4 then
    some (.inr x3)
  else
    (gR 1 25 A (some this)).bind fun v51 =>
    (aI 10 A v51 x4).bind fun v56 =>
    if v56 = x2 then
      (gR 1 24 A (some this)).bind fun v62 =>
      (aI 10 A v62 x4).bind fun v67 =>
      if x1 < v67 then
        f_X0_know_80 this x1 x2 x3 x4 A
      else
        (gR 1 26 A (some this)).bind fun v73 =>
        (aI 10 A v73 x4).bind fun v78 =>
        f_X0_know_80 this x1 x2 v78 x4 A
    else
      f_X0_know_80 this x1 x2 x3 x4 A

noncomputable def l_X0_know_41 (this : Nat) (x1 : Int32) (x2 : Int32) (x3 : Int32) (x4 : Int32) (A : AH) : Option ((Int32 × AH) ⊕ (AH)) :=
  (whl (s_X0_know_41 this x1 x2 A) (x3, x4)).bind fun e => match e with
  | x3 =>
    (gR 1 22 A (some this)).bind fun v87 =>
    (aI 10 A v87 x2).bind fun v91 =>
    (gR 1 27 A (some this)).bind fun v95 =>
    (gR 1 27 A (some this)).bind fun v101 =>
    (aI 10 A v101 v91).bind fun v106 =>
    if v106 = (-1 : Int32) then
      f_X0_know_122 this x1 x2 x3 v91 v95 A
    else
      (gR 1 27 A (some this)).bind fun v112 =>
      (aI 10 A v112 v91).bind fun v117 =>
      if v117 = x3 then
        f_X0_know_122 this x1 x2 x3 v91 v95 A
      else
        f_X0_know_128 this x1 x2 (-2 : Int32) v91 v95 A

noncomputable def s_X0_know_10 (this : Nat) (x1 : Int32) (st : Int32 × AH) : Option ((Int32 × AH) ⊕ (AH)) := match st with
  | (x2, A) =>
  (gI 1 18 A (some this)).bind fun v12 =>
  if v12 ≤ x2 then
    some (.inr A)
  else
    (gR 1 21 A (some this)).bind fun v19 =>
    (aI 10 A v19 x2).bind fun v23 =>
    if v23 ≤ x1 then
      (gR 1 23 A (some this)).bind fun v32 =>
      (aI 10 A v32 x2).bind fun v36 =>
      l_X0_know_41 this x1 x2 v36 (0 : Int32) A
    else
      f_X0_know_129 this x1 x2 A

noncomputable def l_X0_know_10 (this : Nat) (x1 : Int32) (x2 : Int32) (A : AH) : Option (AH) :=
  (whl (s_X0_know_10 this x1) (x2, A)).bind fun e => match e with
  | A =>
    some A

noncomputable def f_X0_know (this : Nat) (x1 : Int32) (A : AH) : Option (AH) :=
  (gR 1 27 A (some this)).bind fun v1 =>
  (f_J12_fill_3 v1 (-1 : Int32) A).bind fun A5 =>
  l_X0_know_10 this x1 (0 : Int32) A5

/-! SlimeNet.findFits(II)V -/
noncomputable def f_X0_findFits_35 (this : Nat) (x3 : Int32) (x4 : Int32) (A : AH) : Option ((Int32 × Int32) ⊕ (Int32)) :=
  some (.inl (x3, (x4 + (1 : Int32))))

noncomputable def f_X0_findFits_163 (this : Nat) (x3 : Int32) (x4 : Int32) (x6 : Int32) (t0 : Int32) (A : AH) : Option ((Int32 × Int32 × AH) ⊕ (Int32 × AH)) :=
  (gR 1 7 A (some this)).bind fun v166 =>
  (rcv 4 A v166).bind fun k169 =>
  (f_X3_live k169 A).bind fun A169 =>
  some (.inl (t0, (x6 + (1 : Int32)), A169))

noncomputable def f_X0_findFits_158 (this : Nat) (x3 : Int32) (x4 : Int32) (x6 : Int32) (A : AH) : Option ((Int32 × Int32 × AH) ⊕ (Int32 × AH)) :=
  f_X0_findFits_163 this x3 x4 x6 (1 : Int32) A

noncomputable def f_X0_findFits_207 (this : Nat) (x3 : Int32) (x4 : Int32) (A : AH) : Option ((Int32 × AH) ⊕ (AH)) :=
  some (.inl ((x4 + (1 : Int32)), A))

noncomputable def f_X0_findFits_178 (this : Nat) (x3 : Int32) (x4 : Int32) (x5 : Int32) (A : AH) : Option ((Int32 × AH) ⊕ (AH)) :=
  if x5 = 0 then
    f_X0_findFits_207 this x3 x4 A
  else
    (gR 1 29 A (some this)).bind fun v187 =>
    (gI 1 30 A (some this)).bind fun v191 =>
    (sI A v187 v191 x4).bind fun A196 =>
    (gI 1 30 A196 (some this)).bind fun v199 =>
    (pI 1 30 A196 (some this) (v199 + (1 : Int32))).bind fun A204 =>
    f_X0_findFits_207 this x3 x4 A204

noncomputable def s_X0_findFits_98 (this : Nat) (x3 : Int32) (x4 : Int32) (st : Int32 × Int32 × AH) : Option ((Int32 × Int32 × AH) ⊕ (Int32 × AH)) := match st with
  | (x5, x6, A) =>
  if x3 < x6 then
    some (.inr (x5, A))
  else
    if x5 = 0 then
      some (.inr (x5, A))
    else
      (gR 1 7 A (some this)).bind fun v110 =>
      (rcv 4 A v110).bind fun k113 =>
      (f_X3_own k113 A).bind fun v113 =>
      (gR 1 28 A (some this)).bind fun v119 =>
      (gI 1 30 A (some this)).bind fun v125 =>
      (sI A v119 (((41 : Int32) * v125) + x6) v113).bind fun A134 =>
      (gR 1 27 A134 (some this)).bind fun v136 =>
      (aI 10 A134 v136 x6).bind fun v141 =>
      if v141 = (-1 : Int32) then
        f_X0_findFits_158 this x3 x4 x6 A134
      else
        (gR 1 27 A134 (some this)).bind fun v147 =>
        (aI 10 A134 v147 x6).bind fun v152 =>
        if v152 = v113 then
          f_X0_findFits_158 this x3 x4 x6 A134
        else
          f_X0_findFits_163 this x3 x4 x6 (0 : Int32) A134

noncomputable def l_X0_findFits_98 (this : Nat) (x3 : Int32) (x4 : Int32) (x5 : Int32) (x6 : Int32) (A : AH) : Option ((Int32 × AH) ⊕ (AH)) :=
  (whl (s_X0_findFits_98 this x3 x4) (x5, x6, A)).bind fun e => match e with
  | (x5, A) =>
    f_X0_findFits_178 this x3 x4 x5 A

noncomputable def s_X0_findFits_49 (this : Nat) (x3 : Int32) (st : Int32 × AH) : Option ((Int32 × AH) ⊕ (AH)) := match st with
  | (x4, A) =>
  if (441 : Int32) ≤ x4 then
    some (.inr A)
  else
    (gR 1 7 A (some this)).bind fun v58 =>
    (gR 1 5 A (some this)).bind fun v62 =>
    (rcv 4 A v58).bind fun k65 =>
    (f_X3_begin k65 v62 A).bind fun A65 =>
    (gR 1 7 A65 (some this)).bind fun v69 =>
    (dvI x4 (21 : Int32)).bind fun v76 =>
    (pI 4 4 A65 v69 v76).bind fun A77 =>
    (gR 1 7 A77 (some this)).bind fun v81 =>
    (rmI x4 (21 : Int32)).bind fun v88 =>
    (pI 4 5 A77 v81 v88).bind fun A89 =>
    l_X0_findFits_98 this x3 x4 (1 : Int32) (0 : Int32) A89

noncomputable def l_X0_findFits_49 (this : Nat) (x3 : Int32) (x4 : Int32) (A : AH) : Option (AH) :=
  (whl (s_X0_findFits_49 this x3) (x4, A)).bind fun e => match e with
  | A =>
    some A

noncomputable def s_X0_findFits_10 (this : Nat) (A : AH) (st : Int32 × Int32) : Option ((Int32 × Int32) ⊕ (Int32)) := match st with
  | (x3, x4) =>
  if (40 : Int32) < x4 then
    some (.inr x3)
  else
    (gR 1 27 A (some this)).bind fun v18 =>
    (aI 10 A v18 x4).bind fun v23 =>
    if v23 = (-1 : Int32) then
      f_X0_findFits_35 this x3 x4 A
    else
      f_X0_findFits_35 this (mxI x3 x4) x4 A

noncomputable def l_X0_findFits_10 (this : Nat) (x3 : Int32) (x4 : Int32) (A : AH) : Option (AH) :=
  (whl (s_X0_findFits_10 this A) (x3, x4)).bind fun e => match e with
  | x3 =>
    (pI 1 30 A (some this) (0 : Int32)).bind fun A43 =>
    l_X0_findFits_49 this x3 (0 : Int32) A43

noncomputable def f_X0_findFits (this : Nat) (x1 : Int32) (x2 : Int32) (A : AH) : Option (AH) :=
  (rcv 1 A (some this)).bind fun k2 =>
  (f_X0_know k2 x1 A).bind fun A2 =>
  l_X0_findFits_10 this x2 (0 : Int32) A2

/-! SlimeNet.fit(II)I -/
noncomputable def f_X0_fit_20 (A : AH) : Option (Int32 × AH) :=
  some ((-2 : Int32), A)

noncomputable def f_X0_fit_57 (t0 : Int32) (A : AH) : Option (Int32 × AH) :=
  some (t0, A)

noncomputable def f_X0_fit (this : Nat) (x1 : Int32) (x2 : Int32) (A : AH) : Option (Int32 × AH) :=
  (f_X0_in x1 (0 : Int32) (999 : Int32)).bind fun v5 =>
  if v5 = 0 then
    f_X0_fit_20 A
  else
    (f_X0_in x2 (0 : Int32) (1 : Int32)).bind fun v14 =>
    if v14 = 0 then
      f_X0_fit_20 A
    else
      (rcv 1 A (some this)).bind fun k26 =>
      (f_X0_findFits k26 x1 (0 : Int32) A).bind fun A26 =>
      if x2 = 0 then
        (gI 1 30 A26 (some this)).bind fun v34 =>
        f_X0_fit_57 v34 A26
      else
        (gI 1 30 A26 (some this)).bind fun v41 =>
        if v41 = 0 then
          f_X0_fit_57 (-1 : Int32) A26
        else
          (gR 1 29 A26 (some this)).bind fun v52 =>
          (aI 10 A26 v52 (0 : Int32)).bind fun v56 =>
          f_X0_fit_57 v56 A26

/-! SlimeNetModel.isStep(I)Z -/
noncomputable def f_X4_isStep (x0 : Int32) : Option (Int32) :=
  (f_X4_in (Int32.toInt64 x0) (0 : Int64) (999 : Int64)).bind fun v6 =>
  (ckZ v6).bind fun _ =>
  some v6

/-! SlimeNetModel.findLaws()V -/
noncomputable def f_X4_findLaws_112 (this : Nat) (x1 : Int32) (x2 : Int32) (A : AH) : Option ((Int32 × AH) ⊕ (AH)) :=
  some (.inl ((x2 + (1 : Int32)), A))

noncomputable def s_X4_findLaws_57 (this : Nat) (x1 : Int32) (st : Int32 × AH) : Option ((Int32 × AH) ⊕ (AH)) := match st with
  | (x2, A) =>
  if (40 : Int32) < x2 then
    some (.inr A)
  else
    (gR 5 59 A (some this)).bind fun v64 =>
    (gR 5 60 A (some this)).bind fun v74 =>
    (gI 5 11 A (some this)).bind fun v78 =>
    (f_X4_widths v74 v78 A).bind fun v81 =>
    (sI A v64 (((41 : Int32) * x1) + x2) v81).bind fun A84 =>
    if (40 : Int32) ≤ x2 then
      f_X4_findLaws_112 this x1 x2 A84
    else
      (gR 5 60 A84 (some this)).bind fun v93 =>
      (gR 5 61 A84 (some this)).bind fun v97 =>
      (dvI x1 (21 : Int32)).bind fun v104 =>
      (rmI x1 (21 : Int32)).bind fun v108 =>
      (rcv 5 A84 (some this)).bind fun k109 =>
      (f_X4_pass k109 v93 v97 x2 v104 v108 A84).bind fun A109 =>
      f_X4_findLaws_112 this x1 x2 A109

noncomputable def l_X4_findLaws_57 (this : Nat) (x1 : Int32) (x2 : Int32) (A : AH) : Option ((Int32 × AH) ⊕ (AH)) :=
  (whl (s_X4_findLaws_57 this x1) (x2, A)).bind fun e => match e with
  | A =>
    some (.inl ((x1 + (1 : Int32)), A))

noncomputable def s_X4_findLaws_24 (this : Nat) (x1 : Int32) (st : Int32 × AH) : Option ((Int32 × AH) ⊕ (AH)) := match st with
  | (x2, A) =>
  (gI 5 11 A (some this)).bind fun v26 =>
  if v26 ≤ x2 then
    some (.inr A)
  else
    (gR 5 60 A (some this)).bind fun v33 =>
    (gI 5 15 A (some this)).bind fun v38 =>
    (sI A v33 x2 v38).bind fun A41 =>
    (gR 5 61 A41 (some this)).bind fun v43 =>
    (sI A41 v43 x2 (0 : Int32)).bind fun A48 =>
    some (.inl ((x2 + (1 : Int32)), A48))

noncomputable def l_X4_findLaws_24 (this : Nat) (x1 : Int32) (x2 : Int32) (A : AH) : Option ((Int32 × AH) ⊕ (AH)) :=
  (whl (s_X4_findLaws_24 this x1) (x2, A)).bind fun e => match e with
  | A =>
    l_X4_findLaws_57 this x1 (0 : Int32) A

noncomputable def s_X4_findLaws_15 (this : Nat) (st : Int32 × AH) : Option ((Int32 × AH) ⊕ (AH)) := match st with
  | (x1, A) =>
  if (441 : Int32) ≤ x1 then
    some (.inr A)
  else
    l_X4_findLaws_24 this x1 (0 : Int32) A

noncomputable def l_X4_findLaws_15 (this : Nat) (x1 : Int32) (A : AH) : Option (AH) :=
  (whl (s_X4_findLaws_15 this) (x1, A)).bind fun e => match e with
  | A =>
    some A

noncomputable def f_X4_findLaws (this : Nat) (A : AH) : Option (AH) :=
  (gI 5 62 A (some this)).bind fun v1 =>
  if v1 = 0 then
    (pZ 5 62 A (some this) (1 : Int32)).bind fun A10 =>
    l_X4_findLaws_15 this (0 : Int32) A10
  else
    some A

/-! SlimeNetModel.ownAt(II)I -/
noncomputable def f_X4_ownAt (this : Nat) (x1 : Int32) (x2 : Int32) (A : AH) : Option (Int32) :=
  (gR 5 59 A (some this)).bind fun v1 =>
  (aI 10 A v1 (((41 : Int32) * x1) + x2)).bind fun v10 =>
  some v10

/-! SlimeNetModel.netAsKnown(II)I -/
noncomputable def f_X4_netAsKnown_49 (this : Nat) (x1 : Int32) (x2 : Int32) (x3 : Int32) (x4 : Int32) (A : AH) : Option ((Int32 × Int32) ⊕ (Int32)) :=
  some (.inl (x3, (x4 + (1 : Int32))))

noncomputable def s_X4_netAsKnown_10 (this : Nat) (x1 : Int32) (x2 : Int32) (A : AH) (st : Int32 × Int32) : Option ((Int32 × Int32) ⊕ (Int32)) := match st with
  | (x3, x4) =>
  (gI 5 64 A (some this)).bind fun v13 =>
  if v13 ≤ x4 then
    some (.inr x3)
  else
    (gR 5 69 A (some this)).bind fun v20 =>
    (aI 10 A v20 x4).bind fun v25 =>
    if v25 = x1 then
      (gR 5 71 A (some this)).bind fun v31 =>
      (aI 10 A v31 x4).bind fun v36 =>
      if x2 < v36 then
        f_X4_netAsKnown_49 this x1 x2 x3 x4 A
      else
        (gR 5 70 A (some this)).bind fun v42 =>
        (aI 10 A v42 x4).bind fun v47 =>
        f_X4_netAsKnown_49 this x1 x2 v47 x4 A
    else
      f_X4_netAsKnown_49 this x1 x2 x3 x4 A

noncomputable def l_X4_netAsKnown_10 (this : Nat) (x1 : Int32) (x2 : Int32) (x3 : Int32) (x4 : Int32) (A : AH) : Option (Int32) :=
  (whl (s_X4_netAsKnown_10 this x1 x2 A) (x3, x4)).bind fun e => match e with
  | x3 =>
    some x3

noncomputable def f_X4_netAsKnown (this : Nat) (x1 : Int32) (x2 : Int32) (A : AH) : Option (Int32) :=
  (gR 5 67 A (some this)).bind fun v1 =>
  (aI 10 A v1 x1).bind fun v5 =>
  l_X4_netAsKnown_10 this x1 x2 v5 (0 : Int32) A

/-! SlimeNetModel.fits(II)Z -/
noncomputable def f_X4_fits_42 (this : Nat) (x1 : Int32) (x2 : Int32) (x3 : Int32) (A : AH) : Option ((Int32) ⊕ ((Unit) ⊕ (Unit))) :=
  some (.inl (x3 + (1 : Int32)))

noncomputable def s_X4_fits_2 (this : Nat) (x1 : Int32) (x2 : Int32) (A : AH) (st : Int32) : Option ((Int32) ⊕ ((Unit) ⊕ (Unit))) := match st with
  | x3 =>
  (gI 5 63 A (some this)).bind fun v4 =>
  if v4 ≤ x3 then
    some (.inr (.inr ()))
  else
    (gR 5 68 A (some this)).bind fun v11 =>
    (aI 10 A v11 x3).bind fun v15 =>
    if x2 < v15 then
      f_X4_fits_42 this x1 x2 x3 A
    else
      (gR 5 66 A (some this)).bind fun v23 =>
      (aI 10 A v23 x3).bind fun v27 =>
      (rcv 5 A (some this)).bind fun k28 =>
      (f_X4_ownAt k28 x1 v27 A).bind fun v28 =>
      (rcv 5 A (some this)).bind fun k34 =>
      (f_X4_netAsKnown k34 x3 x2 A).bind fun v34 =>
      if v28 = v34 then
        f_X4_fits_42 this x1 x2 x3 A
      else
        some (.inr (.inl ()))

noncomputable def l_X4_fits_2 (this : Nat) (x1 : Int32) (x2 : Int32) (x3 : Int32) (A : AH) : Option (Int32) :=
  (whl (s_X4_fits_2 this x1 x2 A) x3).bind fun e => match e with
  | (.inl ()) =>
    (some (0 : Int32))
  | (.inr ()) =>
    (some (1 : Int32))

noncomputable def f_X4_fits (this : Nat) (x1 : Int32) (x2 : Int32) (A : AH) : Option (Int32) :=
  l_X4_fits_2 this x1 x2 (0 : Int32) A

/-! SlimeNetModel.fit(II)I -/
noncomputable def f_X4_fit_17 (A : AH) : Option (Int32 × AH) :=
  some ((-2 : Int32), A)

noncomputable def f_X4_fit_66 (this : Nat) (x1 : Int32) (x2 : Int32) (x3 : Int32) (x4 : Int32) (x5 : Int32) (A : AH) : Option ((Int32 × Int32 × Int32) ⊕ (Int32 × Int32)) :=
  some (.inl (x3, x4, (x5 + (1 : Int32))))

noncomputable def f_X4_fit_82 (t0 : Int32) (A : AH) : Option (Int32 × AH) :=
  some (t0, A)

noncomputable def s_X4_fit_32 (this : Nat) (x1 : Int32) (x2 : Int32) (A : AH) (st : Int32 × Int32 × Int32) : Option ((Int32 × Int32 × Int32) ⊕ (Int32 × Int32)) := match st with
  | (x3, x4, x5) =>
  if (441 : Int32) ≤ x5 then
    some (.inr (x3, x4))
  else
    (rcv 5 A (some this)).bind fun k44 =>
    (f_X4_fits k44 x5 x1 A).bind fun v44 =>
    if v44 = 0 then
      f_X4_fit_66 this x1 x2 x3 x4 x5 A
    else
      if x4 = (-1 : Int32) then
        f_X4_fit_66 this x1 x2 (x3 + (1 : Int32)) x5 x5 A
      else
        f_X4_fit_66 this x1 x2 (x3 + (1 : Int32)) x4 x5 A

noncomputable def l_X4_fit_32 (this : Nat) (x1 : Int32) (x2 : Int32) (x3 : Int32) (x4 : Int32) (x5 : Int32) (A : AH) : Option (Int32 × AH) :=
  (whl (s_X4_fit_32 this x1 x2 A) (x3, x4, x5)).bind fun e => match e with
  | (x3, x4) =>
    if x2 = 0 then
      f_X4_fit_82 x3 A
    else
      f_X4_fit_82 x4 A

noncomputable def f_X4_fit (this : Nat) (x1 : Int32) (x2 : Int32) (A : AH) : Option (Int32 × AH) :=
  (f_X4_isStep x1).bind fun v1 =>
  if v1 = 0 then
    f_X4_fit_17 A
  else
    (f_X4_in (Int32.toInt64 x2) (0 : Int64) (1 : Int64)).bind fun v11 =>
    if v11 = 0 then
      f_X4_fit_17 A
    else
      (rcv 5 A (some this)).bind fun k21 =>
      (f_X4_findLaws k21 A).bind fun A21 =>
      l_X4_fit_32 this x1 x2 (0 : Int32) (-1 : Int32) (0 : Int32) A21

/-! SlimeNet.surely(III)I -/
noncomputable def f_X0_surely_29 (A : AH) : Option (Int32 × AH) :=
  some ((-2 : Int32), A)

noncomputable def f_X0_surely_114 (t0 : Int32) (A : AH) : Option (Int32 × AH) :=
  some (t0, A)

noncomputable def s_X0_surely_44 (this : Nat) (x1 : Int32) (x2 : Int32) (A : AH) (st : Int32 × Int32) : Option ((Int32 × Int32) ⊕ (Int32)) := match st with
  | (x4, x5) =>
  (gI 1 30 A (some this)).bind fun v47 =>
  if v47 ≤ x5 then
    some (.inr x4)
  else
    (gR 1 28 A (some this)).bind fun v56 =>
    (aI 10 A v56 (((41 : Int32) * x5) + x2)).bind fun v66 =>
    some (.inl ((x4 + ((v66 >>> (x1 &&& 31)) &&& (1 : Int32))), (x5 + (1 : Int32))))

noncomputable def l_X0_surely_44 (this : Nat) (x1 : Int32) (x2 : Int32) (x4 : Int32) (x5 : Int32) (A : AH) : Option (Int32 × AH) :=
  (whl (s_X0_surely_44 this x1 x2 A) (x4, x5)).bind fun e => match e with
  | x4 =>
    (gI 1 30 A (some this)).bind fun v81 =>
    if v81 = 0 then
      f_X0_surely_114 (-1 : Int32) A
    else
      (gI 1 30 A (some this)).bind fun v94 =>
      if x4 = v94 then
        f_X0_surely_114 (1 : Int32) A
      else
        if x4 = 0 then
          f_X0_surely_114 (0 : Int32) A
        else
          f_X0_surely_114 (2 : Int32) A

noncomputable def f_X0_surely (this : Nat) (x1 : Int32) (x2 : Int32) (x3 : Int32) (A : AH) : Option (Int32 × AH) :=
  (rcv 1 A (some this)).bind fun k2 =>
  (f_X0_isPipe k2 x1 A).bind fun v2 =>
  if v2 = 0 then
    f_X0_surely_29 A
  else
    (f_X0_in x2 (0 : Int32) (40 : Int32)).bind fun v12 =>
    if v12 = 0 then
      f_X0_surely_29 A
    else
      (f_X0_in x3 (0 : Int32) (999 : Int32)).bind fun v23 =>
      if v23 = 0 then
        f_X0_surely_29 A
      else
        (rcv 1 A (some this)).bind fun k35 =>
        (f_X0_findFits k35 x3 x2 A).bind fun A35 =>
        l_X0_surely_44 this x1 x2 (0 : Int32) (0 : Int32) A35

/-! SlimeNetModel.surely(III)I -/
noncomputable def f_X4_surely_22 (A : AH) : Option (Int32 × AH) :=
  some ((-2 : Int32), A)

noncomputable def f_X4_surely_78 (this : Nat) (x1 : Int32) (x2 : Int32) (x3 : Int32) (x4 : Int32) (x5 : Int32) (x6 : Int32) (A : AH) : Option ((Int32 × Int32 × Int32) ⊕ (Int32 × Int32)) :=
  some (.inl (x4, x5, (x6 + (1 : Int32))))

noncomputable def f_X4_surely_114 (t0 : Int32) (A : AH) : Option (Int32 × AH) :=
  some (t0, A)

noncomputable def s_X4_surely_38 (this : Nat) (x1 : Int32) (x2 : Int32) (x3 : Int32) (A : AH) (st : Int32 × Int32 × Int32) : Option ((Int32 × Int32 × Int32) ⊕ (Int32 × Int32)) := match st with
  | (x4, x5, x6) =>
  if (441 : Int32) ≤ x6 then
    some (.inr (x4, x5))
  else
    (rcv 5 A (some this)).bind fun k50 =>
    (f_X4_fits k50 x6 x3 A).bind fun v50 =>
    if v50 = 0 then
      f_X4_surely_78 this x1 x2 x3 x4 x5 x6 A
    else
      (rcv 5 A (some this)).bind fun k68 =>
      (f_X4_ownAt k68 x6 x2 A).bind fun v68 =>
      f_X4_surely_78 this x1 x2 x3 (x4 + (1 : Int32)) (x5 + ((v68 >>> (x1 &&& 31)) &&& (1 : Int32))) x6 A

noncomputable def l_X4_surely_38 (this : Nat) (x1 : Int32) (x2 : Int32) (x3 : Int32) (x4 : Int32) (x5 : Int32) (x6 : Int32) (A : AH) : Option (Int32 × AH) :=
  (whl (s_X4_surely_38 this x1 x2 x3 A) (x4, x5, x6)).bind fun e => match e with
  | (x4, x5) =>
    if x4 = 0 then
      f_X4_surely_114 (-1 : Int32) A
    else
      if x5 = x4 then
        f_X4_surely_114 (1 : Int32) A
      else
        if x5 = 0 then
          f_X4_surely_114 (0 : Int32) A
        else
          f_X4_surely_114 (2 : Int32) A

noncomputable def f_X4_surely (this : Nat) (x1 : Int32) (x2 : Int32) (x3 : Int32) (A : AH) : Option (Int32 × AH) :=
  (rcv 5 A (some this)).bind fun k2 =>
  (f_X4_isPipe k2 x1 A).bind fun v2 =>
  if v2 = 0 then
    f_X4_surely_22 A
  else
    (f_X4_isHour x2).bind fun v9 =>
    if v9 = 0 then
      f_X4_surely_22 A
    else
      (f_X4_isStep x3).bind fun v16 =>
      if v16 = 0 then
        f_X4_surely_22 A
      else
        (rcv 5 A (some this)).bind fun k26 =>
        (f_X4_findLaws k26 A).bind fun A26 =>
        l_X4_surely_38 this x1 x2 x3 (0 : Int32) (0 : Int32) (0 : Int32) A26

/-! SlimeNet.look()I -/
noncomputable def f_X0_look_88 (this : Nat) (x1 : Int32) (x2 : Int32) (x3 : Int32) (x4 : Int32) (x5 : Int32) (x7 : Int32) (t0 : Int32) (t1 : Int32) (A : AH) : Option ((Int32 × Int32) ⊕ (Int32)) :=
  some (.inl ((t1 + t0), (x7 + (1 : Int32))))

noncomputable def s_X0_look_45 (this : Nat) (x1 : Int32) (x2 : Int32) (x3 : Int32) (x4 : Int32) (x5 : Int32) (A : AH) (st : Int32 × Int32) : Option ((Int32 × Int32) ⊕ (Int32)) := match st with
  | (x6, x7) =>
  (gI 1 30 A (some this)).bind fun v48 =>
  if v48 ≤ x7 then
    some (.inr x6)
  else
    (gR 1 28 A (some this)).bind fun v57 =>
    (aI 10 A v57 (((41 : Int32) * x5) + x3)).bind fun v67 =>
    (gR 1 28 A (some this)).bind fun v69 =>
    (aI 10 A v69 (((41 : Int32) * x7) + x3)).bind fun v79 =>
    if v67 = v79 then
      f_X0_look_88 this x1 x2 x3 x4 x5 x7 (1 : Int32) x6 A
    else
      f_X0_look_88 this x1 x2 x3 x4 x5 x7 (0 : Int32) x6 A

noncomputable def l_X0_look_45 (this : Nat) (x1 : Int32) (x2 : Int32) (x3 : Int32) (x4 : Int32) (x5 : Int32) (x6 : Int32) (x7 : Int32) (A : AH) : Option ((Int32 × Int32) ⊕ (Int32)) :=
  (whl (s_X0_look_45 this x1 x2 x3 x4 x5 A) (x6, x7)).bind fun e => match e with
  | x6 =>
    some (.inl ((mxI x4 x6), (x5 + (1 : Int32))))

noncomputable def f_X0_look_126 (this : Nat) (x1 : Int32) (x2 : Int32) (x3 : Int32) (A : AH) : Option ((Int32 × Int32 × Int32) ⊕ (Int32)) :=
  some (.inl (x1, x2, (x3 + (1 : Int32))))

noncomputable def s_X0_look_30 (this : Nat) (x1 : Int32) (x2 : Int32) (x3 : Int32) (A : AH) (st : Int32 × Int32) : Option ((Int32 × Int32) ⊕ (Int32)) := match st with
  | (x4, x5) =>
  (gI 1 30 A (some this)).bind fun v33 =>
  if v33 ≤ x5 then
    some (.inr x4)
  else
    l_X0_look_45 this x1 x2 x3 x4 x5 (0 : Int32) (0 : Int32) A

noncomputable def l_X0_look_30 (this : Nat) (x1 : Int32) (x2 : Int32) (x3 : Int32) (x4 : Int32) (x5 : Int32) (A : AH) : Option ((Int32 × Int32 × Int32) ⊕ (Int32)) :=
  (whl (s_X0_look_30 this x1 x2 x3 A) (x4, x5)).bind fun e => match e with
  | x4 =>
    if x4 < x2 then
      f_X0_look_126 this x3 x4 x3 A
    else
      f_X0_look_126 this x1 x2 x3 A

noncomputable def s_X0_look_18 (this : Nat) (A : AH) (st : Int32 × Int32 × Int32) : Option ((Int32 × Int32 × Int32) ⊕ (Int32)) := match st with
  | (x1, x2, x3) =>
  if (40 : Int32) < x3 then
    some (.inr x1)
  else
    l_X0_look_30 this x1 x2 x3 (0 : Int32) (0 : Int32) A

noncomputable def l_X0_look_18 (this : Nat) (x1 : Int32) (x2 : Int32) (x3 : Int32) (A : AH) : Option (Int32 × AH) :=
  (whl (s_X0_look_18 this A) (x1, x2, x3)).bind fun e => match e with
  | x1 =>
    some (x1, A)

noncomputable def f_X0_look (this : Nat) (A : AH) : Option (Int32 × AH) :=
  (rcv 1 A (some this)).bind fun k6 =>
  (f_X0_findFits k6 (999 : Int32) (40 : Int32) A).bind fun A6 =>
  (gI 1 30 A6 (some this)).bind fun v12 =>
  l_X0_look_18 this (-1 : Int32) v12 (0 : Int32) A6

/-! SlimeNetModel.look()I -/
noncomputable def f_X4_look_114 (this : Nat) (x1 : Int32) (x2 : Int32) (x3 : Int32) (x4 : Int32) (x5 : Int32) (x6 : Int32) (A : AH) : Option ((Int32 × Int32 × Int32 × AH) ⊕ (Int32 × Int32 × AH)) :=
  some (.inl (x4, x5, (x6 + (1 : Int32)), A))

noncomputable def f_X4_look_146 (this : Nat) (x1 : Int32) (x2 : Int32) (x3 : Int32) (A : AH) : Option ((Int32 × Int32 × Int32 × AH) ⊕ (Int32 × AH)) :=
  some (.inl (x1, x2, (x3 + (1 : Int32)), A))

noncomputable def f_X4_look_141 (this : Nat) (x3 : Int32) (x5 : Int32) (A : AH) : Option ((Int32 × Int32 × Int32 × AH) ⊕ (Int32 × AH)) :=
  f_X4_look_146 this x3 x5 x3 A

noncomputable def s_X4_look_53 (this : Nat) (x1 : Int32) (x2 : Int32) (x3 : Int32) (st : Int32 × Int32 × Int32 × AH) : Option ((Int32 × Int32 × Int32 × AH) ⊕ (Int32 × Int32 × AH)) := match st with
  | (x4, x5, x6, A) =>
  if (441 : Int32) ≤ x6 then
    some (.inr (x4, x5, A))
  else
    (rcv 5 A (some this)).bind fun k67 =>
    (f_X4_fits k67 x6 (999 : Int32) A).bind fun v67 =>
    if v67 = 0 then
      f_X4_look_114 this x1 x2 x3 x4 x5 x6 A
    else
      (gR 5 72 A (some this)).bind fun v80 =>
      (rcv 5 A (some this)).bind fun k87 =>
      (f_X4_ownAt k87 x6 x3 A).bind fun v87 =>
      (aI 10 A v80 v87).bind fun v91 =>
      (sI A v80 v87 (v91 + (1 : Int32))).bind fun A94 =>
      (gR 5 72 A94 (some this)).bind fun v98 =>
      (rcv 5 A94 (some this)).bind fun k105 =>
      (f_X4_ownAt k105 x6 x3 A94).bind fun v105 =>
      (aI 10 A94 v98 v105).bind fun v108 =>
      f_X4_look_114 this x1 x2 x3 (x4 + (1 : Int32)) (mxI x5 v108) x6 A94

noncomputable def l_X4_look_53 (this : Nat) (x1 : Int32) (x2 : Int32) (x3 : Int32) (x4 : Int32) (x5 : Int32) (x6 : Int32) (A : AH) : Option ((Int32 × Int32 × Int32 × AH) ⊕ (Int32 × AH)) :=
  (whl (s_X4_look_53 this x1 x2 x3) (x4, x5, x6, A)).bind fun e => match e with
  | (x4, x5, A) =>
    if x5 = x4 then
      f_X4_look_146 this x1 x2 x3 A
    else
      if x1 = (-1 : Int32) then
        f_X4_look_141 this x3 x5 A
      else
        if x5 < x2 then
          f_X4_look_141 this x3 x5 A
        else
          f_X4_look_146 this x1 x2 x3 A

noncomputable def s_X4_look_19 (this : Nat) (x1 : Int32) (x2 : Int32) (x3 : Int32) (st : Int32 × AH) : Option ((Int32 × AH) ⊕ (AH)) := match st with
  | (x4, A) =>
  (gI 5 11 A (some this)).bind fun v23 =>
  if ((1 : Int32) <<< (v23 &&& 31)) ≤ x4 then
    some (.inr A)
  else
    (gR 5 72 A (some this)).bind fun v31 =>
    (sI A v31 x4 (0 : Int32)).bind fun A37 =>
    some (.inl ((x4 + (1 : Int32)), A37))

noncomputable def l_X4_look_19 (this : Nat) (x1 : Int32) (x2 : Int32) (x3 : Int32) (x4 : Int32) (A : AH) : Option ((Int32 × Int32 × Int32 × AH) ⊕ (Int32 × AH)) :=
  (whl (s_X4_look_19 this x1 x2 x3) (x4, A)).bind fun e => match e with
  | A =>
    l_X4_look_53 this x1 x2 x3 (0 : Int32) (0 : Int32) (0 : Int32) A

noncomputable def s_X4_look_10 (this : Nat) (st : Int32 × Int32 × Int32 × AH) : Option ((Int32 × Int32 × Int32 × AH) ⊕ (Int32 × AH)) := match st with
  | (x1, x2, x3, A) =>
  if (40 : Int32) < x3 then
    some (.inr (x1, A))
  else
    l_X4_look_19 this x1 x2 x3 (0 : Int32) A

noncomputable def l_X4_look_10 (this : Nat) (x1 : Int32) (x2 : Int32) (x3 : Int32) (A : AH) : Option (Int32 × AH) :=
  (whl (s_X4_look_10 this) (x1, x2, x3, A)).bind fun e => match e with
  | (x1, A) =>
    some (x1, A)

noncomputable def f_X4_look (this : Nat) (A : AH) : Option (Int32 × AH) :=
  (rcv 5 A (some this)).bind fun k1 =>
  (f_X4_findLaws k1 A).bind fun A1 =>
  l_X4_look_10 this (-1 : Int32) (0 : Int32) (0 : Int32) A1

/-! SlimeNet.count(I)I -/
noncomputable def f_X0_count (this : Nat) (x1 : Int32) (A : AH) : Option (Int32) :=
  if x1.toInt < 0 ∨ 4 < x1.toInt then
    some (-1 : Int32)
  else if x1 = (0 : Int32) then
    (gR 1 5 A (some this)).bind fun v37 =>
    (gI 3 10 A v37).bind fun v40 =>
    some v40
  else if x1 = (1 : Int32) then
    (gI 1 18 A (some this)).bind fun v45 =>
    some v45
  else if x1 = (2 : Int32) then
    (gI 1 19 A (some this)).bind fun v50 =>
    some v50
  else if x1 = (3 : Int32) then
    (gI 1 2 A (some this)).bind fun v55 =>
    some v55
  else if x1 = (4 : Int32) then
    (gR 1 6 A (some this)).bind fun v60 =>
    (gI 4 3 A v60).bind fun v63 =>
    some v63
  else
    none

/-! SlimeNetModel.count(I)I -/
noncomputable def f_X4_count (this : Nat) (x1 : Int32) (A : AH) : Option (Int32) :=
  if x1.toInt < 0 ∨ 4 < x1.toInt then
    some (-1 : Int32)
  else if x1 = (0 : Int32) then
    (gI 5 18 A (some this)).bind fun v37 =>
    some v37
  else if x1 = (1 : Int32) then
    (gI 5 63 A (some this)).bind fun v42 =>
    some v42
  else if x1 = (2 : Int32) then
    (gI 5 64 A (some this)).bind fun v47 =>
    some v47
  else if x1 = (3 : Int32) then
    (gI 5 1 A (some this)).bind fun v52 =>
    some v52
  else if x1 = (4 : Int32) then
    (gI 5 48 A (some this)).bind fun v57 =>
    some v57
  else
    none

/-! SlimeNetLaw.law([I)Z -/
noncomputable def f_L_law_940 (x0 : Option Nat) (x1 : Option Nat) (x2 : Option Nat) (x3 : Int32) (A : AH) : Option ((Int32 × AH) ⊕ ((AH) ⊕ (AH) ⊕ (AH) ⊕ (AH) ⊕ (AH) ⊕ (AH) ⊕ (AH) ⊕ (AH) ⊕ (AH) ⊕ (AH) ⊕ (AH) ⊕ (AH) ⊕ (AH) ⊕ (AH) ⊕ (AH) ⊕ (AH) ⊕ (AH) ⊕ (AH) ⊕ (AH) ⊕ (AH) ⊕ (AH) ⊕ (AH) ⊕ (AH) ⊕ (AH) ⊕ (AH) ⊕ (AH) ⊕ (AH) ⊕ (AH) ⊕ (AH) ⊕ (AH) ⊕ (AH))) :=
  some (.inl ((x3 + (6 : Int32)), A))

noncomputable def s_L_law_18 (x0 : Option Nat) (x1 : Option Nat) (x2 : Option Nat) (st : Int32 × AH) : Option ((Int32 × AH) ⊕ ((AH) ⊕ (AH) ⊕ (AH) ⊕ (AH) ⊕ (AH) ⊕ (AH) ⊕ (AH) ⊕ (AH) ⊕ (AH) ⊕ (AH) ⊕ (AH) ⊕ (AH) ⊕ (AH) ⊕ (AH) ⊕ (AH) ⊕ (AH) ⊕ (AH) ⊕ (AH) ⊕ (AH) ⊕ (AH) ⊕ (AH) ⊕ (AH) ⊕ (AH) ⊕ (AH) ⊕ (AH) ⊕ (AH) ⊕ (AH) ⊕ (AH) ⊕ (AH) ⊕ (AH) ⊕ (AH))) := match st with
  | (x3, A) =>
  (al 10 A x0).bind fun v20 =>
  if (v20 - (6 : Int32)) < x3 then
    some (.inr (.inr (.inr (.inr (.inr (.inr (.inr (.inr (.inr (.inr (.inr (.inr (.inr (.inr (.inr (.inr (.inr (.inr (.inr (.inr (.inr (.inr (.inr (.inr (.inr (.inr (.inr (.inr (.inr (.inr (.inr A)))))))))))))))))))))))))))))))
  else
    (aI 10 A x0 x3).bind fun v29 =>
    if (v29 &&& (31 : Int32)).toInt < 0 ∨ 29 < (v29 &&& (31 : Int32)).toInt then
      f_L_law_940 x0 x1 x2 x3 A
    else if (v29 &&& (31 : Int32)) = (0 : Int32) then
      (aI 10 A x0 (x3 + (1 : Int32))).bind fun v173 =>
      (aI 10 A x0 (x3 + (2 : Int32))).bind fun v178 =>
      (aI 10 A x0 (x3 + (3 : Int32))).bind fun v183 =>
      (aI 10 A x0 (x3 + (4 : Int32))).bind fun v188 =>
      (aI 10 A x0 (x3 + (5 : Int32))).bind fun v193 =>
      (rcv 1 A x1).bind fun k194 =>
      (f_X0_feed k194 v173 v178 v183 v188 v193 A).bind fun q194 => match q194 with
      | (v194, A194) =>
      (aI 10 A194 x0 (x3 + (1 : Int32))).bind fun v202 =>
      (aI 10 A194 x0 (x3 + (2 : Int32))).bind fun v207 =>
      (aI 10 A194 x0 (x3 + (3 : Int32))).bind fun v212 =>
      (aI 10 A194 x0 (x3 + (4 : Int32))).bind fun v217 =>
      (aI 10 A194 x0 (x3 + (5 : Int32))).bind fun v222 =>
      (rcv 5 A194 x2).bind fun k223 =>
      (f_X4_feed k223 v202 v207 v212 v217 v222 A194).bind fun q223 => match q223 with
      | (v223, A223) =>
      if v194 = v223 then
        f_L_law_940 x0 x1 x2 x3 A223
      else
        some (.inr (.inl A223))
    else if (v29 &&& (31 : Int32)) = (1 : Int32) then
      (aI 10 A x0 (x3 + (1 : Int32))).bind fun v236 =>
      (rcv 1 A x1).bind fun k237 =>
      (f_X0_end k237 v236 A).bind fun q237 => match q237 with
      | (v237, A237) =>
      (aI 10 A237 x0 (x3 + (1 : Int32))).bind fun v245 =>
      (rcv 5 A237 x2).bind fun k246 =>
      (f_X4_end k246 v245 A237).bind fun q246 => match q246 with
      | (v246, A246) =>
      if v237 = v246 then
        f_L_law_940 x0 x1 x2 x3 A246
      else
        some (.inr (.inr (.inl A246)))
    else if (v29 &&& (31 : Int32)) = (2 : Int32) then
      (rcv 1 A x1).bind fun k255 =>
      (f_X0_plate k255 A).bind fun q255 => match q255 with
      | (v255, A255) =>
      (rcv 5 A255 x2).bind fun k259 =>
      (f_X4_plate k259 A255).bind fun q259 => match q259 with
      | (v259, A259) =>
      if v255 = v259 then
        f_L_law_940 x0 x1 x2 x3 A259
      else
        some (.inr (.inr (.inr (.inl A259))))
    else if (v29 &&& (31 : Int32)) = (3 : Int32) then
      (aI 10 A x0 (x3 + (1 : Int32))).bind fun v272 =>
      (rcv 1 A x1).bind fun k273 =>
      (f_X0_fault k273 v272 A).bind fun v273 =>
      (aI 10 A x0 (x3 + (1 : Int32))).bind fun v281 =>
      (rcv 5 A x2).bind fun k282 =>
      (f_X4_fault k282 v281 A).bind fun v282 =>
      if v273 = v282 then
        f_L_law_940 x0 x1 x2 x3 A
      else
        some (.inr (.inr (.inr (.inr (.inl A)))))
    else if (v29 &&& (31 : Int32)) = (4 : Int32) then
      (aI 10 A x0 (x3 + (1 : Int32))).bind fun v295 =>
      (rcv 1 A x1).bind fun k296 =>
      (f_X0_told k296 v295 A).bind fun v296 =>
      (aI 10 A x0 (x3 + (1 : Int32))).bind fun v304 =>
      (rcv 5 A x2).bind fun k305 =>
      (f_X4_told k305 v304 A).bind fun v305 =>
      if v296 = v305 then
        f_L_law_940 x0 x1 x2 x3 A
      else
        some (.inr (.inr (.inr (.inr (.inr (.inl A))))))
    else if (v29 &&& (31 : Int32)) = (5 : Int32) then
      (aI 10 A x0 (x3 + (1 : Int32))).bind fun v318 =>
      (rcv 1 A x1).bind fun k319 =>
      (f_X0_width k319 v318 A).bind fun v319 =>
      (aI 10 A x0 (x3 + (1 : Int32))).bind fun v327 =>
      (rcv 5 A x2).bind fun k328 =>
      (f_X4_width k328 v327 A).bind fun v328 =>
      if v319 = v328 then
        f_L_law_940 x0 x1 x2 x3 A
      else
        some (.inr (.inr (.inr (.inr (.inr (.inr (.inl A)))))))
    else if (v29 &&& (31 : Int32)) = (6 : Int32) then
      (aI 10 A x0 (x3 + (1 : Int32))).bind fun v341 =>
      (rcv 1 A x1).bind fun k342 =>
      (f_X0_learnt k342 v341 A).bind fun v342 =>
      (aI 10 A x0 (x3 + (1 : Int32))).bind fun v350 =>
      (rcv 5 A x2).bind fun k351 =>
      (f_X4_learnt k351 v350 A).bind fun v351 =>
      if v342 = v351 then
        f_L_law_940 x0 x1 x2 x3 A
      else
        some (.inr (.inr (.inr (.inr (.inr (.inr (.inr (.inl A))))))))
    else if (v29 &&& (31 : Int32)) = (7 : Int32) then
      (aI 10 A x0 (x3 + (1 : Int32))).bind fun v364 =>
      (aI 10 A x0 (x3 + (2 : Int32))).bind fun v369 =>
      (rcv 1 A x1).bind fun k370 =>
      (f_X0_set k370 v364 v369 A).bind fun q370 => match q370 with
      | (v370, A370) =>
      (aI 10 A370 x0 (x3 + (1 : Int32))).bind fun v378 =>
      (aI 10 A370 x0 (x3 + (2 : Int32))).bind fun v383 =>
      (rcv 5 A370 x2).bind fun k384 =>
      (f_X4_set k384 v378 v383 A370).bind fun q384 => match q384 with
      | (v384, A384) =>
      if v370 = v384 then
        f_L_law_940 x0 x1 x2 x3 A384
      else
        some (.inr (.inr (.inr (.inr (.inr (.inr (.inr (.inr (.inl A384)))))))))
    else if (v29 &&& (31 : Int32)) = (8 : Int32) then
      (aI 10 A x0 (x3 + (1 : Int32))).bind fun v397 =>
      (aI 10 A x0 (x3 + (2 : Int32))).bind fun v402 =>
      (rcv 1 A x1).bind fun k403 =>
      (f_X0_law k403 v397 v402 A).bind fun q403 => match q403 with
      | (v403, A403) =>
      (aI 10 A403 x0 (x3 + (1 : Int32))).bind fun v411 =>
      (aI 10 A403 x0 (x3 + (2 : Int32))).bind fun v416 =>
      (rcv 5 A403 x2).bind fun k417 =>
      (f_X4_law k417 v411 v416 A403).bind fun q417 => match q417 with
      | (v417, A417) =>
      if v403 = v417 then
        f_L_law_940 x0 x1 x2 x3 A417
      else
        some (.inr (.inr (.inr (.inr (.inr (.inr (.inr (.inr (.inr (.inl A417))))))))))
    else if (v29 &&& (31 : Int32)) = (9 : Int32) then
      (aI 10 A x0 (x3 + (1 : Int32))).bind fun v430 =>
      (rcv 1 A x1).bind fun k431 =>
      (f_X0_flow k431 v430 A).bind fun q431 => match q431 with
      | (v431, A431) =>
      (aI 10 A431 x0 (x3 + (1 : Int32))).bind fun v439 =>
      (rcv 5 A431 x2).bind fun k440 =>
      (f_X4_flow k440 v439 A431).bind fun q440 => match q440 with
      | (v440, A440) =>
      if (lg_cmp v431 v440) = 0 then
        f_L_law_940 x0 x1 x2 x3 A440
      else
        some (.inr (.inr (.inr (.inr (.inr (.inr (.inr (.inr (.inr (.inr (.inl A440)))))))))))
    else if (v29 &&& (31 : Int32)) = (10 : Int32) then
      (aI 10 A x0 (x3 + (1 : Int32))).bind fun v454 =>
      (rcv 1 A x1).bind fun k455 =>
      (f_X0_under k455 v454 A).bind fun q455 => match q455 with
      | (v455, A455) =>
      (aI 10 A455 x0 (x3 + (1 : Int32))).bind fun v463 =>
      (rcv 5 A455 x2).bind fun k464 =>
      (f_X4_under k464 v463 A455).bind fun q464 => match q464 with
      | (v464, A464) =>
      if (lg_cmp v455 v464) = 0 then
        f_L_law_940 x0 x1 x2 x3 A464
      else
        some (.inr (.inr (.inr (.inr (.inr (.inr (.inr (.inr (.inr (.inr (.inr (.inl A464))))))))))))
    else if (v29 &&& (31 : Int32)) = (11 : Int32) then
      (aI 10 A x0 (x3 + (1 : Int32))).bind fun v478 =>
      (rcv 1 A x1).bind fun k479 =>
      (f_X0_hours k479 v478 A).bind fun q479 => match q479 with
      | (v479, A479) =>
      (aI 10 A479 x0 (x3 + (1 : Int32))).bind fun v487 =>
      (rcv 5 A479 x2).bind fun k488 =>
      (f_X4_hours k488 v487 A479).bind fun q488 => match q488 with
      | (v488, A488) =>
      if v479 = v488 then
        f_L_law_940 x0 x1 x2 x3 A488
      else
        some (.inr (.inr (.inr (.inr (.inr (.inr (.inr (.inr (.inr (.inr (.inr (.inr (.inl A488)))))))))))))
    else if (v29 &&& (31 : Int32)) = (12 : Int32) then
      (rcv 1 A x1).bind fun k497 =>
      (f_X0_rest k497 A).bind fun q497 => match q497 with
      | (v497, A497) =>
      (rcv 5 A497 x2).bind fun k501 =>
      (f_X4_rest k501 A497).bind fun q501 => match q501 with
      | (v501, A501) =>
      if v497 = v501 then
        f_L_law_940 x0 x1 x2 x3 A501
      else
        some (.inr (.inr (.inr (.inr (.inr (.inr (.inr (.inr (.inr (.inr (.inr (.inr (.inr (.inl A501))))))))))))))
    else if (v29 &&& (31 : Int32)) = (13 : Int32) then
      (rcv 1 A x1).bind fun k510 =>
      (f_X0_ring k510 A).bind fun v510 =>
      (rcv 5 A x2).bind fun k514 =>
      (f_X4_ring k514 A).bind fun v514 =>
      if v510 = v514 then
        f_L_law_940 x0 x1 x2 x3 A
      else
        some (.inr (.inr (.inr (.inr (.inr (.inr (.inr (.inr (.inr (.inr (.inr (.inr (.inr (.inr (.inl A)))))))))))))))
    else if (v29 &&& (31 : Int32)) = (14 : Int32) then
      (aI 10 A x0 (x3 + (1 : Int32))).bind fun v527 =>
      (rcv 1 A x1).bind fun k528 =>
      (f_X0_chance k528 v527 A).bind fun q528 => match q528 with
      | (v528, A528) =>
      (aI 10 A528 x0 (x3 + (1 : Int32))).bind fun v536 =>
      (rcv 5 A528 x2).bind fun k537 =>
      (f_X4_chance k537 v536 A528).bind fun q537 => match q537 with
      | (v537, A537) =>
      if v528 = v537 then
        f_L_law_940 x0 x1 x2 x3 A537
      else
        some (.inr (.inr (.inr (.inr (.inr (.inr (.inr (.inr (.inr (.inr (.inr (.inr (.inr (.inr (.inr (.inl A537))))))))))))))))
    else if (v29 &&& (31 : Int32)) = (15 : Int32) then
      (aI 10 A x0 (x3 + (1 : Int32))).bind fun v550 =>
      (rcv 1 A x1).bind fun k551 =>
      (f_X0_keep k551 v550 A).bind fun q551 => match q551 with
      | (v551, A551) =>
      (aI 10 A551 x0 (x3 + (1 : Int32))).bind fun v559 =>
      (rcv 5 A551 x2).bind fun k560 =>
      (f_X4_keep k560 v559 A551).bind fun q560 => match q560 with
      | (v560, A560) =>
      if v551 = v560 then
        f_L_law_940 x0 x1 x2 x3 A560
      else
        some (.inr (.inr (.inr (.inr (.inr (.inr (.inr (.inr (.inr (.inr (.inr (.inr (.inr (.inr (.inr (.inr (.inl A560)))))))))))))))))
    else if (v29 &&& (31 : Int32)) = (16 : Int32) then
      (aI 10 A x0 (x3 + (1 : Int32))).bind fun v573 =>
      (rcv 1 A x1).bind fun k574 =>
      (f_X0_take k574 v573 A).bind fun q574 => match q574 with
      | (v574, A574) =>
      (aI 10 A574 x0 (x3 + (1 : Int32))).bind fun v582 =>
      (rcv 5 A574 x2).bind fun k583 =>
      (f_X4_take k583 v582 A574).bind fun q583 => match q583 with
      | (v583, A583) =>
      if v574 = v583 then
        f_L_law_940 x0 x1 x2 x3 A583
      else
        some (.inr (.inr (.inr (.inr (.inr (.inr (.inr (.inr (.inr (.inr (.inr (.inr (.inr (.inr (.inr (.inr (.inr (.inl A583))))))))))))))))))
    else if (v29 &&& (31 : Int32)) = (17 : Int32) then
      (aI 10 A x0 (x3 + (1 : Int32))).bind fun v596 =>
      (aI 10 A x0 (x3 + (2 : Int32))).bind fun v601 =>
      (rcv 1 A x1).bind fun k602 =>
      (f_X0_alike k602 v596 v601 A).bind fun v602 =>
      (aI 10 A x0 (x3 + (1 : Int32))).bind fun v610 =>
      (aI 10 A x0 (x3 + (2 : Int32))).bind fun v615 =>
      (rcv 5 A x2).bind fun k616 =>
      (f_X4_alike k616 v610 v615 A).bind fun v616 =>
      if v602 = v616 then
        f_L_law_940 x0 x1 x2 x3 A
      else
        some (.inr (.inr (.inr (.inr (.inr (.inr (.inr (.inr (.inr (.inr (.inr (.inr (.inr (.inr (.inr (.inr (.inr (.inr (.inl A)))))))))))))))))))
    else if (v29 &&& (31 : Int32)) = (18 : Int32) then
      (aI 10 A x0 (x3 + (1 : Int32))).bind fun v629 =>
      (rcv 1 A x1).bind fun k630 =>
      (f_X0_tell k630 v629 A).bind fun q630 => match q630 with
      | (v630, A630) =>
      (aI 10 A630 x0 (x3 + (1 : Int32))).bind fun v638 =>
      (rcv 5 A630 x2).bind fun k639 =>
      (f_X4_tell k639 v638 A630).bind fun q639 => match q639 with
      | (v639, A639) =>
      if v630 = v639 then
        f_L_law_940 x0 x1 x2 x3 A639
      else
        some (.inr (.inr (.inr (.inr (.inr (.inr (.inr (.inr (.inr (.inr (.inr (.inr (.inr (.inr (.inr (.inr (.inr (.inr (.inr (.inl A639))))))))))))))))))))
    else if (v29 &&& (31 : Int32)) = (19 : Int32) then
      (rcv 1 A x1).bind fun k648 =>
      (f_X0_own k648 A).bind fun v648 =>
      (rcv 5 A x2).bind fun k652 =>
      (f_X4_own k652 A).bind fun v652 =>
      if v648 = v652 then
        f_L_law_940 x0 x1 x2 x3 A
      else
        some (.inr (.inr (.inr (.inr (.inr (.inr (.inr (.inr (.inr (.inr (.inr (.inr (.inr (.inr (.inr (.inr (.inr (.inr (.inr (.inr (.inl A)))))))))))))))))))))
    else if (v29 &&& (31 : Int32)) = (20 : Int32) then
      (aI 10 A x0 (x3 + (1 : Int32))).bind fun v665 =>
      (aI 10 A x0 (x3 + (2 : Int32))).bind fun v670 =>
      (rcv 1 A x1).bind fun k671 =>
      (f_X0_net k671 v665 v670 A).bind fun q671 => match q671 with
      | (v671, A671) =>
      (aI 10 A671 x0 (x3 + (1 : Int32))).bind fun v679 =>
      (aI 10 A671 x0 (x3 + (2 : Int32))).bind fun v684 =>
      (rcv 5 A671 x2).bind fun k685 =>
      (f_X4_net k685 v679 v684 A671).bind fun q685 => match q685 with
      | (v685, A685) =>
      if v671 = v685 then
        f_L_law_940 x0 x1 x2 x3 A685
      else
        some (.inr (.inr (.inr (.inr (.inr (.inr (.inr (.inr (.inr (.inr (.inr (.inr (.inr (.inr (.inr (.inr (.inr (.inr (.inr (.inr (.inr (.inl A685))))))))))))))))))))))
    else if (v29 &&& (31 : Int32)) = (21 : Int32) then
      (rcv 1 A x1).bind fun k694 =>
      (f_X0_shortest k694 A).bind fun q694 => match q694 with
      | (v694, A694) =>
      (rcv 5 A694 x2).bind fun k698 =>
      (f_X4_shortest k698 A694).bind fun v698 =>
      if v694 = v698 then
        f_L_law_940 x0 x1 x2 x3 A694
      else
        some (.inr (.inr (.inr (.inr (.inr (.inr (.inr (.inr (.inr (.inr (.inr (.inr (.inr (.inr (.inr (.inr (.inr (.inr (.inr (.inr (.inr (.inr (.inl A694)))))))))))))))))))))))
    else if (v29 &&& (31 : Int32)) = (22 : Int32) then
      (aI 10 A x0 (x3 + (1 : Int32))).bind fun v711 =>
      (rcv 1 A x1).bind fun k712 =>
      (f_X0_good k712 v711 A).bind fun q712 => match q712 with
      | (v712, A712) =>
      (aI 10 A712 x0 (x3 + (1 : Int32))).bind fun v720 =>
      (rcv 5 A712 x2).bind fun k721 =>
      (f_X4_good k721 v720 A712).bind fun q721 => match q721 with
      | (v721, A721) =>
      if v712 = v721 then
        f_L_law_940 x0 x1 x2 x3 A721
      else
        some (.inr (.inr (.inr (.inr (.inr (.inr (.inr (.inr (.inr (.inr (.inr (.inr (.inr (.inr (.inr (.inr (.inr (.inr (.inr (.inr (.inr (.inr (.inr (.inl A721))))))))))))))))))))))))
    else if (v29 &&& (31 : Int32)) = (23 : Int32) then
      (rcv 1 A x1).bind fun k730 =>
      (f_X0_maze k730 A).bind fun q730 => match q730 with
      | (v730, A730) =>
      (rcv 5 A730 x2).bind fun k734 =>
      (f_X4_maze k734 A730).bind fun q734 => match q734 with
      | (v734, A734) =>
      if v730 = v734 then
        f_L_law_940 x0 x1 x2 x3 A734
      else
        some (.inr (.inr (.inr (.inr (.inr (.inr (.inr (.inr (.inr (.inr (.inr (.inr (.inr (.inr (.inr (.inr (.inr (.inr (.inr (.inr (.inr (.inr (.inr (.inr (.inl A734)))))))))))))))))))))))))
    else if (v29 &&& (31 : Int32)) = (24 : Int32) then
      (aI 10 A x0 (x3 + (1 : Int32))).bind fun v747 =>
      (aI 10 A x0 (x3 + (2 : Int32))).bind fun v752 =>
      (aI 10 A x0 (x3 + (3 : Int32))).bind fun v757 =>
      (rcv 1 A x1).bind fun k758 =>
      (f_X0_see k758 v747 v752 v757 A).bind fun q758 => match q758 with
      | (v758, A758) =>
      (aI 10 A758 x0 (x3 + (1 : Int32))).bind fun v766 =>
      (aI 10 A758 x0 (x3 + (2 : Int32))).bind fun v771 =>
      (aI 10 A758 x0 (x3 + (3 : Int32))).bind fun v776 =>
      (rcv 5 A758 x2).bind fun k777 =>
      (f_X4_see k777 v766 v771 v776 A758).bind fun q777 => match q777 with
      | (v777, A777) =>
      if v758 = v777 then
        f_L_law_940 x0 x1 x2 x3 A777
      else
        some (.inr (.inr (.inr (.inr (.inr (.inr (.inr (.inr (.inr (.inr (.inr (.inr (.inr (.inr (.inr (.inr (.inr (.inr (.inr (.inr (.inr (.inr (.inr (.inr (.inr (.inl A777))))))))))))))))))))))))))
    else if (v29 &&& (31 : Int32)) = (25 : Int32) then
      (aI 10 A x0 (x3 + (1 : Int32))).bind fun v790 =>
      (aI 10 A x0 (x3 + (2 : Int32))).bind fun v795 =>
      (aI 10 A x0 (x3 + (3 : Int32))).bind fun v800 =>
      (rcv 1 A x1).bind fun k801 =>
      (f_X0_right k801 v790 v795 v800 A).bind fun q801 => match q801 with
      | (v801, A801) =>
      (aI 10 A801 x0 (x3 + (1 : Int32))).bind fun v809 =>
      (aI 10 A801 x0 (x3 + (2 : Int32))).bind fun v814 =>
      (aI 10 A801 x0 (x3 + (3 : Int32))).bind fun v819 =>
      (rcv 5 A801 x2).bind fun k820 =>
      (f_X4_right k820 v809 v814 v819 A801).bind fun q820 => match q820 with
      | (v820, A820) =>
      if v801 = v820 then
        f_L_law_940 x0 x1 x2 x3 A820
      else
        some (.inr (.inr (.inr (.inr (.inr (.inr (.inr (.inr (.inr (.inr (.inr (.inr (.inr (.inr (.inr (.inr (.inr (.inr (.inr (.inr (.inr (.inr (.inr (.inr (.inr (.inr (.inl A820)))))))))))))))))))))))))))
    else if (v29 &&& (31 : Int32)) = (26 : Int32) then
      (aI 10 A x0 (x3 + (1 : Int32))).bind fun v833 =>
      (aI 10 A x0 (x3 + (2 : Int32))).bind fun v838 =>
      (rcv 1 A x1).bind fun k839 =>
      (f_X0_fit k839 v833 v838 A).bind fun q839 => match q839 with
      | (v839, A839) =>
      (aI 10 A839 x0 (x3 + (1 : Int32))).bind fun v847 =>
      (aI 10 A839 x0 (x3 + (2 : Int32))).bind fun v852 =>
      (rcv 5 A839 x2).bind fun k853 =>
      (f_X4_fit k853 v847 v852 A839).bind fun q853 => match q853 with
      | (v853, A853) =>
      if v839 = v853 then
        f_L_law_940 x0 x1 x2 x3 A853
      else
        some (.inr (.inr (.inr (.inr (.inr (.inr (.inr (.inr (.inr (.inr (.inr (.inr (.inr (.inr (.inr (.inr (.inr (.inr (.inr (.inr (.inr (.inr (.inr (.inr (.inr (.inr (.inr (.inl A853))))))))))))))))))))))))))))
    else if (v29 &&& (31 : Int32)) = (27 : Int32) then
      (aI 10 A x0 (x3 + (1 : Int32))).bind fun v866 =>
      (aI 10 A x0 (x3 + (2 : Int32))).bind fun v871 =>
      (aI 10 A x0 (x3 + (3 : Int32))).bind fun v876 =>
      (rcv 1 A x1).bind fun k877 =>
      (f_X0_surely k877 v866 v871 v876 A).bind fun q877 => match q877 with
      | (v877, A877) =>
      (aI 10 A877 x0 (x3 + (1 : Int32))).bind fun v885 =>
      (aI 10 A877 x0 (x3 + (2 : Int32))).bind fun v890 =>
      (aI 10 A877 x0 (x3 + (3 : Int32))).bind fun v895 =>
      (rcv 5 A877 x2).bind fun k896 =>
      (f_X4_surely k896 v885 v890 v895 A877).bind fun q896 => match q896 with
      | (v896, A896) =>
      if v877 = v896 then
        f_L_law_940 x0 x1 x2 x3 A896
      else
        some (.inr (.inr (.inr (.inr (.inr (.inr (.inr (.inr (.inr (.inr (.inr (.inr (.inr (.inr (.inr (.inr (.inr (.inr (.inr (.inr (.inr (.inr (.inr (.inr (.inr (.inr (.inr (.inr (.inl A896)))))))))))))))))))))))))))))
    else if (v29 &&& (31 : Int32)) = (28 : Int32) then
      (rcv 1 A x1).bind fun k905 =>
      (f_X0_look k905 A).bind fun q905 => match q905 with
      | (v905, A905) =>
      (rcv 5 A905 x2).bind fun k909 =>
      (f_X4_look k909 A905).bind fun q909 => match q909 with
      | (v909, A909) =>
      if v905 = v909 then
        f_L_law_940 x0 x1 x2 x3 A909
      else
        some (.inr (.inr (.inr (.inr (.inr (.inr (.inr (.inr (.inr (.inr (.inr (.inr (.inr (.inr (.inr (.inr (.inr (.inr (.inr (.inr (.inr (.inr (.inr (.inr (.inr (.inr (.inr (.inr (.inr (.inl A909))))))))))))))))))))))))))))))
    else if (v29 &&& (31 : Int32)) = (29 : Int32) then
      (aI 10 A x0 (x3 + (1 : Int32))).bind fun v922 =>
      (rcv 1 A x1).bind fun k923 =>
      (f_X0_count k923 v922 A).bind fun v923 =>
      (aI 10 A x0 (x3 + (1 : Int32))).bind fun v931 =>
      (rcv 5 A x2).bind fun k932 =>
      (f_X4_count k932 v931 A).bind fun v932 =>
      if v923 = v932 then
        f_L_law_940 x0 x1 x2 x3 A
      else
        some (.inr (.inr (.inr (.inr (.inr (.inr (.inr (.inr (.inr (.inr (.inr (.inr (.inr (.inr (.inr (.inr (.inr (.inr (.inr (.inr (.inr (.inr (.inr (.inr (.inr (.inr (.inr (.inr (.inr (.inr (.inl A)))))))))))))))))))))))))))))))
    else
      none

noncomputable def l_L_law_18 (x0 : Option Nat) (x1 : Option Nat) (x2 : Option Nat) (x3 : Int32) (A : AH) : Option (Int32 × AH) :=
  (whO (s_L_law_18 x0 x1 x2) 65 (x3, A)).bind fun e => match e with
  | (.inl A) =>
    (some ((0 : Int32), A))
  | (.inr (.inl A)) =>
    (some ((0 : Int32), A))
  | (.inr (.inr (.inl A))) =>
    (some ((0 : Int32), A))
  | (.inr (.inr (.inr (.inl A)))) =>
    (some ((0 : Int32), A))
  | (.inr (.inr (.inr (.inr (.inl A))))) =>
    (some ((0 : Int32), A))
  | (.inr (.inr (.inr (.inr (.inr (.inl A)))))) =>
    (some ((0 : Int32), A))
  | (.inr (.inr (.inr (.inr (.inr (.inr (.inl A))))))) =>
    (some ((0 : Int32), A))
  | (.inr (.inr (.inr (.inr (.inr (.inr (.inr (.inl A)))))))) =>
    (some ((0 : Int32), A))
  | (.inr (.inr (.inr (.inr (.inr (.inr (.inr (.inr (.inl A))))))))) =>
    (some ((0 : Int32), A))
  | (.inr (.inr (.inr (.inr (.inr (.inr (.inr (.inr (.inr (.inl A)))))))))) =>
    (some ((0 : Int32), A))
  | (.inr (.inr (.inr (.inr (.inr (.inr (.inr (.inr (.inr (.inr (.inl A))))))))))) =>
    (some ((0 : Int32), A))
  | (.inr (.inr (.inr (.inr (.inr (.inr (.inr (.inr (.inr (.inr (.inr (.inl A)))))))))))) =>
    (some ((0 : Int32), A))
  | (.inr (.inr (.inr (.inr (.inr (.inr (.inr (.inr (.inr (.inr (.inr (.inr (.inl A))))))))))))) =>
    (some ((0 : Int32), A))
  | (.inr (.inr (.inr (.inr (.inr (.inr (.inr (.inr (.inr (.inr (.inr (.inr (.inr (.inl A)))))))))))))) =>
    (some ((0 : Int32), A))
  | (.inr (.inr (.inr (.inr (.inr (.inr (.inr (.inr (.inr (.inr (.inr (.inr (.inr (.inr (.inl A))))))))))))))) =>
    (some ((0 : Int32), A))
  | (.inr (.inr (.inr (.inr (.inr (.inr (.inr (.inr (.inr (.inr (.inr (.inr (.inr (.inr (.inr (.inl A)))))))))))))))) =>
    (some ((0 : Int32), A))
  | (.inr (.inr (.inr (.inr (.inr (.inr (.inr (.inr (.inr (.inr (.inr (.inr (.inr (.inr (.inr (.inr (.inl A))))))))))))))))) =>
    (some ((0 : Int32), A))
  | (.inr (.inr (.inr (.inr (.inr (.inr (.inr (.inr (.inr (.inr (.inr (.inr (.inr (.inr (.inr (.inr (.inr (.inl A)))))))))))))))))) =>
    (some ((0 : Int32), A))
  | (.inr (.inr (.inr (.inr (.inr (.inr (.inr (.inr (.inr (.inr (.inr (.inr (.inr (.inr (.inr (.inr (.inr (.inr (.inl A))))))))))))))))))) =>
    (some ((0 : Int32), A))
  | (.inr (.inr (.inr (.inr (.inr (.inr (.inr (.inr (.inr (.inr (.inr (.inr (.inr (.inr (.inr (.inr (.inr (.inr (.inr (.inl A)))))))))))))))))))) =>
    (some ((0 : Int32), A))
  | (.inr (.inr (.inr (.inr (.inr (.inr (.inr (.inr (.inr (.inr (.inr (.inr (.inr (.inr (.inr (.inr (.inr (.inr (.inr (.inr (.inl A))))))))))))))))))))) =>
    (some ((0 : Int32), A))
  | (.inr (.inr (.inr (.inr (.inr (.inr (.inr (.inr (.inr (.inr (.inr (.inr (.inr (.inr (.inr (.inr (.inr (.inr (.inr (.inr (.inr (.inl A)))))))))))))))))))))) =>
    (some ((0 : Int32), A))
  | (.inr (.inr (.inr (.inr (.inr (.inr (.inr (.inr (.inr (.inr (.inr (.inr (.inr (.inr (.inr (.inr (.inr (.inr (.inr (.inr (.inr (.inr (.inl A))))))))))))))))))))))) =>
    (some ((0 : Int32), A))
  | (.inr (.inr (.inr (.inr (.inr (.inr (.inr (.inr (.inr (.inr (.inr (.inr (.inr (.inr (.inr (.inr (.inr (.inr (.inr (.inr (.inr (.inr (.inr (.inl A)))))))))))))))))))))))) =>
    (some ((0 : Int32), A))
  | (.inr (.inr (.inr (.inr (.inr (.inr (.inr (.inr (.inr (.inr (.inr (.inr (.inr (.inr (.inr (.inr (.inr (.inr (.inr (.inr (.inr (.inr (.inr (.inr (.inl A))))))))))))))))))))))))) =>
    (some ((0 : Int32), A))
  | (.inr (.inr (.inr (.inr (.inr (.inr (.inr (.inr (.inr (.inr (.inr (.inr (.inr (.inr (.inr (.inr (.inr (.inr (.inr (.inr (.inr (.inr (.inr (.inr (.inr (.inl A)))))))))))))))))))))))))) =>
    (some ((0 : Int32), A))
  | (.inr (.inr (.inr (.inr (.inr (.inr (.inr (.inr (.inr (.inr (.inr (.inr (.inr (.inr (.inr (.inr (.inr (.inr (.inr (.inr (.inr (.inr (.inr (.inr (.inr (.inr (.inl A))))))))))))))))))))))))))) =>
    (some ((0 : Int32), A))
  | (.inr (.inr (.inr (.inr (.inr (.inr (.inr (.inr (.inr (.inr (.inr (.inr (.inr (.inr (.inr (.inr (.inr (.inr (.inr (.inr (.inr (.inr (.inr (.inr (.inr (.inr (.inr (.inl A)))))))))))))))))))))))))))) =>
    (some ((0 : Int32), A))
  | (.inr (.inr (.inr (.inr (.inr (.inr (.inr (.inr (.inr (.inr (.inr (.inr (.inr (.inr (.inr (.inr (.inr (.inr (.inr (.inr (.inr (.inr (.inr (.inr (.inr (.inr (.inr (.inr (.inl A))))))))))))))))))))))))))))) =>
    (some ((0 : Int32), A))
  | (.inr (.inr (.inr (.inr (.inr (.inr (.inr (.inr (.inr (.inr (.inr (.inr (.inr (.inr (.inr (.inr (.inr (.inr (.inr (.inr (.inr (.inr (.inr (.inr (.inr (.inr (.inr (.inr (.inr (.inl A)))))))))))))))))))))))))))))) =>
    (some ((0 : Int32), A))
  | (.inr (.inr (.inr (.inr (.inr (.inr (.inr (.inr (.inr (.inr (.inr (.inr (.inr (.inr (.inr (.inr (.inr (.inr (.inr (.inr (.inr (.inr (.inr (.inr (.inr (.inr (.inr (.inr (.inr (.inr A)))))))))))))))))))))))))))))) =>
    (some ((1 : Int32), A))

noncomputable def f_L_law (x0 : Option Nat) (A : AH) : Option (Int32 × AH) :=
  (nwC 1 A).bind fun A0 =>
  (f_X0_init (hn A) A0).bind fun A4 =>
  (nwC 5 A4).bind fun A8 =>
  (f_X4_init (hn A4) A8).bind fun A12 =>
  l_L_law_18 x0 (some (hn A)) (some (hn A4)) (0 : Int32) A12

