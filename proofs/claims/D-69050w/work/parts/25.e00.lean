-- FlowSession.<init>()V
set_option maxRecDepth 100000 in
theorem e_1_0 (d : Nat) (x0 : Nat) (h : am_H) : am_Z (d + 1) 1 0 [.inl (.ref x0)] h =
  am_ob h 0 x0 fun _ =>
  am_nO h 1 6 (am_dfl 1) fun o1 h2 =>
  am_cV (am_Z d 2 0 [.inl (.ref o1)] h2) fun h3 =>
  am_pR h3 0 x0 0 o1 fun h4 =>
  am_nO h4 7 18 (am_dfl 7) fun o5 h6 =>
  am_gR h6 0 x0 0 fun o7 =>
  am_cV (am_Z d 15 0 [.inl (.ref o5), .inl (.ref o7)] h6) fun h8 =>
  am_pR h8 0 x0 1 o5 fun h9 =>
  am_nO h9 9 35 (am_dfl 9) fun o10 h11 =>
  am_cV (am_Z d 17 0 [.inl (.ref o10)] h11) fun h12 =>
  am_pR h12 0 x0 2 o10 fun h13 =>
  am_nO h13 9 35 (am_dfl 9) fun o14 h15 =>
  am_cV (am_Z d 17 0 [.inl (.ref o14)] h15) fun h16 =>
  am_pR h16 0 x0 3 o14 fun h17 =>
  am_nO h17 9 35 (am_dfl 9) fun o18 h19 =>
  am_cV (am_Z d 17 0 [.inl (.ref o18)] h19) fun h20 =>
  am_pR h20 0 x0 4 o18 fun h21 =>
  am_nO h21 15 5 (am_dfl 15) fun o22 h23 =>
  am_gR h23 0 x0 3 fun o24 =>
  am_gR h23 0 x0 4 fun o25 =>
  am_cV (am_Z d 23 0 [.inl (.ref o22), .inl (.ref o24), .inl (.ref o25)] h23) fun h26 =>
  am_pR h26 0 x0 5 o22 fun h27 =>
  am_nO h27 16 4 (am_dfl 16) fun o28 h29 =>
  am_cV (am_Z d 24 0 [.inl (.ref o28)] h29) fun h30 =>
  am_pR h30 0 x0 6 o28 fun h31 =>
  am_nO h31 16 4 (am_dfl 16) fun o32 h33 =>
  am_cV (am_Z d 24 0 [.inl (.ref o32)] h33) fun h34 =>
  am_pR h34 0 x0 7 o32 fun h35 =>
  am_nA h35 .byte 8212 fun a36 h37 =>
  am_pA h37 0 x0 8 a36 a36 fun h38 =>
  am_nA h38 .byte 8192 fun a39 h40 =>
  am_pA h40 0 x0 10 a39 a39 fun h41 =>
  am_nA h41 .byte 12 fun a42 h43 =>
  am_pA h43 0 x0 12 a42 a42 fun h44 =>
  am_gR h44 0 x0 6 fun o45 =>
  am_cV (am_Z d 25 0 [.inl (.ref o45)] h44) fun h46 =>
  some (.inr none, h46) :=
  (am_key (M := mt_1) (lv := [(0, .inl (.ref x0))]) rfl rfl).trans rfl
-- FlowSession.feed(IIIII)I
set_option maxRecDepth 100000 in
theorem e_26_0 (d : Nat) (x0 : Nat) (x1 : Int32) (x2 : Int32) (x3 : Int32) (x4 : Int32) (x5 : Int32) (h : am_H) : am_Z (d + 1) 26 0 [.inl (.ref x0), .inl (.int x1), .inl (.int x2), .inl (.int x3), .inl (.int x4), .inl (.int x5)] h =
  am_ob h 0 x0 fun _ =>
  am_gI h 0 x0 9 fun v1 =>
  if (8212 < (v1 + 20) : Prop) then
    some (.inr (some (.inl (.int (-2)))), h)
  else
    am_cV (am_Z d 27 0 [.inl (.ref x0), .inl (.int x1)] h) fun h2 =>
    am_cV (am_Z d 27 0 [.inl (.ref x0), .inl (.int x2)] h2) fun h3 =>
    am_cV (am_Z d 27 0 [.inl (.ref x0), .inl (.int x3)] h3) fun h4 =>
    am_cV (am_Z d 27 0 [.inl (.ref x0), .inl (.int x4)] h4) fun h5 =>
    am_cV (am_Z d 27 0 [.inl (.ref x0), .inl (.int x5)] h5) fun h6 =>
    am_gI h6 0 x0 9 fun v7 =>
    some (.inr (some (.inl (.int v7))), h6) :=
  (am_key (M := mt_26) (lv := [(0, .inl (.ref x0)), (1, .inl (.int x1)), (2, .inl (.int x2)), (3, .inl (.int x3)), (4, .inl (.int x4)), (5, .inl (.int x5))]) rfl rfl).trans rfl
-- FlowSession.four(I)V
set_option maxRecDepth 100000 in
theorem e_27_0 (d : Nat) (x0 : Nat) (x1 : Int32) (h : am_H) : am_Z d 27 0 [.inl (.ref x0), .inl (.int x1)] h =
  am_ob h 0 x0 fun _ =>
  am_Z d 27 3 [.inl (.ref x0), .inl (.int x1), .inl (.int 24)] h :=
  (am_key (M := mt_27) (lv := [(0, .inl (.ref x0)), (1, .inl (.int x1))]) rfl rfl).trans rfl
set_option maxRecDepth 100000 in
theorem e_27_3 (d : Nat) (x0 : Nat) (x1 : Int32) (x2 : Int32) (h : am_H) : am_Z d 27 3 [.inl (.ref x0), .inl (.int x1), .inl (.int x2)] h =
  if (x2 < 0 : Prop) then
    some (.inr none, h)
  else
    am_gA h 0 x0 8 fun a1 u2 =>
    am_gI h 0 x0 9 fun v3 =>
    am_pI h 0 x0 9 (v3 + 1) fun h4 =>
    am_st h4 a1 u2 am_tB v3 (Int8.toInt32 (Int32.toInt8 ((Int32.toUInt32 x1 >>> (Int32.toUInt32 x2 &&& Int32.toUInt32 31)).toInt32))) fun h5 =>
    am_Z d 27 3 [.inl (.ref x0), .inl (.int x1), .inl (.int (x2 + (-8)))] h5 :=
  (am_key (M := mt_27) (lv := [(0, .inl (.ref x0)), (1, .inl (.int x1)), (2, .inl (.int x2))]) rfl rfl).trans rfl
-- FlowSession.end(I)I
set_option maxRecDepth 100000 in
theorem e_28_0 (d : Nat) (x0 : Nat) (x1 : Int32) (h : am_H) : am_Z d 28 0 [.inl (.ref x0), .inl (.int x1)] h =
  am_ob h 0 x0 fun _ =>
  if (x1 < 0 : Prop) then
    am_Z d 28 27 [.inl (.ref x0), .inl (.int x1), .inl (.int 0), .inl (.int 0)] h
  else
    if (8192 < x1 : Prop) then
      am_Z d 28 27 [.inl (.ref x0), .inl (.int x1), .inl (.int 0), .inl (.int 0)] h
    else
      am_gI h 0 x0 9 fun v1 =>
      if (v1 < x1 : Prop) then
        am_Z d 28 27 [.inl (.ref x0), .inl (.int x1), .inl (.int 0), .inl (.int 0)] h
      else
        am_Z d 28 27 [.inl (.ref x0), .inl (.int x1), .inl (.int 1), .inl (.int 0)] h :=
  (am_key (M := mt_28) (lv := [(0, .inl (.ref x0)), (1, .inl (.int x1))]) rfl rfl).trans rfl
set_option maxRecDepth 100000 in
theorem e_28_27 (d : Nat) (x0 : Nat) (x1 : Int32) (x2 : Int32) (x3 : Int32) (h : am_H) : am_Z (d + 1) 28 27 [.inl (.ref x0), .inl (.int x1), .inl (.int x2), .inl (.int x3)] h =
  if (x3 < x1 : Prop) then
    if (x2 = (0) : Prop) then
      am_pI h 0 x0 9 0 fun h1 =>
      if (x2 = (0) : Prop) then
        some (.inr (some (.inl (.int (-1)))), h1)
      else
        am_cI (am_Z d 29 0 [.inl (.ref x0), .inl (.int x1)] h1) fun v3 h2 =>
        some (.inr (some (.inl (.int v3))), h2)
    else
      am_gA h 0 x0 8 fun a4 u5 =>
      am_ld h a4 u5 am_tB x3 fun v6 =>
      if (v6 = (0) : Prop) then
        am_Z (d + 1) 28 27 [.inl (.ref x0), .inl (.int x1), .inl (.int 0), .inl (.int (x3 + 1))] h
      else
        am_Z (d + 1) 28 27 [.inl (.ref x0), .inl (.int x1), .inl (.int 1), .inl (.int (x3 + 1))] h
  else
    am_pI h 0 x0 9 0 fun h7 =>
    if (x2 = (0) : Prop) then
      some (.inr (some (.inl (.int (-1)))), h7)
    else
      am_cI (am_Z d 29 0 [.inl (.ref x0), .inl (.int x1)] h7) fun v9 h8 =>
      some (.inr (some (.inl (.int v9))), h8) :=
  (am_key (M := mt_28) (lv := [(0, .inl (.ref x0)), (1, .inl (.int x1)), (2, .inl (.int x2)), (3, .inl (.int x3))]) rfl rfl).trans rfl
-- FlowSession.begin(I)I
set_option maxRecDepth 100000 in
theorem e_29_0 (d : Nat) (x0 : Nat) (x1 : Int32) (h : am_H) : am_Z (d + 1) 29 0 [.inl (.ref x0), .inl (.int x1)] h =
  am_ob h 0 x0 fun _ =>
  am_gR h 0 x0 0 fun o1 =>
  am_cI (am_Z d 30 0 [.inl (.ref o1), .inl (.int 0)] h) fun v3 h2 =>
  am_Z (d + 1) 29 11 [.inl (.ref x0), .inl (.int x1), .inl (.int 0)] h2 :=
  (am_key (M := mt_29) (lv := [(0, .inl (.ref x0)), (1, .inl (.int x1))]) rfl rfl).trans rfl
set_option maxRecDepth 100000 in
theorem e_29_11 (d : Nat) (x0 : Nat) (x1 : Int32) (x3 : Int32) (h : am_H) : am_Z (d + 1) 29 11 [.inl (.ref x0), .inl (.int x1), .inl (.int x3)] h =
  if (x3 < x1 : Prop) then
    am_Z (d + 1) 29 22 [.inl (.ref x0), .inl (.int x1), .inl (.int x3), .inl (.long 0), .inl (.int 0)] h
  else
    am_pZ h 0 x0 13 0 fun h1 =>
    am_pI h1 0 x0 14 0 fun h2 =>
    am_pI h2 0 x0 15 0 fun h3 =>
    am_gR h3 0 x0 2 fun o4 =>
    am_cI (am_Z d 32 0 [.inl (.ref o4), .inl (.int 0)] h3) fun v6 h5 =>
    am_gR h5 0 x0 0 fun o7 =>
    am_cI (am_Z d 33 0 [.inl (.ref o7)] h5) fun v9 h8 =>
    am_gR h8 0 x0 0 fun o10 =>
    am_cI (am_Z d 138 0 [.inl (.ref o10), .inl (.int 0)] h8) fun v12 h11 =>
    if (v12 = (0) : Prop) then
      am_gR h11 0 x0 1 fun o13 =>
      am_cI (am_Z d 139 0 [.inl (.ref o13), .inl (.int v9)] h11) fun v15 h14 =>
      if (v15 = (0) : Prop) then
        am_pZ h14 0 x0 13 1 fun h16 =>
        am_gR h16 0 x0 2 fun o17 =>
        am_cV (am_Z d 176 0 [.inl (.ref x0), .inl (.ref o17)] h16) fun h18 =>
        am_gR h18 0 x0 3 fun o19 =>
        am_cV (am_Z d 176 0 [.inl (.ref x0), .inl (.ref o19)] h18) fun h20 =>
        am_gR h20 0 x0 4 fun o21 =>
        am_cV (am_Z d 176 0 [.inl (.ref x0), .inl (.ref o21)] h20) fun h22 =>
        if (v9 < 0 : Prop) then
          am_Z (d + 1) 29 249 [.inl (.ref x0), .inl (.int v9)] h22
        else
          am_gR h22 0 x0 0 fun o23 =>
          am_cI (am_Z d 148 0 [.inl (.ref o23), .inl (.int v9), .inl (.int 0)] h22) fun v25 h24 =>
          if (v25 = (2) : Prop) then
            if (1 = (0) : Prop) then
              am_pI h24 0 x0 17 0 fun h26 =>
              if (1 = (0) : Prop) then
                am_pI h26 0 x0 16 0 fun h27 =>
                am_pI h27 0 x0 11 0 fun h28 =>
                am_gR h28 0 x0 6 fun o29 =>
                am_cV (am_Z d 25 0 [.inl (.ref o29)] h28) fun h30 =>
                am_gR h30 0 x0 2 fun o31 =>
                am_gR h30 0 x0 1 fun o32 =>
                am_cI (am_Z d 161 0 [.inl (.ref o32), .inl (.int 0)] h30) fun v34 h33 =>
                am_cI (am_Z d 178 0 [.inl (.ref o31), .inl (.int 0), .inl (.int v34)] h33) fun v36 h35 =>
                some (.inr (some (.inl (.int 0))), h35)
              else
                am_gR h26 0 x0 1 fun o37 =>
                am_gR h26 0 x0 0 fun o38 =>
                am_cI (am_Z d 152 0 [.inl (.ref o38), .inl (.int v9), .inl (.int 0)] h26) fun v40 h39 =>
                am_cI (am_Z d 165 0 [.inl (.ref o37), .inl (.int v40), .inl (.int 0)] h39) fun v42 h41 =>
                am_pI h41 0 x0 16 v42 fun h43 =>
                am_pI h43 0 x0 11 0 fun h44 =>
                am_gR h44 0 x0 6 fun o45 =>
                am_cV (am_Z d 25 0 [.inl (.ref o45)] h44) fun h46 =>
                am_gR h46 0 x0 2 fun o47 =>
                am_gR h46 0 x0 1 fun o48 =>
                am_cI (am_Z d 161 0 [.inl (.ref o48), .inl (.int 0)] h46) fun v50 h49 =>
                am_cI (am_Z d 178 0 [.inl (.ref o47), .inl (.int 0), .inl (.int v50)] h49) fun v52 h51 =>
                some (.inr (some (.inl (.int 0))), h51)
            else
              am_gR h24 0 x0 0 fun o53 =>
              am_cI (am_Z d 148 0 [.inl (.ref o53), .inl (.int v9), .inl (.int 5)] h24) fun v55 h54 =>
              am_pI h54 0 x0 17 v55 fun h56 =>
              if (1 = (0) : Prop) then
                am_pI h56 0 x0 16 0 fun h57 =>
                am_pI h57 0 x0 11 0 fun h58 =>
                am_gR h58 0 x0 6 fun o59 =>
                am_cV (am_Z d 25 0 [.inl (.ref o59)] h58) fun h60 =>
                am_gR h60 0 x0 2 fun o61 =>
                am_gR h60 0 x0 1 fun o62 =>
                am_cI (am_Z d 161 0 [.inl (.ref o62), .inl (.int 0)] h60) fun v64 h63 =>
                am_cI (am_Z d 178 0 [.inl (.ref o61), .inl (.int 0), .inl (.int v64)] h63) fun v66 h65 =>
                some (.inr (some (.inl (.int 0))), h65)
              else
                am_gR h56 0 x0 1 fun o67 =>
                am_gR h56 0 x0 0 fun o68 =>
                am_cI (am_Z d 152 0 [.inl (.ref o68), .inl (.int v9), .inl (.int 0)] h56) fun v70 h69 =>
                am_cI (am_Z d 165 0 [.inl (.ref o67), .inl (.int v70), .inl (.int 0)] h69) fun v72 h71 =>
                am_pI h71 0 x0 16 v72 fun h73 =>
                am_pI h73 0 x0 11 0 fun h74 =>
                am_gR h74 0 x0 6 fun o75 =>
                am_cV (am_Z d 25 0 [.inl (.ref o75)] h74) fun h76 =>
                am_gR h76 0 x0 2 fun o77 =>
                am_gR h76 0 x0 1 fun o78 =>
                am_cI (am_Z d 161 0 [.inl (.ref o78), .inl (.int 0)] h76) fun v80 h79 =>
                am_cI (am_Z d 178 0 [.inl (.ref o77), .inl (.int 0), .inl (.int v80)] h79) fun v82 h81 =>
                some (.inr (some (.inl (.int 0))), h81)
          else
            am_Z (d + 1) 29 249 [.inl (.ref x0), .inl (.int v9)] h24
      else
        some (.inr (some (.inl (.int v15))), h14)
    else
      am_gR h11 0 x0 0 fun o83 =>
      am_cI (am_Z d 138 0 [.inl (.ref o83), .inl (.int 2)] h11) fun v85 h84 =>
      am_pI h84 0 x0 14 v85 fun h86 =>
      am_gR h86 0 x0 0 fun o87 =>
      am_cI (am_Z d 138 0 [.inl (.ref o87), .inl (.int 3)] h86) fun v89 h88 =>
      am_pI h88 0 x0 15 v89 fun h90 =>
      if (v12 < 10 : Prop) then
        some (.inr (some (.inl (.int (100 + v12)))), h90)
      else
        some (.inr (some (.inl (.int (190 + v12)))), h90) :=
  (am_key (M := mt_29) (lv := [(0, .inl (.ref x0)), (1, .inl (.int x1)), (3, .inl (.int x3))]) rfl rfl).trans rfl
set_option maxRecDepth 100000 in
theorem e_29_22 (d : Nat) (x0 : Nat) (x1 : Int32) (x3 : Int32) (x4 : Int64) (x6 : Int32) (h : am_H) : am_Z (d + 1) 29 22 [.inl (.ref x0), .inl (.int x1), .inl (.int x3), .inl (.long x4), .inl (.int x6)] h =
  if (x6 < 8 : Prop) then
    if ((x3 + x6) < x1 : Prop) then
      am_gA h 0 x0 8 fun a1 u2 =>
      am_ld h a1 u2 am_tB (x3 + x6) fun v3 =>
      am_Z (d + 1) 29 22 [.inl (.ref x0), .inl (.int x1), .inl (.int x3), .inl (.long (x4 ||| (((Int32.toInt64 v3) &&& 255) <<< (Int32.toInt64 (8 * x6) &&& 63)))), .inl (.int (x6 + 1))] h
    else
      am_gR h 0 x0 0 fun o4 =>
      am_cI (am_Z d 31 0 [.inl (.ref o4), .inl (.long x4)] h) fun v6 h5 =>
      am_Z (d + 1) 29 11 [.inl (.ref x0), .inl (.int x1), .inl (.int (x3 + 8))] h5
  else
    am_gR h 0 x0 0 fun o7 =>
    am_cI (am_Z d 31 0 [.inl (.ref o7), .inl (.long x4)] h) fun v9 h8 =>
    am_Z (d + 1) 29 11 [.inl (.ref x0), .inl (.int x1), .inl (.int (x3 + 8))] h8 :=
  (am_key (M := mt_29) (lv := [(0, .inl (.ref x0)), (1, .inl (.int x1)), (3, .inl (.int x3)), (4, .inl (.long x4)), (6, .inl (.int x6))]) rfl rfl).trans rfl
set_option maxRecDepth 100000 in
theorem e_29_249 (d : Nat) (x0 : Nat) (x4 : Int32) (h : am_H) : am_Z (d + 1) 29 249 [.inl (.ref x0), .inl (.int x4)] h =
  if (0 = (0) : Prop) then
    am_pI h 0 x0 17 0 fun h1 =>
    if (0 = (0) : Prop) then
      am_pI h1 0 x0 16 0 fun h2 =>
      am_pI h2 0 x0 11 0 fun h3 =>
      am_gR h3 0 x0 6 fun o4 =>
      am_cV (am_Z d 25 0 [.inl (.ref o4)] h3) fun h5 =>
      am_gR h5 0 x0 2 fun o6 =>
      am_gR h5 0 x0 1 fun o7 =>
      am_cI (am_Z d 161 0 [.inl (.ref o7), .inl (.int 0)] h5) fun v9 h8 =>
      am_cI (am_Z d 178 0 [.inl (.ref o6), .inl (.int 0), .inl (.int v9)] h8) fun v11 h10 =>
      some (.inr (some (.inl (.int 0))), h10)
    else
      am_gR h1 0 x0 1 fun o12 =>
      am_gR h1 0 x0 0 fun o13 =>
      am_cI (am_Z d 152 0 [.inl (.ref o13), .inl (.int x4), .inl (.int 0)] h1) fun v15 h14 =>
      am_cI (am_Z d 165 0 [.inl (.ref o12), .inl (.int v15), .inl (.int 0)] h14) fun v17 h16 =>
      am_pI h16 0 x0 16 v17 fun h18 =>
      am_pI h18 0 x0 11 0 fun h19 =>
      am_gR h19 0 x0 6 fun o20 =>
      am_cV (am_Z d 25 0 [.inl (.ref o20)] h19) fun h21 =>
      am_gR h21 0 x0 2 fun o22 =>
      am_gR h21 0 x0 1 fun o23 =>
      am_cI (am_Z d 161 0 [.inl (.ref o23), .inl (.int 0)] h21) fun v25 h24 =>
      am_cI (am_Z d 178 0 [.inl (.ref o22), .inl (.int 0), .inl (.int v25)] h24) fun v27 h26 =>
      some (.inr (some (.inl (.int 0))), h26)
  else
    am_gR h 0 x0 0 fun o28 =>
    am_cI (am_Z d 148 0 [.inl (.ref o28), .inl (.int x4), .inl (.int 5)] h) fun v30 h29 =>
    am_pI h29 0 x0 17 v30 fun h31 =>
    if (0 = (0) : Prop) then
      am_pI h31 0 x0 16 0 fun h32 =>
      am_pI h32 0 x0 11 0 fun h33 =>
      am_gR h33 0 x0 6 fun o34 =>
      am_cV (am_Z d 25 0 [.inl (.ref o34)] h33) fun h35 =>
      am_gR h35 0 x0 2 fun o36 =>
      am_gR h35 0 x0 1 fun o37 =>
      am_cI (am_Z d 161 0 [.inl (.ref o37), .inl (.int 0)] h35) fun v39 h38 =>
      am_cI (am_Z d 178 0 [.inl (.ref o36), .inl (.int 0), .inl (.int v39)] h38) fun v41 h40 =>
      some (.inr (some (.inl (.int 0))), h40)
    else
      am_gR h31 0 x0 1 fun o42 =>
      am_gR h31 0 x0 0 fun o43 =>
      am_cI (am_Z d 152 0 [.inl (.ref o43), .inl (.int x4), .inl (.int 0)] h31) fun v45 h44 =>
      am_cI (am_Z d 165 0 [.inl (.ref o42), .inl (.int v45), .inl (.int 0)] h44) fun v47 h46 =>
      am_pI h46 0 x0 16 v47 fun h48 =>
      am_pI h48 0 x0 11 0 fun h49 =>
      am_gR h49 0 x0 6 fun o50 =>
      am_cV (am_Z d 25 0 [.inl (.ref o50)] h49) fun h51 =>
      am_gR h51 0 x0 2 fun o52 =>
      am_gR h51 0 x0 1 fun o53 =>
      am_cI (am_Z d 161 0 [.inl (.ref o53), .inl (.int 0)] h51) fun v55 h54 =>
      am_cI (am_Z d 178 0 [.inl (.ref o52), .inl (.int 0), .inl (.int v55)] h54) fun v57 h56 =>
      some (.inr (some (.inl (.int 0))), h56) :=
  (am_key (M := mt_29) (lv := [(0, .inl (.ref x0)), (4, .inl (.int x4))]) rfl rfl).trans rfl
-- FlowSession.load(LFlowSession$FlowMachine;)V
set_option maxRecDepth 100000 in
theorem e_176_0 (d : Nat) (x0 : Nat) (x1 : Nat) (h : am_H) : am_Z (d + 1) 176 0 [.inl (.ref x0), .inl (.ref x1)] h =
  am_ob h 0 x0 fun _ =>
  am_cI (am_Z d 32 0 [.inl (.ref x1), .inl (.int 0)] h) fun v2 h1 =>
  am_Z (d + 1) 176 8 [.inl (.ref x0), .inl (.ref x1), .inl (.int 0)] h1 :=
  (am_key (M := mt_176) (lv := [(0, .inl (.ref x0)), (1, .inl (.ref x1))]) rfl rfl).trans rfl
set_option maxRecDepth 100000 in
theorem e_176_8 (d : Nat) (x0 : Nat) (x1 : Nat) (x3 : Int32) (h : am_H) : am_Z (d + 1) 176 8 [.inl (.ref x0), .inl (.ref x1), .inl (.int x3)] h =
  am_gR h 0 x0 1 fun o1 =>
  am_gR h 7 o1 14 fun o2 =>
  am_gI h 8 o2 1 fun v3 =>
  if (x3 < v3 : Prop) then
    am_gR h 0 x0 1 fun o4 =>
    am_gR h 7 o4 14 fun o5 =>
    am_gA h 8 o5 0 fun a6 u7 =>
    am_ld h a6 u7 am_tI x3 fun v8 =>
    am_cI (am_Z d 177 0 [.inl (.ref x1), .inl (.int v8)] h) fun v10 h9 =>
    am_Z (d + 1) 176 8 [.inl (.ref x0), .inl (.ref x1), .inl (.int (x3 + 1))] h9
  else
    some (.inr none, h) :=
  (am_key (M := mt_176) (lv := [(0, .inl (.ref x0)), (1, .inl (.ref x1)), (3, .inl (.int x3))]) rfl rfl).trans rfl
-- FlowSession.place(I)I
set_option maxRecDepth 100000 in
theorem e_240_0 (d : Nat) (x0 : Nat) (x1 : Int32) (h : am_H) : am_Z d 240 0 [.inl (.ref x0), .inl (.int x1)] h =
  am_ob h 0 x0 fun _ =>
  if (x1 = (0) : Prop) then
    am_gI h 0 x0 14 fun v1 =>
    some (.inr (some (.inl (.int v1))), h)
  else
    if (x1 = (1) : Prop) then
      am_gI h 0 x0 15 fun v2 =>
      some (.inr (some (.inl (.int v2))), h)
    else
      some (.inr (some (.inl (.int (-1)))), h) :=
  (am_key (M := mt_240) (lv := [(0, .inl (.ref x0)), (1, .inl (.int x1))]) rfl rfl).trans rfl
-- FlowSession.rule(II)Z
set_option maxRecDepth 100000 in
theorem e_241_0 (d : Nat) (x0 : Nat) (x1 : Int32) (x2 : Int32) (h : am_H) : am_Z (d + 1) 241 0 [.inl (.ref x0), .inl (.int x1), .inl (.int x2)] h =
  am_ob h 0 x0 fun _ =>
  am_gR h 0 x0 6 fun o1 =>
  am_cI (am_Z d 242 0 [.inl (.ref o1), .inl (.int x1), .inl (.int x2)] h) fun v3 h2 =>
  am_b01 v3 (some (.inr (some (.inl (.int v3))), h2)) :=
  (am_key (M := mt_241) (lv := [(0, .inl (.ref x0)), (1, .inl (.int x1)), (2, .inl (.int x2))]) rfl rfl).trans rfl
-- FlowSession.step(I)I
set_option maxRecDepth 100000 in
theorem e_243_0 (d : Nat) (x0 : Nat) (x1 : Int32) (h : am_H) : am_Z (d + 1) 243 0 [.inl (.ref x0), .inl (.int x1)] h =
  am_ob h 0 x0 fun _ =>
  am_cI (am_Z d 244 0 [.inl (.ref x0)] h) fun v2 h1 =>
  if (v2 = (0) : Prop) then
    some (.inr (some (.inl (.int (-1)))), h1)
  else
    am_gR h1 0 x0 2 fun o3 =>
    am_cI (am_Z d 246 0 [.inl (.ref o3), .inl (.int x1), .inl (.int 0)] h1) fun v5 h4 =>
    if (v5 = ((-1)) : Prop) then
      some (.inr (some (.inl (.int (-1)))), h4)
    else
      am_gR h4 0 x0 2 fun o6 =>
      am_cI (am_Z d 247 0 [.inl (.ref o6), .inl (.int 3)] h4) fun v8 h7 =>
      am_gR h7 0 x0 2 fun o9 =>
      am_cI (am_Z d 252 0 [.inl (.ref o9), .inl (.int x1)] h7) fun v11 h10 =>
      am_gR h10 0 x0 2 fun o12 =>
      am_cI (am_Z d 247 0 [.inl (.ref o12), .inl (.int 3)] h10) fun v14 h13 =>
      if (v8 < v14 : Prop) then
        am_cV (am_Z d 297 0 [.inl (.ref x0), .inl (.int x1)] h13) fun h15 =>
        if (v11 = (0) : Prop) then
          am_gR h15 0 x0 2 fun o16 =>
          am_cI (am_Z d 245 0 [.inl (.ref o16)] h15) fun v18 h17 =>
          if (v18 = (0) : Prop) then
            some (.inr (some (.inl (.int v11))), h17)
          else
            some (.inr (some (.inl (.int 3))), h17)
        else
          some (.inr (some (.inl (.int v11))), h15)
      else
        if (v11 = (0) : Prop) then
          am_gR h13 0 x0 2 fun o19 =>
          am_cI (am_Z d 245 0 [.inl (.ref o19)] h13) fun v21 h20 =>
          if (v21 = (0) : Prop) then
            some (.inr (some (.inl (.int v11))), h20)
          else
            some (.inr (some (.inl (.int 3))), h20)
        else
          some (.inr (some (.inl (.int v11))), h13) :=
  (am_key (M := mt_243) (lv := [(0, .inl (.ref x0)), (1, .inl (.int x1))]) rfl rfl).trans rfl
-- FlowSession.goesOn()Z
set_option maxRecDepth 100000 in
theorem e_244_0 (d : Nat) (x0 : Nat) (h : am_H) : am_Z (d + 1) 244 0 [.inl (.ref x0)] h =
  am_ob h 0 x0 fun _ =>
  am_gI h 0 x0 13 fun v1 =>
  if (v1 = (0) : Prop) then
    some (.inr (some (.inl (.int 0))), h)
  else
    am_gR h 0 x0 2 fun o2 =>
    am_cI (am_Z d 245 0 [.inl (.ref o2)] h) fun v4 h3 =>
    if (v4 = (0) : Prop) then
      some (.inr (some (.inl (.int 1))), h3)
    else
      some (.inr (some (.inl (.int 0))), h3) :=
  (am_key (M := mt_244) (lv := [(0, .inl (.ref x0))]) rfl rfl).trans rfl
-- FlowSession.done(I)V
set_option maxRecDepth 100000 in
theorem e_297_0 (d : Nat) (x0 : Nat) (x1 : Int32) (h : am_H) : am_Z (d + 1) 297 0 [.inl (.ref x0), .inl (.int x1)] h =
  am_ob h 0 x0 fun _ =>
  am_gR h 0 x0 6 fun o1 =>
  am_pI h 16 o1 3 x1 fun h2 =>
  am_gR h2 0 x0 2 fun o3 =>
  am_cI (am_Z d 298 0 [.inl (.ref o3), .inl (.int (-2)), .inl (.long 0), .inl (.int 0)] h2) fun v5 h4 =>
  if (v5 = ((-1)) : Prop) then
    some (.inr none, h4)
  else
    am_cV (am_Z d 300 0 [.inl (.ref x0), .inl (.long 0), .inl (.int 0)] h4) fun h6 =>
    am_cV (am_Z d 301 0 [.inl (.ref x0), .inl (.int 10)] h6) fun h7 =>
    some (.inr none, h7) :=
  (am_key (M := mt_297) (lv := [(0, .inl (.ref x0)), (1, .inl (.int x1))]) rfl rfl).trans rfl
-- FlowSession.say(JI)V
set_option maxRecDepth 100000 in
theorem e_300_0 (d : Nat) (x0 : Nat) (x1 : Int64) (x3 : Int32) (h : am_H) : am_Z (d + 1) 300 0 [.inl (.ref x0), .inl (.long x1), .inl (.int x3)] h =
  am_ob h 0 x0 fun _ =>
  am_gI h 0 x0 11 fun v1 =>
  if (v1 = (8192) : Prop) then
    some (.inr none, h)
  else
    am_gR h 0 x0 2 fun o2 =>
    am_cI (am_Z d 298 0 [.inl (.ref o2), .inl (.int (-2)), .inl (.long x1), .inl (.int 0)] h) fun v4 h3 =>
    am_gR h3 0 x0 2 fun o5 =>
    am_cI (am_Z d 298 0 [.inl (.ref o5), .inl (.int (-2)), .inl (.long x1), .inl (.int 1)] h3) fun v7 h6 =>
    if (4 < x3 : Prop) then
      am_cV (am_Z d 301 0 [.inl (.ref x0), .inl (.int 46)] h6) fun h8 =>
      am_cV (am_Z d 301 0 [.inl (.ref x0), .inl (.int 46)] h8) fun h9 =>
      some (.inr none, h9)
    else
      if (v4 = (0) : Prop) then
        am_cV (am_Z d 301 0 [.inl (.ref x0), .inl (.int 95)] h6) fun h10 =>
        some (.inr none, h10)
      else
        if (v4 = (1) : Prop) then
          am_cV (am_Z d 302 0 [.inl (.ref x0), .inl (.int v7)] h6) fun h11 =>
          some (.inr none, h11)
        else
          if (v4 = (2) : Prop) then
            am_cV (am_Z d 303 0 [.inl (.ref x0), .inl (.int v7)] h6) fun h12 =>
            some (.inr none, h12)
          else
            if (v4 = (3) : Prop) then
              am_cV (am_Z d 305 0 [.inl (.ref x0), .inl (.long x1), .inl (.int v7), .inl (.int x3)] h6) fun h13 =>
              some (.inr none, h13)
            else
              am_cV (am_Z d 301 0 [.inl (.ref x0), .inl (.int 60)] h6) fun h14 =>
              if (v7 = (7) : Prop) then
                am_cV (am_Z d 301 0 [.inl (.ref x0), .inl (.int 99)] h14) fun h15 =>
                am_cV (am_Z d 301 0 [.inl (.ref x0), .inl (.int 62)] h15) fun h16 =>
                some (.inr none, h16)
              else
                if (v7 = (8) : Prop) then
                  am_cV (am_Z d 301 0 [.inl (.ref x0), .inl (.int 113)] h14) fun h17 =>
                  am_cV (am_Z d 301 0 [.inl (.ref x0), .inl (.int 62)] h17) fun h18 =>
                  some (.inr none, h18)
                else
                  am_cV (am_Z d 301 0 [.inl (.ref x0), .inl (.int 112)] h14) fun h19 =>
                  am_cV (am_Z d 301 0 [.inl (.ref x0), .inl (.int 62)] h19) fun h20 =>
                  some (.inr none, h20) :=
  (am_key (M := mt_300) (lv := [(0, .inl (.ref x0)), (1, .inl (.long x1)), (3, .inl (.int x3))]) rfl rfl).trans rfl
-- FlowSession.put(I)V
set_option maxRecDepth 100000 in
theorem e_301_0 (d : Nat) (x0 : Nat) (x1 : Int32) (h : am_H) : am_Z d 301 0 [.inl (.ref x0), .inl (.int x1)] h =
  am_ob h 0 x0 fun _ =>
  am_gI h 0 x0 11 fun v1 =>
  if (v1 < 8192 : Prop) then
    am_gA h 0 x0 10 fun a2 u3 =>
    am_gI h 0 x0 11 fun v4 =>
    am_pI h 0 x0 11 (v4 + 1) fun h5 =>
    am_st h5 a2 u3 am_tB v4 (Int8.toInt32 (Int32.toInt8 x1)) fun h6 =>
    some (.inr none, h6)
  else
    some (.inr none, h) :=
  (am_key (M := mt_301) (lv := [(0, .inl (.ref x0)), (1, .inl (.int x1))]) rfl rfl).trans rfl
-- FlowSession.number(I)V
set_option maxRecDepth 100000 in
theorem e_302_0 (d : Nat) (x0 : Nat) (x1 : Int32) (h : am_H) : am_Z (d + 1) 302 0 [.inl (.ref x0), .inl (.int x1)] h =
  am_ob h 0 x0 fun _ =>
  if ((lg_cmp (Int32.toInt64 x1) 0) < 0 : Prop) then
    am_cV (am_Z d 301 0 [.inl (.ref x0), .inl (.int 126)] h) fun h1 =>
    am_Z (d + 1) 302 21 [.inl (.ref x0), .inl (.long (-(Int32.toInt64 x1))), .inl (.int 0)] h1
  else
    am_Z (d + 1) 302 21 [.inl (.ref x0), .inl (.long (Int32.toInt64 x1)), .inl (.int 0)] h :=
  (am_key (M := mt_302) (lv := [(0, .inl (.ref x0)), (1, .inl (.int x1))]) rfl rfl).trans rfl
set_option maxRecDepth 100000 in
theorem e_302_21 (d : Nat) (x0 : Nat) (x2 : Int64) (x4 : Int32) (h : am_H) : am_Z d 302 21 [.inl (.ref x0), .inl (.long x2), .inl (.int x4)] h =
  am_gA h 0 x0 12 fun a1 u2 =>
  if 10 = 0 then none else
  am_st h a1 u2 am_tB x4 (Int8.toInt32 (Int32.toInt8 (Int64.toInt32 (48 + (x2 - x2 / 10 * 10))))) fun h3 =>
  if 10 = 0 then none else
  if (0 < (lg_cmp (x2 / 10) 0) : Prop) then
    am_Z d 302 21 [.inl (.ref x0), .inl (.long (x2 / 10)), .inl (.int (x4 + 1))] h3
  else
    am_Z d 302 54 [.inl (.ref x0), .inl (.int (x4 + 1))] h3 :=
  (am_key (M := mt_302) (lv := [(0, .inl (.ref x0)), (2, .inl (.long x2)), (4, .inl (.int x4))]) rfl rfl).trans rfl
set_option maxRecDepth 100000 in
theorem e_302_54 (d : Nat) (x0 : Nat) (x4 : Int32) (h : am_H) : am_Z (d + 1) 302 54 [.inl (.ref x0), .inl (.int x4)] h =
  if (0 < x4 : Prop) then
    am_gA h 0 x0 12 fun a1 u2 =>
    am_ld h a1 u2 am_tB (x4 + (-1)) fun v3 =>
    am_cV (am_Z d 301 0 [.inl (.ref x0), .inl (.int v3)] h) fun h4 =>
    am_Z (d + 1) 302 54 [.inl (.ref x0), .inl (.int (x4 + (-1)))] h4
  else
    some (.inr none, h) :=
  (am_key (M := mt_302) (lv := [(0, .inl (.ref x0)), (4, .inl (.int x4))]) rfl rfl).trans rfl
-- FlowSession.atom(I)V
set_option maxRecDepth 100000 in
theorem e_303_0 (d : Nat) (x0 : Nat) (x1 : Int32) (h : am_H) : am_Z d 303 0 [.inl (.ref x0), .inl (.int x1)] h =
  am_ob h 0 x0 fun _ =>
  am_Z d 303 2 [.inl (.ref x0), .inl (.int x1), .inl (.int 0)] h :=
  (am_key (M := mt_303) (lv := [(0, .inl (.ref x0)), (1, .inl (.int x1))]) rfl rfl).trans rfl
set_option maxRecDepth 100000 in
theorem e_303_2 (d : Nat) (x0 : Nat) (x1 : Int32) (x2 : Int32) (h : am_H) : am_Z (d + 1) 303 2 [.inl (.ref x0), .inl (.int x1), .inl (.int x2)] h =
  am_gR h 0 x0 0 fun o1 =>
  am_cI (am_Z d 304 0 [.inl (.ref o1), .inl (.int x1), .inl (.int x2)] h) fun v3 h2 =>
  if (v3 < 0 : Prop) then
    some (.inr none, h2)
  else
    am_gR h2 0 x0 0 fun o4 =>
    am_cI (am_Z d 304 0 [.inl (.ref o4), .inl (.int x1), .inl (.int x2)] h2) fun v6 h5 =>
    am_cV (am_Z d 301 0 [.inl (.ref x0), .inl (.int v6)] h5) fun h7 =>
    am_Z (d + 1) 303 2 [.inl (.ref x0), .inl (.int x1), .inl (.int (x2 + 1))] h7 :=
  (am_key (M := mt_303) (lv := [(0, .inl (.ref x0)), (1, .inl (.int x1)), (2, .inl (.int x2))]) rfl rfl).trans rfl
-- FlowSession.record(JII)V
set_option maxRecDepth 100000 in
theorem e_305_0 (d : Nat) (x0 : Nat) (x1 : Int64) (x3 : Int32) (x4 : Int32) (h : am_H) : am_Z (d + 1) 305 0 [.inl (.ref x0), .inl (.long x1), .inl (.int x3), .inl (.int x4)] h =
  am_ob h 0 x0 fun _ =>
  am_cV (am_Z d 303 0 [.inl (.ref x0), .inl (.int x3)] h) fun h1 =>
  am_cV (am_Z d 301 0 [.inl (.ref x0), .inl (.int 40)] h1) fun h2 =>
  am_gR h2 0 x0 2 fun o3 =>
  am_cI (am_Z d 298 0 [.inl (.ref o3), .inl (.int (-2)), .inl (.long x1), .inl (.int 2)] h2) fun v5 h4 =>
  am_Z (d + 1) 305 27 [.inl (.ref x0), .inl (.long x1), .inl (.int x4), .inl (.int v5), .inl (.int 0)] h4 :=
  (am_key (M := mt_305) (lv := [(0, .inl (.ref x0)), (1, .inl (.long x1)), (3, .inl (.int x3)), (4, .inl (.int x4))]) rfl rfl).trans rfl
set_option maxRecDepth 100000 in
theorem e_305_27 (d : Nat) (x0 : Nat) (x1 : Int64) (x4 : Int32) (x5 : Int32) (x6 : Int32) (h : am_H) : am_Z (d + 1) 305 27 [.inl (.ref x0), .inl (.long x1), .inl (.int x4), .inl (.int x5), .inl (.int x6)] h =
  if (x6 < x5 : Prop) then
    am_gI h 0 x0 11 fun v1 =>
    if (v1 < 8192 : Prop) then
      if (0 < x6 : Prop) then
        am_cV (am_Z d 301 0 [.inl (.ref x0), .inl (.int 32)] h) fun h2 =>
        am_Z (d + 1) 305 55 [.inl (.ref x0), .inl (.long x1), .inl (.int x4), .inl (.int x5), .inl (.int x6)] h2
      else
        am_Z (d + 1) 305 55 [.inl (.ref x0), .inl (.long x1), .inl (.int x4), .inl (.int x5), .inl (.int x6)] h
    else
      am_cV (am_Z d 301 0 [.inl (.ref x0), .inl (.int 41)] h) fun h3 =>
      some (.inr none, h3)
  else
    am_cV (am_Z d 301 0 [.inl (.ref x0), .inl (.int 41)] h) fun h4 =>
    some (.inr none, h4) :=
  (am_key (M := mt_305) (lv := [(0, .inl (.ref x0)), (1, .inl (.long x1)), (4, .inl (.int x4)), (5, .inl (.int x5)), (6, .inl (.int x6))]) rfl rfl).trans rfl
set_option maxRecDepth 100000 in
theorem e_305_55 (d : Nat) (x0 : Nat) (x1 : Int64) (x4 : Int32) (x5 : Int32) (x6 : Int32) (h : am_H) : am_Z (d + 1) 305 55 [.inl (.ref x0), .inl (.long x1), .inl (.int x4), .inl (.int x5), .inl (.int x6)] h =
  am_gR h 0 x0 2 fun o1 =>
  am_cI (am_Z d 306 0 [.inl (.ref o1), .inl (.int (-2)), .inl (.long x1), .inl (.int x6)] h) fun v3 h2 =>
  if (0 < v3 : Prop) then
    am_cV (am_Z d 302 0 [.inl (.ref x0), .inl (.int v3)] h2) fun h4 =>
    am_Z (d + 1) 305 91 [.inl (.ref x0), .inl (.long x1), .inl (.int x4), .inl (.int x5), .inl (.int x6)] h4
  else
    am_cV (am_Z d 303 0 [.inl (.ref x0), .inl (.int ((-1) - v3))] h2) fun h5 =>
    am_Z (d + 1) 305 91 [.inl (.ref x0), .inl (.long x1), .inl (.int x4), .inl (.int x5), .inl (.int x6)] h5 :=
  (am_key (M := mt_305) (lv := [(0, .inl (.ref x0)), (1, .inl (.long x1)), (4, .inl (.int x4)), (5, .inl (.int x5)), (6, .inl (.int x6))]) rfl rfl).trans rfl
set_option maxRecDepth 100000 in
theorem e_305_91 (d : Nat) (x0 : Nat) (x1 : Int64) (x4 : Int32) (x5 : Int32) (x6 : Int32) (h : am_H) : am_Z (d + 1) 305 91 [.inl (.ref x0), .inl (.long x1), .inl (.int x4), .inl (.int x5), .inl (.int x6)] h =
  am_cV (am_Z d 301 0 [.inl (.ref x0), .inl (.int 58)] h) fun h1 =>
  am_cV (am_Z d 300 0 [.inl (.ref x0), .inl (.long (x1 ||| ((Int32.toInt64 (x6 + 1)) <<< (Int32.toInt64 (8 * x4) &&& 63)))), .inl (.int (x4 + 1))] h1) fun h2 =>
  am_Z (d + 1) 305 27 [.inl (.ref x0), .inl (.long x1), .inl (.int x4), .inl (.int x5), .inl (.int (x6 + 1))] h2 :=
  (am_key (M := mt_305) (lv := [(0, .inl (.ref x0)), (1, .inl (.long x1)), (4, .inl (.int x4)), (5, .inl (.int x5)), (6, .inl (.int x6))]) rfl rfl).trans rfl
-- FlowSession.run(I)I
set_option maxRecDepth 100000 in
theorem e_308_0 (d : Nat) (x0 : Nat) (x1 : Int32) (h : am_H) : am_Z (d + 1) 308 0 [.inl (.ref x0), .inl (.int x1)] h =
  am_ob h 0 x0 fun _ =>
  if (x1 < 0 : Prop) then
    some (.inr (some (.inl (.int (-1)))), h)
  else
    if (20000 < x1 : Prop) then
      some (.inr (some (.inl (.int (-1)))), h)
    else
      am_cI (am_Z d 244 0 [.inl (.ref x0)] h) fun v2 h1 =>
      if (v2 = (0) : Prop) then
        some (.inr (some (.inl (.int (-1)))), h1)
      else
        am_gR h1 0 x0 2 fun o3 =>
        am_cI (am_Z d 247 0 [.inl (.ref o3), .inl (.int 3)] h1) fun v5 h4 =>
        am_Z (d + 1) 308 29 [.inl (.ref x0), .inl (.int x1), .inl (.int v5)] h4 :=
  (am_key (M := mt_308) (lv := [(0, .inl (.ref x0)), (1, .inl (.int x1))]) rfl rfl).trans rfl
set_option maxRecDepth 100000 in
theorem e_308_29 (d : Nat) (x0 : Nat) (x1 : Int32) (x2 : Int32) (h : am_H) : am_Z (d + 1) 308 29 [.inl (.ref x0), .inl (.int x1), .inl (.int x2)] h =
  am_gR h 0 x0 2 fun o1 =>
  am_cI (am_Z d 247 0 [.inl (.ref o1), .inl (.int 3)] h) fun v3 h2 =>
  if ((v3 - x2) < x1 : Prop) then
    am_gR h2 0 x0 2 fun o4 =>
    am_cI (am_Z d 245 0 [.inl (.ref o4)] h2) fun v6 h5 =>
    if (v6 = (0) : Prop) then
      am_gR h5 0 x0 2 fun o7 =>
      am_cI (am_Z d 247 0 [.inl (.ref o7), .inl (.int 3)] h5) fun v9 h8 =>
      am_gR h8 0 x0 6 fun o10 =>
      am_gR h8 0 x0 2 fun o11 =>
      am_cI (am_Z d 309 0 [.inl (.ref o10), .inl (.ref o11)] h8) fun v13 h12 =>
      am_gR h12 0 x0 2 fun o14 =>
      am_cI (am_Z d 252 0 [.inl (.ref o14), .inl (.int v13)] h12) fun v16 h15 =>
      am_gR h15 0 x0 2 fun o17 =>
      am_cI (am_Z d 247 0 [.inl (.ref o17), .inl (.int 3)] h15) fun v19 h18 =>
      if (v9 < v19 : Prop) then
        am_cV (am_Z d 297 0 [.inl (.ref x0), .inl (.int v13)] h18) fun h20 =>
        am_Z (d + 1) 308 29 [.inl (.ref x0), .inl (.int x1), .inl (.int x2)] h20
      else
        am_Z (d + 1) 308 29 [.inl (.ref x0), .inl (.int x1), .inl (.int x2)] h18
    else
      am_gR h5 0 x0 2 fun o21 =>
      am_cI (am_Z d 247 0 [.inl (.ref o21), .inl (.int 3)] h5) fun v23 h22 =>
      some (.inr (some (.inl (.int (v23 - x2)))), h22)
  else
    am_gR h2 0 x0 2 fun o24 =>
    am_cI (am_Z d 247 0 [.inl (.ref o24), .inl (.int 3)] h2) fun v26 h25 =>
    some (.inr (some (.inl (.int (v26 - x2)))), h25) :=
  (am_key (M := mt_308) (lv := [(0, .inl (.ref x0)), (1, .inl (.int x1)), (2, .inl (.int x2))]) rfl rfl).trans rfl
-- FlowSession.state()I
set_option maxRecDepth 100000 in
theorem e_310_0 (d : Nat) (x0 : Nat) (h : am_H) : am_Z (d + 1) 310 0 [.inl (.ref x0)] h =
  am_ob h 0 x0 fun _ =>
  am_gI h 0 x0 13 fun v1 =>
  if (v1 = (0) : Prop) then
    some (.inr (some (.inl (.int (-1)))), h)
  else
    am_gR h 0 x0 2 fun o2 =>
    am_cI (am_Z d 245 0 [.inl (.ref o2)] h) fun v4 h3 =>
    some (.inr (some (.inl (.int v4))), h3) :=
  (am_key (M := mt_310) (lv := [(0, .inl (.ref x0))]) rfl rfl).trans rfl
-- FlowSession.count(I)I
set_option maxRecDepth 100000 in
theorem e_311_0 (d : Nat) (x0 : Nat) (x1 : Int32) (h : am_H) : am_Z (d + 1) 311 0 [.inl (.ref x0), .inl (.int x1)] h =
  am_ob h 0 x0 fun _ =>
  if x1 = 0 then
    am_gI h 0 x0 13 fun v1 =>
    if (v1 = (0) : Prop) then
      some (.inr (some (.inl (.int 0))), h)
    else
      am_gR h 0 x0 2 fun o2 =>
      am_cI (am_Z d 247 0 [.inl (.ref o2), .inl (.int 1)] h) fun v4 h3 =>
      some (.inr (some (.inl (.int v4))), h3)
  else if x1 = 1 then
    am_gI h 0 x0 13 fun v5 =>
    if (v5 = (0) : Prop) then
      some (.inr (some (.inl (.int 0))), h)
    else
      am_gR h 0 x0 2 fun o6 =>
      am_cI (am_Z d 247 0 [.inl (.ref o6), .inl (.int 3)] h) fun v8 h7 =>
      some (.inr (some (.inl (.int v8))), h7)
  else if x1 = 2 then
    am_gI h 0 x0 13 fun v9 =>
    if (v9 = (0) : Prop) then
      some (.inr (some (.inl (.int 0))), h)
    else
      am_gR h 0 x0 2 fun o10 =>
      am_cI (am_Z d 247 0 [.inl (.ref o10), .inl (.int 5)] h) fun v12 h11 =>
      some (.inr (some (.inl (.int v12))), h11)
  else if x1 = 3 then
    am_gI h 0 x0 13 fun v13 =>
    if (v13 = (0) : Prop) then
      some (.inr (some (.inl (.int 0))), h)
    else
      am_gR h 0 x0 2 fun o14 =>
      am_cI (am_Z d 247 0 [.inl (.ref o14), .inl (.int 2)] h) fun v16 h15 =>
      some (.inr (some (.inl (.int v16))), h15)
  else if x1 = 4 then
    am_gI h 0 x0 11 fun v17 =>
    some (.inr (some (.inl (.int v17))), h)
  else if x1 = 5 then
    am_gI h 0 x0 13 fun v18 =>
    if (v18 = (0) : Prop) then
      some (.inr (some (.inl (.int 0))), h)
    else
      am_gI h 0 x0 17 fun v19 =>
      some (.inr (some (.inl (.int v19))), h)
  else some (.inr (some (.inl (.int (-1)))), h) :=
  (am_key (M := mt_311) (lv := [(0, .inl (.ref x0)), (1, .inl (.int x1))]) rfl rfl).trans rfl
-- FlowSession.thread(II)I
set_option maxRecDepth 100000 in
theorem e_312_0 (d : Nat) (x0 : Nat) (x1 : Int32) (x2 : Int32) (h : am_H) : am_Z (d + 1) 312 0 [.inl (.ref x0), .inl (.int x1), .inl (.int x2)] h =
  am_ob h 0 x0 fun _ =>
  am_gI h 0 x0 13 fun v1 =>
  if (v1 = (0) : Prop) then
    some (.inr (some (.inl (.int (-1)))), h)
  else
    if (x2 < 0 : Prop) then
      some (.inr (some (.inl (.int (-1)))), h)
    else
      if (1 < x2 : Prop) then
        some (.inr (some (.inl (.int (-1)))), h)
      else
        am_gR h 0 x0 2 fun o2 =>
        am_cI (am_Z d 246 0 [.inl (.ref o2), .inl (.int x1), .inl (.int x2)] h) fun v4 h3 =>
        some (.inr (some (.inl (.int v4))), h3) :=
  (am_key (M := mt_312) (lv := [(0, .inl (.ref x0)), (1, .inl (.int x1)), (2, .inl (.int x2))]) rfl rfl).trans rfl
-- FlowSession.look(IJI)I
set_option maxRecDepth 100000 in
theorem e_313_0 (d : Nat) (x0 : Nat) (x1 : Int32) (x2 : Int64) (x4 : Int32) (h : am_H) : am_Z (d + 1) 313 0 [.inl (.ref x0), .inl (.int x1), .inl (.long x2), .inl (.int x4)] h =
  am_ob h 0 x0 fun _ =>
  if (x4 < 0 : Prop) then
    some (.inr (some (.inl (.int (-1)))), h)
  else
    if (2 < x4 : Prop) then
      some (.inr (some (.inl (.int (-1)))), h)
    else
      am_cI (am_Z d 314 0 [.inl (.ref x0), .inl (.int x1), .inl (.long x2)] h) fun v2 h1 =>
      if (v2 = (0) : Prop) then
        some (.inr (some (.inl (.int (-1)))), h1)
      else
        am_cI (am_Z d 315 0 [.inl (.ref x0), .inl (.int x1)] h1) fun v4 h3 =>
        am_gR h3 0 x0 2 fun o5 =>
        am_cI (am_Z d 298 0 [.inl (.ref o5), .inl (.int v4), .inl (.long x2), .inl (.int 0)] h3) fun v7 h6 =>
        am_gR h6 0 x0 2 fun o8 =>
        am_cI (am_Z d 298 0 [.inl (.ref o8), .inl (.int v4), .inl (.long x2), .inl (.int 1)] h6) fun v10 h9 =>
        if (x4 = (2) : Prop) then
          am_gR h9 0 x0 2 fun o11 =>
          am_cI (am_Z d 298 0 [.inl (.ref o11), .inl (.int v4), .inl (.long x2), .inl (.int 3)] h9) fun v13 h12 =>
          some (.inr (some (.inl (.int v13))), h12)
        else
          if (v7 = (4) : Prop) then
            if (v10 = (7) : Prop) then
              if (x4 = (0) : Prop) then
                some (.inr (some (.inl (.int 5))), h9)
              else
                if (5 = (4) : Prop) then
                  am_cI (am_Z d 316 0 [.inl (.ref x0), .inl (.int v10)] h9) fun v15 h14 =>
                  some (.inr (some (.inl (.int v15))), h14)
                else
                  some (.inr (some (.inl (.int 0))), h9)
            else
              if (v10 = (8) : Prop) then
                if (x4 = (0) : Prop) then
                  some (.inr (some (.inl (.int 6))), h9)
                else
                  if (6 = (4) : Prop) then
                    am_cI (am_Z d 316 0 [.inl (.ref x0), .inl (.int v10)] h9) fun v17 h16 =>
                    some (.inr (some (.inl (.int v17))), h16)
                  else
                    some (.inr (some (.inl (.int 0))), h9)
              else
                if (x4 = (0) : Prop) then
                  some (.inr (some (.inl (.int 4))), h9)
                else
                  if (4 = (4) : Prop) then
                    am_cI (am_Z d 316 0 [.inl (.ref x0), .inl (.int v10)] h9) fun v19 h18 =>
                    some (.inr (some (.inl (.int v19))), h18)
                  else
                    some (.inr (some (.inl (.int 0))), h9)
          else
            if (x4 = (0) : Prop) then
              some (.inr (some (.inl (.int v7))), h9)
            else
              if (v7 = (1) : Prop) then
                some (.inr (some (.inl (.int v10))), h9)
              else
                if (v7 = (3) : Prop) then
                  am_gR h9 0 x0 2 fun o20 =>
                  am_cI (am_Z d 298 0 [.inl (.ref o20), .inl (.int v4), .inl (.long x2), .inl (.int 2)] h9) fun v22 h21 =>
                  some (.inr (some (.inl (.int v22))), h21)
                else
                  some (.inr (some (.inl (.int 0))), h9) :=
  (am_key (M := mt_313) (lv := [(0, .inl (.ref x0)), (1, .inl (.int x1)), (2, .inl (.long x2)), (4, .inl (.int x4))]) rfl rfl).trans rfl
-- FlowSession.leads(IJ)Z
set_option maxRecDepth 100000 in
theorem e_314_0 (d : Nat) (x0 : Nat) (x1 : Int32) (x2 : Int64) (h : am_H) : am_Z (d + 1) 314 0 [.inl (.ref x0), .inl (.int x1), .inl (.long x2)] h =
  am_ob h 0 x0 fun _ =>
  am_cI (am_Z d 315 0 [.inl (.ref x0), .inl (.int x1)] h) fun v2 h1 =>
  am_Z (d + 1) 314 16 [.inl (.ref x0), .inl (.int v2), .inl (.long 0), .inl (.int 0), .inl (.long x2)] h1 :=
  (am_key (M := mt_314) (lv := [(0, .inl (.ref x0)), (1, .inl (.int x1)), (2, .inl (.long x2))]) rfl rfl).trans rfl
set_option maxRecDepth 100000 in
theorem e_314_16 (d : Nat) (x0 : Nat) (x4 : Int32) (x5 : Int64) (x7 : Int32) (x8 : Int64) (h : am_H) : am_Z (d + 1) 314 16 [.inl (.ref x0), .inl (.int x4), .inl (.long x5), .inl (.int x7), .inl (.long x8)] h =
  if ((lg_cmp (x8 &&& 255) 0) = (0) : Prop) then
    am_gR h 0 x0 2 fun o1 =>
    am_cI (am_Z d 298 0 [.inl (.ref o1), .inl (.int x4), .inl (.long x5), .inl (.int 0)] h) fun v3 h2 =>
    if (v3 = ((-1)) : Prop) then
      some (.inr (some (.inl (.int 0))), h2)
    else
      some (.inr (some (.inl (.int 1))), h2)
  else
    am_gR h 0 x0 2 fun o4 =>
    am_cI (am_Z d 298 0 [.inl (.ref o4), .inl (.int x4), .inl (.long x5), .inl (.int 0)] h) fun v6 h5 =>
    if (v6 = (3) : Prop) then
      am_Z (d + 1) 314 16 [.inl (.ref x0), .inl (.int x4), .inl (.long (x5 ||| ((x8 &&& 255) <<< (Int32.toInt64 (8 * x7) &&& 63)))), .inl (.int (x7 + 1)), .inl (.long ((Int64.toUInt64 x8 >>> (Int64.toUInt64 (Int32.toInt64 8) &&& Int64.toUInt64 63)).toInt64))] h5
    else
      some (.inr (some (.inl (.int 0))), h5) :=
  (am_key (M := mt_314) (lv := [(0, .inl (.ref x0)), (4, .inl (.int x4)), (5, .inl (.long x5)), (7, .inl (.int x7)), (8, .inl (.long x8))]) rfl rfl).trans rfl
-- FlowSession.root(I)I
set_option maxRecDepth 100000 in
theorem e_315_0 (d : Nat) (x0 : Nat) (x1 : Int32) (h : am_H) : am_Z (d + 1) 315 0 [.inl (.ref x0), .inl (.int x1)] h =
  am_ob h 0 x0 fun _ =>
  am_gI h 0 x0 13 fun v1 =>
  if (v1 = (0) : Prop) then
    am_gR h 0 x0 2 fun o2 =>
    am_cI (am_Z d 247 0 [.inl (.ref o2), .inl (.int 1)] h) fun v4 h3 =>
    some (.inr (some (.inl (.int ((-3) - v4)))), h3)
  else
    if (x1 < (-1) : Prop) then
      am_gR h 0 x0 2 fun o5 =>
      am_cI (am_Z d 247 0 [.inl (.ref o5), .inl (.int 1)] h) fun v7 h6 =>
      some (.inr (some (.inl (.int ((-3) - v7)))), h6)
    else
      am_gI h 0 x0 17 fun v8 =>
      if (x1 < v8 : Prop) then
        if (x1 < 0 : Prop) then
          some (.inr (some (.inl (.int (-1)))), h)
        else
          am_gI h 0 x0 16 fun v9 =>
          some (.inr (some (.inl (.int (v9 + x1)))), h)
      else
        am_gR h 0 x0 2 fun o10 =>
        am_cI (am_Z d 247 0 [.inl (.ref o10), .inl (.int 1)] h) fun v12 h11 =>
        some (.inr (some (.inl (.int ((-3) - v12)))), h11) :=
  (am_key (M := mt_315) (lv := [(0, .inl (.ref x0)), (1, .inl (.int x1))]) rfl rfl).trans rfl
-- FlowSession.parameters(I)I
set_option maxRecDepth 100000 in
theorem e_316_0 (d : Nat) (x0 : Nat) (x1 : Int32) (h : am_H) : am_Z d 316 0 [.inl (.ref x0), .inl (.int x1)] h =
  am_ob h 0 x0 fun _ =>
  if (15 < x1 : Prop) then
    am_gR h 0 x0 1 fun o1 =>
    am_gR h 7 o1 14 fun o2 =>
    am_gA h 8 o2 0 fun a3 u4 =>
    am_ld h a3 u4 am_tI (x1 - 13) fun v5 =>
    some (.inr (some (.inl (.int v5))), h)
  else
    if (x1 < 2 : Prop) then
      some (.inr (some (.inl (.int 1))), h)
    else
      if (x1 = (4) : Prop) then
        some (.inr (some (.inl (.int 3))), h)
      else
        some (.inr (some (.inl (.int 2))), h) :=
  (am_key (M := mt_316) (lv := [(0, .inl (.ref x0)), (1, .inl (.int x1))]) rfl rfl).trans rfl
-- FlowSession.byteOf(IJI)I
set_option maxRecDepth 100000 in
theorem e_317_0 (d : Nat) (x0 : Nat) (x1 : Int32) (x2 : Int64) (x4 : Int32) (h : am_H) : am_Z (d + 1) 317 0 [.inl (.ref x0), .inl (.int x1), .inl (.long x2), .inl (.int x4)] h =
  am_ob h 0 x0 fun _ =>
  am_cI (am_Z d 314 0 [.inl (.ref x0), .inl (.int x1), .inl (.long x2)] h) fun v2 h1 =>
  if (v2 = (0) : Prop) then
    some (.inr (some (.inl (.int (-1)))), h1)
  else
    am_cI (am_Z d 315 0 [.inl (.ref x0), .inl (.int x1)] h1) fun v4 h3 =>
    am_gR h3 0 x0 2 fun o5 =>
    am_cI (am_Z d 298 0 [.inl (.ref o5), .inl (.int v4), .inl (.long x2), .inl (.int 0)] h3) fun v7 h6 =>
    if (v7 = (2) : Prop) then
      am_gR h6 0 x0 0 fun o8 =>
      am_gR h6 0 x0 2 fun o9 =>
      am_cI (am_Z d 298 0 [.inl (.ref o9), .inl (.int v4), .inl (.long x2), .inl (.int 1)] h6) fun v11 h10 =>
      am_cI (am_Z d 304 0 [.inl (.ref o8), .inl (.int v11), .inl (.int x4)] h10) fun v13 h12 =>
      some (.inr (some (.inl (.int v13))), h12)
    else
      if (v7 = (3) : Prop) then
        am_gR h6 0 x0 0 fun o14 =>
        am_gR h6 0 x0 2 fun o15 =>
        am_cI (am_Z d 298 0 [.inl (.ref o15), .inl (.int v4), .inl (.long x2), .inl (.int 1)] h6) fun v17 h16 =>
        am_cI (am_Z d 304 0 [.inl (.ref o14), .inl (.int v17), .inl (.int x4)] h16) fun v19 h18 =>
        some (.inr (some (.inl (.int v19))), h18)
      else
        some (.inr (some (.inl (.int (-1)))), h6) :=
  (am_key (M := mt_317) (lv := [(0, .inl (.ref x0)), (1, .inl (.int x1)), (2, .inl (.long x2)), (4, .inl (.int x4))]) rfl rfl).trans rfl
-- FlowSession.same(IJIJ)I
set_option maxRecDepth 100000 in
theorem e_318_0 (d : Nat) (x0 : Nat) (x1 : Int32) (x2 : Int64) (x4 : Int32) (x5 : Int64) (h : am_H) : am_Z (d + 1) 318 0 [.inl (.ref x0), .inl (.int x1), .inl (.long x2), .inl (.int x4), .inl (.long x5)] h =
  am_ob h 0 x0 fun _ =>
  am_cI (am_Z d 314 0 [.inl (.ref x0), .inl (.int x1), .inl (.long x2)] h) fun v2 h1 =>
  if (v2 = (0) : Prop) then
    some (.inr (some (.inl (.int (-1)))), h1)
  else
    am_cI (am_Z d 314 0 [.inl (.ref x0), .inl (.int x4), .inl (.long x5)] h1) fun v4 h3 =>
    if (v4 = (0) : Prop) then
      some (.inr (some (.inl (.int (-1)))), h3)
    else
      am_gR h3 0 x0 2 fun o5 =>
      am_cI (am_Z d 315 0 [.inl (.ref x0), .inl (.int x1)] h3) fun v7 h6 =>
      am_cI (am_Z d 315 0 [.inl (.ref x0), .inl (.int x4)] h6) fun v9 h8 =>
      am_cI (am_Z d 319 0 [.inl (.ref o5), .inl (.int v7), .inl (.long x2), .inl (.int v9), .inl (.long x5)] h8) fun v11 h10 =>
      some (.inr (some (.inl (.int v11))), h10) :=
  (am_key (M := mt_318) (lv := [(0, .inl (.ref x0)), (1, .inl (.int x1)), (2, .inl (.long x2)), (4, .inl (.int x4)), (5, .inl (.long x5))]) rfl rfl).trans rfl
-- FlowSession.shown(I)I
set_option maxRecDepth 100000 in
theorem e_320_0 (d : Nat) (x0 : Nat) (x1 : Int32) (h : am_H) : am_Z d 320 0 [.inl (.ref x0), .inl (.int x1)] h =
  am_ob h 0 x0 fun _ =>
  if (x1 < 0 : Prop) then
    some (.inr (some (.inl (.int (-1)))), h)
  else
    am_gI h 0 x0 11 fun v1 =>
    if (x1 < v1 : Prop) then
      am_gA h 0 x0 10 fun a2 u3 =>
      am_ld h a2 u3 am_tB x1 fun v4 =>
      some (.inr (some (.inl (.int (v4 &&& 255)))), h)
    else
      some (.inr (some (.inl (.int (-1)))), h) :=
  (am_key (M := mt_320) (lv := [(0, .inl (.ref x0)), (1, .inl (.int x1))]) rfl rfl).trans rfl
-- FlowSession.alike(IIII)I
set_option maxRecDepth 100000 in
theorem e_321_0 (d : Nat) (x0 : Nat) (x1 : Int32) (x2 : Int32) (x3 : Int32) (x4 : Int32) (h : am_H) : am_Z (d + 1) 321 0 [.inl (.ref x0), .inl (.int x1), .inl (.int x2), .inl (.int x3), .inl (.int x4)] h =
  am_ob h 0 x0 fun _ =>
  am_gI h 0 x0 13 fun v1 =>
  if (v1 = (0) : Prop) then
    some (.inr (some (.inl (.int (-1)))), h)
  else
    am_gR h 0 x0 7 fun o2 =>
    am_cI (am_Z d 242 0 [.inl (.ref o2), .inl (.int x3), .inl (.int x4)] h) fun v4 h3 =>
    if (v4 = (0) : Prop) then
      some (.inr (some (.inl (.int (-1)))), h3)
    else
      am_gR h3 0 x0 7 fun o5 =>
      am_cI (am_Z d 242 0 [.inl (.ref o5), .inl (.int x1), .inl (.int x2)] h3) fun v7 h6 =>
      if (v7 = (0) : Prop) then
        some (.inr (some (.inl (.int (-1)))), h6)
      else
        am_gR h6 0 x0 0 fun o8 =>
        am_cI (am_Z d 322 0 [.inl (.ref o8)] h6) fun v10 h9 =>
        if (v10 = (0) : Prop) then
          am_gR h9 0 x0 3 fun o11 =>
          am_cI (am_Z d 323 0 [.inl (.ref x0), .inl (.ref o11)] h9) fun v13 h12 =>
          if (v13 = (0) : Prop) then
            some (.inr (some (.inl (.int (-1)))), h12)
          else
            am_gR h12 0 x0 7 fun o14 =>
            am_cI (am_Z d 242 0 [.inl (.ref o14), .inl (.int x3), .inl (.int x4)] h12) fun v16 h15 =>
            am_gR h15 0 x0 4 fun o17 =>
            am_cI (am_Z d 323 0 [.inl (.ref x0), .inl (.ref o17)] h15) fun v19 h18 =>
            if (v19 = (0) : Prop) then
              some (.inr (some (.inl (.int (-1)))), h18)
            else
              am_gR h18 0 x0 3 fun o20 =>
              am_cI (am_Z d 245 0 [.inl (.ref o20)] h18) fun v22 h21 =>
              am_gR h21 0 x0 4 fun o23 =>
              am_cI (am_Z d 245 0 [.inl (.ref o23)] h21) fun v25 h24 =>
              if (v22 = (v25) : Prop) then
                if (1 = (0) : Prop) then
                  some (.inr (some (.inl (.int 0))), h24)
                else
                  am_gR h24 0 x0 3 fun o26 =>
                  am_cI (am_Z d 245 0 [.inl (.ref o26)] h24) fun v28 h27 =>
                  if (v28 = (2) : Prop) then
                    some (.inr (some (.inl (.int 1))), h27)
                  else
                    am_gR h27 0 x0 5 fun o29 =>
                    am_gI h27 0 x0 16 fun v30 =>
                    am_gI h27 0 x0 17 fun v31 =>
                    am_cI (am_Z d 324 0 [.inl (.ref o29), .inl (.int v30), .inl (.int v31)] h27) fun v33 h32 =>
                    if (v33 = (0) : Prop) then
                      some (.inr (some (.inl (.int 0))), h32)
                    else
                      some (.inr (some (.inl (.int 1))), h32)
              else
                if (0 = (0) : Prop) then
                  some (.inr (some (.inl (.int 0))), h24)
                else
                  am_gR h24 0 x0 3 fun o34 =>
                  am_cI (am_Z d 245 0 [.inl (.ref o34)] h24) fun v36 h35 =>
                  if (v36 = (2) : Prop) then
                    some (.inr (some (.inl (.int 1))), h35)
                  else
                    am_gR h35 0 x0 5 fun o37 =>
                    am_gI h35 0 x0 16 fun v38 =>
                    am_gI h35 0 x0 17 fun v39 =>
                    am_cI (am_Z d 324 0 [.inl (.ref o37), .inl (.int v38), .inl (.int v39)] h35) fun v41 h40 =>
                    if (v41 = (0) : Prop) then
                      some (.inr (some (.inl (.int 0))), h40)
                    else
                      some (.inr (some (.inl (.int 1))), h40)
        else
          some (.inr (some (.inl (.int 2))), h9) :=
  (am_key (M := mt_321) (lv := [(0, .inl (.ref x0)), (1, .inl (.int x1)), (2, .inl (.int x2)), (3, .inl (.int x3)), (4, .inl (.int x4))]) rfl rfl).trans rfl
-- FlowSession.comesTo(LFlowSession$FlowMachine;)Z
set_option maxRecDepth 100000 in
theorem e_323_0 (d : Nat) (x0 : Nat) (x1 : Nat) (h : am_H) : am_Z (d + 1) 323 0 [.inl (.ref x0), .inl (.ref x1)] h =
  am_ob h 0 x0 fun _ =>
  am_gR h 0 x0 1 fun o1 =>
  am_cI (am_Z d 161 0 [.inl (.ref o1), .inl (.int 0)] h) fun v3 h2 =>
  am_cI (am_Z d 178 0 [.inl (.ref x1), .inl (.int 0), .inl (.int v3)] h2) fun v5 h4 =>
  am_Z (d + 1) 323 16 [.inl (.ref x0), .inl (.ref x1), .inl (.int 0)] h4 :=
  (am_key (M := mt_323) (lv := [(0, .inl (.ref x0)), (1, .inl (.ref x1))]) rfl rfl).trans rfl
set_option maxRecDepth 100000 in
theorem e_323_16 (d : Nat) (x0 : Nat) (x1 : Nat) (x3 : Int32) (h : am_H) : am_Z (d + 1) 323 16 [.inl (.ref x0), .inl (.ref x1), .inl (.int x3)] h =
  if (x3 < 20000 : Prop) then
    am_cI (am_Z d 245 0 [.inl (.ref x1)] h) fun v2 h1 =>
    if (v2 = (0) : Prop) then
      am_gR h1 0 x0 7 fun o3 =>
      am_cI (am_Z d 309 0 [.inl (.ref o3), .inl (.ref x1)] h1) fun v5 h4 =>
      am_cI (am_Z d 247 0 [.inl (.ref x1), .inl (.int 3)] h4) fun v7 h6 =>
      am_cI (am_Z d 252 0 [.inl (.ref x1), .inl (.int v5)] h6) fun v9 h8 =>
      am_cI (am_Z d 247 0 [.inl (.ref x1), .inl (.int 3)] h8) fun v11 h10 =>
      if (v7 < v11 : Prop) then
        am_gR h10 0 x0 7 fun o12 =>
        am_pI h10 16 o12 3 v5 fun h13 =>
        am_Z (d + 1) 323 16 [.inl (.ref x0), .inl (.ref x1), .inl (.int (x3 + 1))] h13
      else
        am_Z (d + 1) 323 16 [.inl (.ref x0), .inl (.ref x1), .inl (.int (x3 + 1))] h10
    else
      am_Z (d + 1) 323 80 [.inl (.ref x1)] h1
  else
    am_Z (d + 1) 323 80 [.inl (.ref x1)] h :=
  (am_key (M := mt_323) (lv := [(0, .inl (.ref x0)), (1, .inl (.ref x1)), (3, .inl (.int x3))]) rfl rfl).trans rfl
set_option maxRecDepth 100000 in
theorem e_323_80 (d : Nat) (x1 : Nat) (h : am_H) : am_Z (d + 1) 323 80 [.inl (.ref x1)] h =
  am_cI (am_Z d 245 0 [.inl (.ref x1)] h) fun v2 h1 =>
  if (v2 = (1) : Prop) then
    some (.inr (some (.inl (.int 1))), h1)
  else
    am_cI (am_Z d 245 0 [.inl (.ref x1)] h1) fun v4 h3 =>
    if (v4 = (2) : Prop) then
      some (.inr (some (.inl (.int 1))), h3)
    else
      some (.inr (some (.inl (.int 0))), h3) :=
  (am_key (M := mt_323) (lv := [(1, .inl (.ref x1))]) rfl rfl).trans rfl
-- FlowSession.collect(I)I
set_option maxRecDepth 100000 in
theorem e_335_0 (d : Nat) (x0 : Nat) (x1 : Int32) (h : am_H) : am_Z (d + 1) 335 0 [.inl (.ref x0), .inl (.int x1)] h =
  am_ob h 0 x0 fun _ =>
  am_gR h 0 x0 2 fun o1 =>
  am_cI (am_Z d 336 0 [.inl (.ref o1), .inl (.int x1)] h) fun v3 h2 =>
  am_gR h2 0 x0 3 fun o4 =>
  am_cI (am_Z d 336 0 [.inl (.ref o4), .inl (.int x1)] h2) fun v6 h5 =>
  am_gR h5 0 x0 4 fun o7 =>
  am_cI (am_Z d 336 0 [.inl (.ref o7), .inl (.int x1)] h5) fun v9 h8 =>
  some (.inr (some (.inl (.int v3))), h8) :=
  (am_key (M := mt_335) (lv := [(0, .inl (.ref x0)), (1, .inl (.int x1))]) rfl rfl).trans rfl
-- FlowSession$FlowReader.<init>()V
set_option maxRecDepth 100000 in
theorem e_2_0 (d : Nat) (x0 : Nat) (h : am_H) : am_Z (d + 1) 2 0 [.inl (.ref x0)] h =
  am_ob h 1 x0 fun _ =>
  am_nO h 2 12 (am_dfl 2) fun o1 h2 =>
  am_cV (am_Z d 3 0 [.inl (.ref o1)] h2) fun h3 =>
  am_pR h3 1 x0 0 o1 fun h4 =>
  am_nO h4 5 11 (am_dfl 5) fun o5 h6 =>
  am_gR h6 1 x0 0 fun o7 =>
  am_cV (am_Z d 12 0 [.inl (.ref o5), .inl (.ref o7)] h6) fun h8 =>
  am_pR h8 1 x0 1 o5 fun h9 =>
  am_nO h9 6 17 (am_dfl 6) fun o10 h11 =>
  am_gR h11 1 x0 1 fun o12 =>
  am_gR h11 1 x0 0 fun o13 =>
  am_cV (am_Z d 13 0 [.inl (.ref o10), .inl (.ref o12), .inl (.ref o13)] h11) fun h14 =>
  am_pR h14 1 x0 2 o10 fun h15 =>
  am_pI h15 1 x0 4 (-1) fun h16 =>
  am_pI h16 1 x0 5 (-1) fun h17 =>
  some (.inr none, h17) :=
  (am_key (M := mt_2) (lv := [(0, .inl (.ref x0))]) rfl rfl).trans rfl
-- FlowSession$FlowReader.cut(I)I
set_option maxRecDepth 100000 in
theorem e_30_0 (d : Nat) (x0 : Nat) (x1 : Int32) (h : am_H) : am_Z d 30 0 [.inl (.ref x0), .inl (.int x1)] h =
  am_ob h 1 x0 fun _ =>
  if (x1 < 0 : Prop) then
    some (.inr (some (.inl (.int (-1)))), h)
  else
    am_gR h 1 x0 0 fun o1 =>
    am_gI h 2 o1 1 fun v2 =>
    if (v2 < x1 : Prop) then
      some (.inr (some (.inl (.int (-1)))), h)
    else
      am_gR h 1 x0 0 fun o3 =>
      am_pI h 2 o3 1 x1 fun h4 =>
      some (.inr (some (.inl (.int x1))), h4) :=
  (am_key (M := mt_30) (lv := [(0, .inl (.ref x0)), (1, .inl (.int x1))]) rfl rfl).trans rfl
