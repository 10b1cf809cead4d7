set_option maxRecDepth 100000
theorem t_X2_logs_J39 {p : Program} {l : Launch} {e : Env} {s : State} {m : MethodId} {args : Array Value} {below : List Frame} {meth : Method} {c : Code} {g : GT} {h0 : AH} {v0 : Option Nat} {v1 : Option Nat} {s0 : Int32} {s1 : Option Nat} {s2 : Option Nat} {s3 : Option Nat} {K : Unit → AH → Prop} {E : Nat → AH → Prop} {h : AH} {H : Heap} {locs : List Loc} {cells slots : Nat} {ls : Array Slot} (X : Cx g h0 p s m args meth c RX2 cX2_logs 2 none) (hxt : c.exceptionTable.toList = [])  (hw : w_X2_logs_J39 g v0 v1 s0 s1 s2 s3 K E h) (hR : HS g s h H locs) (hl : lv_has ls 2 [(0, va_rf v0), (1, va_rf v1)]) : W p l e (RM 12 h0) s m args below meth c H locs cells slots (MQT below g (qV K) E args s h0) (F0 m 39 ls [.int s0, va_rf s1, va_rf s2, va_rf s3]) := by
  have hx := X.hx
  have hb := X.hb
  unfold w_X2_logs_J39 at hw
  refine lv_bipush (v := 40) hx hb dX2_logs_39 (by decide) ?_
  refine r_callIx X hxt hR (c_V (ci := 2) (q := (RX2, TX2, 10)) X hR hl.1 (c_X2_after l g s2 s1 s0 40) (lw_V q726 q728 qs9 q116 q729) rfl rfl mh_X2_after rfl (by decide) (by decide) rfl (cat4 (Nat.le_of_ble_eq_true rfl)) dX2_logs_41 hw) (fun x10 h H locs cells slots hR hw => ?_)
  refine r_put X hR fp_X2_272 (Or.inl fn_X2_272) (nf_int _) dX2_logs_44 hw (fun H locs h hR hw => ?_)
  refine r_aload_n X dX2_logs_47 rfl (lv_at hl 0 rfl) ?_
  refine r_gR X hR fk_X2_109 dX2_logs_48 hw (fun x11 hw => ?_)
  refine r_gR X hR fk_X2_268 dX2_logs_51 hw (fun x12 hw => ?_)
  refine r_aload_n X dX2_logs_54 rfl (lv_at hl 0 rfl) ?_
  refine r_gR X hR fk_X2_109 dX2_logs_55 hw (fun x13 hw => ?_)
  refine r_gI X hR fk_X2_265 dX2_logs_58 hw (fun x14 hw => ?_)
  refine r_aload_n X dX2_logs_61 rfl (lv_at hl 1 rfl) ?_
  refine r_aast X hR (t := 7) (by decide) (by decide) rfl ak_7 dX2_logs_62 hw (fun H locs h hR hw => ?_)
  refine r_aload_n X dX2_logs_63 rfl (lv_at hl 0 rfl) ?_
  refine r_gR X hR fk_X2_109 dX2_logs_64 hw (fun x15 hw => ?_)
  refine lv_dup hx hb dX2_logs_67 (cat_rf _) ?_
  refine r_gI X hR fk_X2_265 dX2_logs_68 hw (fun x16 hw => ?_)
  refine lv_iconst (v := 1) hx hb dX2_logs_71 (by decide) ?_
  refine lv_iadd hx hb dX2_logs_72 ?_
  refine r_put X hR fp_X2_265 (Or.inl fn_X2_265) (nf_int _) dX2_logs_73 hw (fun H locs h hR hw => ?_)
  exact r_vret X hR rfl dX2_logs_76 hw
theorem c_X2_logs (l : Launch) (g : GT) (v0 : Option Nat) (v1 : Option Nat) : CT qV l yX2_logs (ws_ yX2_logs cX2_logs 2 none) 12 g [va_rf v0, va_rf v1] (fun K E h => w_X2_logs g v0 v1 K E h) := by
  refine CT_of (lv := [(0, va_rf v0), (1, va_rf v1)]) (by decide +kernel) (by simp [lg_sl, cat_rf, cat_int, cat_long]) (by simp [lv_args, cat_rf, cat_int, cat_long]) (fun h0 K E p e s m args below meth c H locs cells slots ls X hxt hmn hw hR hl => ?_)
  have hx := X.hx
  have hb := X.hb
  unfold w_X2_logs at hw
  refine r_aload_n X dX2_logs_0 rfl (lv_at hl 1 rfl) ?_
  refine r_aload_n X dX2_logs_1 rfl (lv_at hl 0 rfl) ?_
  refine r_ldcWS X (tx := "day") (List.mem_of_getElem? (i := 22) rfl) dX2_logs_2 ?_
  refine r_aload_n X dX2_logs_5 rfl (lv_at hl 0 rfl) ?_
  refine r_gR X hR fk_X2_109 dX2_logs_6 hw (fun x1 hw => ?_)
  refine r_gI X hR fk_X2_265 dX2_logs_9 hw (fun x2 hw => ?_)
  refine lv_if_ne (tgt := 19) hx hb dX2_logs_12 (by decide) (fun c3 => ?_) (fun c3 => ?_)
  · have hw := hw.1 c3
    refine r_aload_n X dX2_logs_19 rfl (lv_at hl 0 rfl) ?_
    refine r_gR X hR fk_X2_109 dX2_logs_20 hw (fun x4 hw => ?_)
    refine r_gR X hR fk_X2_268 dX2_logs_23 hw (fun x5 hw => ?_)
    refine r_aload_n X dX2_logs_26 rfl (lv_at hl 0 rfl) ?_
    refine r_gR X hR fk_X2_109 dX2_logs_27 hw (fun x6 hw => ?_)
    refine r_gI X hR fk_X2_265 dX2_logs_30 hw (fun x7 hw => ?_)
    refine lv_iconst (v := 1) hx hb dX2_logs_33 (by decide) ?_
    refine lv_isub hx hb dX2_logs_34 ?_
    refine r_aald X hR (t := 7) (by decide) (by decide) dX2_logs_35 hw (fun x8 hw => ?_)
    refine r_gI X hR fk_X2_272 dX2_logs_36 hw (fun x9 hw => ?_)
    exact t_X2_logs_J39 X hxt  hw hR (lv_sub hl [0, 1] rfl)
  · have hw := hw.2 c3
    refine lv_iconst (v := 0) hx hb dX2_logs_15 (by decide) ?_
    refine lv_goto (tgt := 39) hx hb dX2_logs_16 (by decide) ?_
    exact t_X2_logs_J39 X hxt  hw hR (lv_sub hl [0, 1] rfl)
theorem c_X2_lentLine (l : Launch) (g : GT) (v0 : Option Nat) : CT qV l yX2_lentLine (ws_ yX2_lentLine cX2_lentLine 2 none) 13 g [va_rf v0] (fun K E h => w_X2_lentLine g v0 K E h) := by
  refine CT_of (lv := [(0, va_rf v0)]) (by decide +kernel) (by simp [lg_sl, cat_rf, cat_int, cat_long]) (by simp [lv_args, cat_rf, cat_int, cat_long]) (fun h0 K E p e s m args below meth c H locs cells slots ls X hxt hmn hw hR hl => ?_)
  have hx := X.hx
  have hb := X.hb
  unfold w_X2_lentLine at hw
  refine r_aload_n X dX2_lentLine_0 rfl (lv_at hl 0 rfl) ?_
  refine r_aload_n X dX2_lentLine_1 rfl (lv_at hl 0 rfl) ?_
  refine r_callI X hR (c_V (ci := 2) (q := (RX2, TX2, 10)) X hR hl.1 (c_X2_hasRoom l g v0) (lw_V q903 q905 qs22 q116 q906) rfl rfl mh_X2_hasRoom rfl (by decide) (by decide) rfl (cat4 (Nat.le_of_ble_eq_true rfl)) dX2_lentLine_2 hw) (fun x1 h H locs cells slots hR hw => ?_)
  refine r_callVx X hxt hR (c_V (ci := 2) (q := (RX2, TX2, 10)) X hR hl.1 (c_X2_begins l g v0 x1) (lw_V q748 q750 qs14 q116 q751) rfl rfl mh_X2_begins rfl (by decide) (by decide) rfl (cat4 (Nat.le_of_ble_eq_true rfl)) dX2_lentLine_5 hw) (fun _ h H locs cells slots hR hw => ?_)
  refine r_aload_n X dX2_lentLine_8 rfl (lv_at hl 0 rfl) ?_
  refine r_callIx X hxt hR (c_V (ci := 2) (q := (RX2, TX2, 10)) X hR hl.1 (c_X2_umbrella l g v0) (lw_V q907 q909 qs23 q116 q910) rfl rfl mh_X2_umbrella rfl (by decide) (by decide) rfl (cat4 (Nat.le_of_ble_eq_true rfl)) dX2_lentLine_9 hw) (fun x2 h H locs cells slots hR hw => ?_)
  refine lv_istore_n (i := 1) (lv' := [(1, .int x2), (0, va_rf v0)]) hx hb dX2_lentLine_12 rfl hl (by decide) (by simp [cat_rf, cat_int, cat_long]) (fun ls hl => ?_)
  refine r_aload_n X dX2_lentLine_13 rfl (lv_at hl 1 rfl) ?_
  refine r_new X hR nk_X2_282 dX2_lentLine_14 hw (fun H cells slots x3 h hR hw => ?_)
  refine lv_dup hx hb dX2_lentLine_17 (cat_rf _) ?_
  refine lv_iload_n hx hb dX2_lentLine_18 rfl (lv_at hl 0 rfl) ?_
  refine r_aload_n X dX2_lentLine_19 rfl (lv_at hl 1 rfl) ?_
  refine r_callIx X hxt hR (c_V (ci := 2) (q := (RX2, TX2, 10)) X hR hl.1 (c_X2_person l g v0) (lw_V q894 q896 qs20 q116 q897) rfl rfl mh_X2_person rfl (by decide) (by decide) rfl (cat4 (Nat.le_of_ble_eq_true rfl)) dX2_lentLine_20 hw) (fun x4 h H locs cells slots hR hw => ?_)
  refine r_callV X hR (c_I X hR hl.1 (c_X21_init l g x3 x2 x4) (lw_meth q920) q143 q918 q919 rfl mh_X21_init rfl (by decide) (by decide) rfl (cat4 (Nat.le_of_ble_eq_true rfl)) dX2_lentLine_23 hw) (fun _ h H locs cells slots hR hw => ?_)
  refine r_callVx X hxt hR (c_V (ci := 2) (q := (RX2, TX2, 10)) X hR hl.1 (c_X2_logs l g v0 x3) (lw_V q942 q944 qs25 q116 q945) rfl rfl mh_X2_logs rfl (by decide) (by decide) rfl (cat4 (Nat.le_of_ble_eq_true rfl)) dX2_lentLine_26 hw) (fun _ h H locs cells slots hR hw => ?_)
  exact r_vret X hR rfl dX2_lentLine_29 hw
theorem c_X22_init (l : Launch) (g : GT) (v0 : Option Nat) (v1 : Int32) : CT qV l yX22_init (ws_ yX22_init cX22_init 2 none) 2 g [va_rf v0, .int v1] (fun K E h => w_X22_init g v0 v1 K E h) := by
  refine CT_of (lv := [(0, va_rf v0), (1, .int v1)]) (by decide +kernel) (by simp [lg_sl, cat_rf, cat_int, cat_long]) (by simp [lv_args, cat_rf, cat_int, cat_long]) (fun h0 K E p e s m args below meth c H locs cells slots ls X hxt hmn hw hR hl => ?_)
  have hx := X.hx
  have hb := X.hb
  unfold w_X22_init at hw
  refine r_aload_n X dX22_init_0 rfl (lv_at hl 0 rfl) ?_
  refine lv_iload_n hx hb dX22_init_1 rfl (lv_at hl 1 rfl) ?_
  refine r_callV X hR (c_I X hR hl.1 (c_X20_init l g v0 v1) (lw_meth q923) q142 q956 q922 rfl mh_X20_init rfl (by decide) (by decide) rfl (cat4 (Nat.le_of_ble_eq_true rfl)) dX22_init_2 hw) (fun _ h H locs cells slots hR hw => ?_)
  exact r_vret X hR rfl dX22_init_5 hw
theorem c_X2_leftLine (l : Launch) (g : GT) (v0 : Option Nat) : CT qV l yX2_leftLine (ws_ yX2_leftLine cX2_leftLine 1 none) 13 g [va_rf v0] (fun K E h => w_X2_leftLine g v0 K E h) := by
  refine CT_of (lv := [(0, va_rf v0)]) (by decide +kernel) (by simp [lg_sl, cat_rf, cat_int, cat_long]) (by simp [lv_args, cat_rf, cat_int, cat_long]) (fun h0 K E p e s m args below meth c H locs cells slots ls X hxt hmn hw hR hl => ?_)
  have hx := X.hx
  have hb := X.hb
  unfold w_X2_leftLine at hw
  refine r_aload_n X dX2_leftLine_0 rfl (lv_at hl 0 rfl) ?_
  refine r_aload_n X dX2_leftLine_1 rfl (lv_at hl 0 rfl) ?_
  refine r_callI X hR (c_V (ci := 2) (q := (RX2, TX2, 10)) X hR hl.1 (c_X2_hasRoom l g v0) (lw_V q903 q905 qs22 q116 q906) rfl rfl mh_X2_hasRoom rfl (by decide) (by decide) rfl (cat4 (Nat.le_of_ble_eq_true rfl)) dX2_leftLine_2 hw) (fun x1 h H locs cells slots hR hw => ?_)
  refine r_callVx X hxt hR (c_V (ci := 2) (q := (RX2, TX2, 10)) X hR hl.1 (c_X2_begins l g v0 x1) (lw_V q748 q750 qs14 q116 q751) rfl rfl mh_X2_begins rfl (by decide) (by decide) rfl (cat4 (Nat.le_of_ble_eq_true rfl)) dX2_leftLine_5 hw) (fun _ h H locs cells slots hR hw => ?_)
  refine r_aload_n X dX2_leftLine_8 rfl (lv_at hl 0 rfl) ?_
  refine r_new X hR nk_X2_291 dX2_leftLine_9 hw (fun H cells slots x2 h hR hw => ?_)
  refine lv_dup hx hb dX2_leftLine_12 (cat_rf _) ?_
  refine r_aload_n X dX2_leftLine_13 rfl (lv_at hl 0 rfl) ?_
  refine r_callIx X hxt hR (c_V (ci := 2) (q := (RX2, TX2, 10)) X hR hl.1 (c_X2_umbrella l g v0) (lw_V q907 q909 qs23 q116 q910) rfl rfl mh_X2_umbrella rfl (by decide) (by decide) rfl (cat4 (Nat.le_of_ble_eq_true rfl)) dX2_leftLine_14 hw) (fun x3 h H locs cells slots hR hw => ?_)
  refine r_callV X hR (c_I X hR hl.1 (c_X22_init l g x2 x3) (lw_meth q955) q144 q953 q954 rfl mh_X22_init rfl (by decide) (by decide) rfl (cat4 (Nat.le_of_ble_eq_true rfl)) dX2_leftLine_17 hw) (fun _ h H locs cells slots hR hw => ?_)
  refine r_callVx X hxt hR (c_V (ci := 2) (q := (RX2, TX2, 10)) X hR hl.1 (c_X2_logs l g v0 x2) (lw_V q942 q944 qs25 q116 q945) rfl rfl mh_X2_logs rfl (by decide) (by decide) rfl (cat4 (Nat.le_of_ble_eq_true rfl)) dX2_leftLine_20 hw) (fun _ h H locs cells slots hR hw => ?_)
  exact r_vret X hR rfl dX2_leftLine_23 hw
theorem c_X23_init (l : Launch) (g : GT) (v0 : Option Nat) (v1 : Int32) (v2 : Int32) : CT qV l yX23_init (ws_ yX23_init cX23_init 3 none) 2 g [va_rf v0, .int v1, .int v2] (fun K E h => w_X23_init g v0 v1 v2 K E h) := by
  refine CT_of (lv := [(0, va_rf v0), (1, .int v1), (2, .int v2)]) (by decide +kernel) (by simp [lg_sl, cat_rf, cat_int, cat_long]) (by simp [lv_args, cat_rf, cat_int, cat_long]) (fun h0 K E p e s m args below meth c H locs cells slots ls X hxt hmn hw hR hl => ?_)
  have hx := X.hx
  have hb := X.hb
  unfold w_X23_init at hw
  refine r_aload_n X dX23_init_0 rfl (lv_at hl 0 rfl) ?_
  refine lv_iload_n hx hb dX23_init_1 rfl (lv_at hl 1 rfl) ?_
  refine r_callV X hR (c_I X hR hl.1 (c_X20_init l g v0 v1) (lw_meth q923) q142 q969 q922 rfl mh_X20_init rfl (by decide) (by decide) rfl (cat4 (Nat.le_of_ble_eq_true rfl)) dX23_init_2 hw) (fun _ h H locs cells slots hR hw => ?_)
  refine r_aload_n X dX23_init_5 rfl (lv_at hl 0 rfl) ?_
  refine lv_iload_n hx hb dX23_init_6 rfl (lv_at hl 2 rfl) ?_
  refine r_put X hR fp_X23_7 (Or.inr hmn) (nf_int _) dX23_init_7 hw (fun H locs h hR hw => ?_)
  exact r_vret X hR rfl dX23_init_10 hw
theorem c_X2_changedLine (l : Launch) (g : GT) (v0 : Option Nat) : CT qV l yX2_changedLine (ws_ yX2_changedLine cX2_changedLine 3 none) 13 g [va_rf v0] (fun K E h => w_X2_changedLine g v0 K E h) := by
  refine CT_of (lv := [(0, va_rf v0)]) (by decide +kernel) (by simp [lg_sl, cat_rf, cat_int, cat_long]) (by simp [lv_args, cat_rf, cat_int, cat_long]) (fun h0 K E p e s m args below meth c H locs cells slots ls X hxt hmn hw hR hl => ?_)
  have hx := X.hx
  have hb := X.hb
  unfold w_X2_changedLine at hw
  refine r_aload_n X dX2_changedLine_0 rfl (lv_at hl 0 rfl) ?_
  refine r_aload_n X dX2_changedLine_1 rfl (lv_at hl 0 rfl) ?_
  refine r_callI X hR (c_V (ci := 2) (q := (RX2, TX2, 10)) X hR hl.1 (c_X2_hasRoom l g v0) (lw_V q903 q905 qs22 q116 q906) rfl rfl mh_X2_hasRoom rfl (by decide) (by decide) rfl (cat4 (Nat.le_of_ble_eq_true rfl)) dX2_changedLine_2 hw) (fun x1 h H locs cells slots hR hw => ?_)
  refine r_callVx X hxt hR (c_V (ci := 2) (q := (RX2, TX2, 10)) X hR hl.1 (c_X2_begins l g v0 x1) (lw_V q748 q750 qs14 q116 q751) rfl rfl mh_X2_begins rfl (by decide) (by decide) rfl (cat4 (Nat.le_of_ble_eq_true rfl)) dX2_changedLine_5 hw) (fun _ h H locs cells slots hR hw => ?_)
  refine r_aload_n X dX2_changedLine_8 rfl (lv_at hl 0 rfl) ?_
  refine r_callIx X hxt hR (c_V (ci := 2) (q := (RX2, TX2, 10)) X hR hl.1 (c_X2_umbrella l g v0) (lw_V q907 q909 qs23 q116 q910) rfl rfl mh_X2_umbrella rfl (by decide) (by decide) rfl (cat4 (Nat.le_of_ble_eq_true rfl)) dX2_changedLine_9 hw) (fun x2 h H locs cells slots hR hw => ?_)
  refine lv_istore_n (i := 1) (lv' := [(1, .int x2), (0, va_rf v0)]) hx hb dX2_changedLine_12 rfl hl (by decide) (by simp [cat_rf, cat_int, cat_long]) (fun ls hl => ?_)
  refine r_aload_n X dX2_changedLine_13 rfl (lv_at hl 1 rfl) ?_
  refine r_callIx X hxt hR (c_V (ci := 2) (q := (RX2, TX2, 10)) X hR hl.1 (c_X2_umbrellaHere l g v0) (lw_V q911 q913 qs24 q116 q914) rfl rfl mh_X2_umbrellaHere rfl (by decide) (by decide) rfl (cat4 (Nat.le_of_ble_eq_true rfl)) dX2_changedLine_14 hw) (fun x3 h H locs cells slots hR hw => ?_)
  refine lv_istore_n (i := 2) (lv' := [(2, .int x3), (1, .int x2), (0, va_rf v0)]) hx hb dX2_changedLine_17 rfl hl (by decide) rfl (fun ls hl => ?_)
  refine lv_iload_n hx hb dX2_changedLine_18 rfl (lv_at hl 1 rfl) ?_
  refine lv_iload_n hx hb dX2_changedLine_19 rfl (lv_at hl 0 rfl) ?_
  refine lv_icmp_ne (tgt := 29) hx hb dX2_changedLine_20 (by decide) (fun c4 => ?_) (fun c4 => ?_)
  · have hw := hw.1 c4
    refine r_aload_n X dX2_changedLine_29 rfl (lv_at hl 2 rfl) ?_
    refine r_callV X hR (c_V (ci := 2) (q := (RX2, TX2, 10)) X hR hl.1 (c_X2_next l g v0) (lw_V q546 q548 qs4 q116 q549) rfl rfl mh_X2_next rfl (by decide) (by decide) rfl (cat4 (Nat.le_of_ble_eq_true rfl)) dX2_changedLine_30 hw) (fun _ h H locs cells slots hR hw => ?_)
    refine r_aload_n X dX2_changedLine_33 rfl (lv_at hl 2 rfl) ?_
    refine r_new X hR nk_X2_296 dX2_changedLine_34 hw (fun H cells slots x5 h hR hw => ?_)
    refine lv_dup hx hb dX2_changedLine_37 (cat_rf _) ?_
    refine lv_iload_n hx hb dX2_changedLine_38 rfl (lv_at hl 1 rfl) ?_
    refine lv_iload_n hx hb dX2_changedLine_39 rfl (lv_at hl 0 rfl) ?_
    refine r_callV X hR (c_I X hR hl.1 (c_X23_init l g x5 x2 x3) (lw_meth q968) q145 q966 q967 rfl mh_X23_init rfl (by decide) (by decide) rfl (cat4 (Nat.le_of_ble_eq_true rfl)) dX2_changedLine_40 hw) (fun _ h H locs cells slots hR hw => ?_)
    refine r_callVx X hxt hR (c_V (ci := 2) (q := (RX2, TX2, 10)) X hR hl.1 (c_X2_logs l g v0 x5) (lw_V q942 q944 qs25 q116 q945) rfl rfl mh_X2_logs rfl (by decide) (by decide) rfl (cat4 (Nat.le_of_ble_eq_true rfl)) dX2_changedLine_43 hw) (fun _ h H locs cells slots hR hw => ?_)
    exact r_vret X hR rfl dX2_changedLine_46 hw
  · have hw := hw.2 c4
    refine r_aload_n X dX2_changedLine_23 rfl (lv_at hl 2 rfl) ?_
    refine lv_iconst (v := 3) hx hb dX2_changedLine_24 (by decide) ?_
    refine r_callR X hR (c_V (ci := 2) (q := (RX2, TX2, 10)) X hR hl.1 (c_X2_fail l g v0 3) (lw_V q644 q646 qs7 q116 q647) rfl rfl mh_X2_fail rfl (by decide) (by decide) rfl (cat4 (Nat.le_of_ble_eq_true rfl)) dX2_changedLine_25 hw) (fun x6 h H locs cells slots hR hw => ?_)
    exact r_throw X hxt hR dX2_changedLine_28 hw
theorem c_X24_init (l : Launch) (g : GT) (v0 : Option Nat) : CT qV l yX24_init (ws_ yX24_init cX24_init 1 none) 2 g [va_rf v0] (fun K E h => w_X24_init g v0 K E h) := by
  refine CT_of (lv := [(0, va_rf v0)]) (by decide +kernel) (by simp [lg_sl, cat_rf, cat_int, cat_long]) (by simp [lv_args, cat_rf, cat_int, cat_long]) (fun h0 K E p e s m args below meth c H locs cells slots ls X hxt hmn hw hR hl => ?_)
  have hx := X.hx
  have hb := X.hb
  unfold w_X24_init at hw
  refine r_aload_n X dX24_init_0 rfl (lv_at hl 0 rfl) ?_
  refine lv_bipush (v := (-2)) hx hb dX24_init_1 (by decide) ?_
  refine r_callV X hR (c_I X hR hl.1 (c_X20_init l g v0 (-2)) (lw_meth q923) q142 q985 q922 rfl mh_X20_init rfl (by decide) (by decide) rfl (cat4 (Nat.le_of_ble_eq_true rfl)) dX24_init_3 hw) (fun _ h H locs cells slots hR hw => ?_)
  exact r_vret X hR rfl dX24_init_6 hw
theorem c_X2_rainLine (l : Launch) (g : GT) (v0 : Option Nat) : CT qV l yX2_rainLine (ws_ yX2_rainLine cX2_rainLine 1 none) 13 g [va_rf v0] (fun K E h => w_X2_rainLine g v0 K E h) := by
  refine CT_of (lv := [(0, va_rf v0)]) (by decide +kernel) (by simp [lg_sl, cat_rf, cat_int, cat_long]) (by simp [lv_args, cat_rf, cat_int, cat_long]) (fun h0 K E p e s m args below meth c H locs cells slots ls X hxt hmn hw hR hl => ?_)
  have hx := X.hx
  have hb := X.hb
  unfold w_X2_rainLine at hw
  refine r_aload_n X dX2_rainLine_0 rfl (lv_at hl 0 rfl) ?_
  refine r_aload_n X dX2_rainLine_1 rfl (lv_at hl 0 rfl) ?_
  refine r_callI X hR (c_V (ci := 2) (q := (RX2, TX2, 10)) X hR hl.1 (c_X2_hasRoom l g v0) (lw_V q903 q905 qs22 q116 q906) rfl rfl mh_X2_hasRoom rfl (by decide) (by decide) rfl (cat4 (Nat.le_of_ble_eq_true rfl)) dX2_rainLine_2 hw) (fun x1 h H locs cells slots hR hw => ?_)
  refine r_callVx X hxt hR (c_V (ci := 2) (q := (RX2, TX2, 10)) X hR hl.1 (c_X2_begins l g v0 x1) (lw_V q748 q750 qs14 q116 q751) rfl rfl mh_X2_begins rfl (by decide) (by decide) rfl (cat4 (Nat.le_of_ble_eq_true rfl)) dX2_rainLine_5 hw) (fun _ h H locs cells slots hR hw => ?_)
  refine r_aload_n X dX2_rainLine_8 rfl (lv_at hl 0 rfl) ?_
  refine r_new X hR nk_X2_299 dX2_rainLine_9 hw (fun H cells slots x2 h hR hw => ?_)
  refine lv_dup hx hb dX2_rainLine_12 (cat_rf _) ?_
  refine r_callV X hR (c_I X hR hl.1 (c_X24_init l g x2) (lw_meth q984) q146 q982 q983 rfl mh_X24_init rfl (by decide) (by decide) rfl (cat4 (Nat.le_of_ble_eq_true rfl)) dX2_rainLine_13 hw) (fun _ h H locs cells slots hR hw => ?_)
  refine r_callVx X hxt hR (c_V (ci := 2) (q := (RX2, TX2, 10)) X hR hl.1 (c_X2_logs l g v0 x2) (lw_V q942 q944 qs25 q116 q945) rfl rfl mh_X2_logs rfl (by decide) (by decide) rfl (cat4 (Nat.le_of_ble_eq_true rfl)) dX2_rainLine_16 hw) (fun _ h H locs cells slots hR hw => ?_)
  exact r_vret X hR rfl dX2_rainLine_19 hw
theorem c_X25_init (l : Launch) (g : GT) (v0 : Option Nat) : CT qV l yX25_init (ws_ yX25_init cX25_init 1 none) 1 g [va_rf v0] (fun K E h => w_X25_init g v0 K E h) := by
  refine CT_of (lv := [(0, va_rf v0)]) (by decide +kernel) (by simp [lg_sl, cat_rf, cat_int, cat_long]) (by simp [lv_args, cat_rf, cat_int, cat_long]) (fun h0 K E p e s m args below meth c H locs cells slots ls X hxt hmn hw hR hl => ?_)
  have hx := X.hx
  have hb := X.hb
  unfold w_X25_init at hw
  refine r_aload_n X dX25_init_0 rfl (lv_at hl 0 rfl) ?_
  obtain ⟨z1, hw⟩ := hw
  refine r_objInit X hl.1 z1 q998 q158 q159 (by decide) (cat4 (Nat.le_of_ble_eq_true rfl)) dX25_init_1 ?_
  exact r_vret X hR rfl dX25_init_4 hw
theorem t_X2_claimsLine_J18 {p : Program} {l : Launch} {e : Env} {s : State} {m : MethodId} {args : Array Value} {below : List Frame} {meth : Method} {c : Code} {g : GT} {h0 : AH} {v0 : Option Nat} {s0 : Int32} {s1 : Option Nat} {K : Unit → AH → Prop} {E : Nat → AH → Prop} {h : AH} {H : Heap} {locs : List Loc} {cells slots : Nat} {ls : Array Slot} (X : Cx g h0 p s m args meth c RX2 cX2_claimsLine 2 none) (hxt : c.exceptionTable.toList = [])  (hw : w_X2_claimsLine_J18 g v0 s0 s1 K E h) (hR : HS g s h H locs) (hl : lv_has ls 2 [(0, va_rf v0)]) : W p l e (RM 12 h0) s m args below meth c H locs cells slots (MQT below g (qV K) E args s h0) (F0 m 18 ls [.int s0, va_rf s1]) := by
  have hx := X.hx
  have hb := X.hb
  unfold w_X2_claimsLine_J18 at hw
  refine r_callVx X hxt hR (c_V (ci := 2) (q := (RX2, TX2, 10)) X hR hl.1 (c_X2_begins l g s1 s0) (lw_V q748 q750 qs14 q116 q751) rfl rfl mh_X2_begins rfl (by decide) (by decide) rfl (cat4 (Nat.le_of_ble_eq_true rfl)) dX2_claimsLine_18 hw) (fun _ h H locs cells slots hR hw => ?_)
  refine r_new X hR nk_X2_305 dX2_claimsLine_21 hw (fun H cells slots x4 h hR hw => ?_)
  refine lv_dup hx hb dX2_claimsLine_24 (cat_rf _) ?_
  refine r_callV X hR (c_IN X hR hl.1 (c_X25_init l g x4) (lw_meth q997) q147 q995 q996 rfl mh_X25_init rfl (by decide) (by decide) rfl (cat4 (Nat.le_of_ble_eq_true rfl)) dX2_claimsLine_25 hw) (fun _ h H locs cells slots hR hw => ?_)
  refine r_astore_n (i := 1) (lv' := [(1, va_rf x4), (0, va_rf v0)]) X dX2_claimsLine_28 rfl hl (by decide) (by simp [cat_rf, cat_int, cat_long]) (fun ls hl => ?_)
  refine r_aload_n X dX2_claimsLine_29 rfl (lv_at hl 0 rfl) ?_
  refine r_aload_n X dX2_claimsLine_30 rfl (lv_at hl 1 rfl) ?_
  refine r_callIx X hxt hR (c_V (ci := 2) (q := (RX2, TX2, 10)) X hR hl.1 (c_X2_person l g v0) (lw_V q894 q896 qs20 q116 q897) rfl rfl mh_X2_person rfl (by decide) (by decide) rfl (cat4 (Nat.le_of_ble_eq_true rfl)) dX2_claimsLine_31 hw) (fun x5 h H locs cells slots hR hw => ?_)
  refine r_put X hR fp_X2_308 (Or.inl fn_X2_308) (nf_int _) dX2_claimsLine_34 hw (fun H locs h hR hw => ?_)
  refine r_aload_n X dX2_claimsLine_37 rfl (lv_at hl 0 rfl) ?_
  refine r_aload_n X dX2_claimsLine_38 rfl (lv_at hl 1 rfl) ?_
  refine r_callIx X hxt hR (c_V (ci := 2) (q := (RX2, TX2, 10)) X hR hl.1 (c_X2_umbrella l g v0) (lw_V q907 q909 qs23 q116 q910) rfl rfl mh_X2_umbrella rfl (by decide) (by decide) rfl (cat4 (Nat.le_of_ble_eq_true rfl)) dX2_claimsLine_39 hw) (fun x6 h H locs cells slots hR hw => ?_)
  refine r_put X hR fp_X2_310 (Or.inl fn_X2_310) (nf_int _) dX2_claimsLine_42 hw (fun H locs h hR hw => ?_)
  refine r_aload_n X dX2_claimsLine_45 rfl (lv_at hl 0 rfl) ?_
  refine r_aload_n X dX2_claimsLine_46 rfl (lv_at hl 1 rfl) ?_
  refine r_ldcWS X (tx := "day") (List.mem_of_getElem? (i := 22) rfl) dX2_claimsLine_47 ?_
  refine lv_iconst (v := 0) hx hb dX2_claimsLine_50 (by decide) ?_
  refine lv_bipush (v := 40) hx hb dX2_claimsLine_51 (by decide) ?_
  refine r_callIx X hxt hR (c_V (ci := 2) (q := (RX2, TX2, 10)) X hR hl.1 (c_X2_after l g v0 (some (g.2.2.2.1 22)) 0 40) (lw_V q726 q728 qs9 q116 q729) rfl rfl mh_X2_after rfl (by decide) (by decide) rfl (cat4 (Nat.le_of_ble_eq_true rfl)) dX2_claimsLine_53 hw) (fun x7 h H locs cells slots hR hw => ?_)
  refine r_put X hR fp_X2_312 (Or.inl fn_X2_312) (nf_int _) dX2_claimsLine_56 hw (fun H locs h hR hw => ?_)
  refine r_aload_n X dX2_claimsLine_59 rfl (lv_at hl 1 rfl) ?_
  refine r_gR X hR fk_X2_109 dX2_claimsLine_60 hw (fun x8 hw => ?_)
  refine r_gR X hR fk_X2_313 dX2_claimsLine_63 hw (fun x9 hw => ?_)
  refine r_aload_n X dX2_claimsLine_66 rfl (lv_at hl 1 rfl) ?_
  refine r_gR X hR fk_X2_109 dX2_claimsLine_67 hw (fun x10 hw => ?_)
  refine r_gI X hR fk_X2_302 dX2_claimsLine_70 hw (fun x11 hw => ?_)
  refine r_aload_n X dX2_claimsLine_73 rfl (lv_at hl 0 rfl) ?_
  refine r_aast X hR (t := 8) (by decide) (by decide) rfl ak_8 dX2_claimsLine_74 hw (fun H locs h hR hw => ?_)
  refine r_aload_n X dX2_claimsLine_75 rfl (lv_at hl 1 rfl) ?_
  refine r_gR X hR fk_X2_109 dX2_claimsLine_76 hw (fun x12 hw => ?_)
  refine lv_dup hx hb dX2_claimsLine_79 (cat_rf _) ?_
  refine r_gI X hR fk_X2_302 dX2_claimsLine_80 hw (fun x13 hw => ?_)
  refine lv_iconst (v := 1) hx hb dX2_claimsLine_83 (by decide) ?_
  refine lv_iadd hx hb dX2_claimsLine_84 ?_
  refine r_put X hR fp_X2_302 (Or.inl fn_X2_302) (nf_int _) dX2_claimsLine_85 hw (fun H locs h hR hw => ?_)
  exact r_vret X hR rfl dX2_claimsLine_88 hw
theorem c_X2_claimsLine (l : Launch) (g : GT) (v0 : Option Nat) : CT qV l yX2_claimsLine (ws_ yX2_claimsLine cX2_claimsLine 2 none) 12 g [va_rf v0] (fun K E h => w_X2_claimsLine g v0 K E h) := by
  refine CT_of (lv := [(0, va_rf v0)]) (by decide +kernel) (by simp [lg_sl, cat_rf, cat_int, cat_long]) (by simp [lv_args, cat_rf, cat_int, cat_long]) (fun h0 K E p e s m args below meth c H locs cells slots ls X hxt hmn hw hR hl => ?_)
  have hx := X.hx
  have hb := X.hb
  unfold w_X2_claimsLine at hw
  refine r_aload_n X dX2_claimsLine_0 rfl (lv_at hl 0 rfl) ?_
  refine r_aload_n X dX2_claimsLine_1 rfl (lv_at hl 0 rfl) ?_
  refine r_gR X hR fk_X2_109 dX2_claimsLine_2 hw (fun x1 hw => ?_)
  refine r_gI X hR fk_X2_302 dX2_claimsLine_5 hw (fun x2 hw => ?_)
  refine lv_bipush (v := 6) hx hb dX2_claimsLine_8 (by decide) ?_
  refine lv_icmp_ge (tgt := 17) hx hb dX2_claimsLine_10 (by decide) (fun c3 => ?_) (fun c3 => ?_)
  · have hw := hw.1 c3
    refine lv_iconst (v := 0) hx hb dX2_claimsLine_17 (by decide) ?_
    exact t_X2_claimsLine_J18 X hxt  hw hR (lv_sub hl [0] rfl)
  · have hw := hw.2 c3
    refine lv_iconst (v := 1) hx hb dX2_claimsLine_13 (by decide) ?_
    refine lv_goto (tgt := 18) hx hb dX2_claimsLine_14 (by decide) ?_
    exact t_X2_claimsLine_J18 X hxt  hw hR (lv_sub hl [0] rfl)
theorem t_X2_line_J211 {p : Program} {l : Launch} {e : Env} {s : State} {m : MethodId} {args : Array Value} {below : List Frame} {meth : Method} {c : Code} {g : GT} {h0 : AH} {v0 : Option Nat} {v2 : Int32} {K : Unit → AH → Prop} {E : Nat → AH → Prop} {h : AH} {H : Heap} {locs : List Loc} {cells slots : Nat} {ls : Array Slot} (X : Cx g h0 p s m args meth c RX2 cX2_line 3 none) (hxt : c.exceptionTable.toList = [])  (hw : w_X2_line_J211 g v0 v2 K E h) (hR : HS g s h H locs) (hl : lv_has ls 3 [(0, va_rf v0), (2, .int v2)]) : W p l e (RM 14 h0) s m args below meth c H locs cells slots (MQT below g (qV K) E args s h0) (F0 m 211 ls []) := by
  have hx := X.hx
  have hb := X.hb
  unfold w_X2_line_J211 at hw
  refine lv_iload_n hx hb dX2_line_211 rfl (lv_at hl 1 rfl) ?_
  by_cases c8_0 : v2 = 0
  · have hw := swT_at hw 0 rfl c8_0
    rw [c8_0]
    refine lv_tableIn (tgt := 260) hx hb dX2_line_212 (by decide) (by decide) rfl (by decide) ?_
    refine r_aload_n X dX2_line_260 rfl (lv_at hl 0 rfl) ?_
    refine r_callVx X hxt hR (c_V (ci := 2) (q := (RX2, TX2, 10)) X hR hl.1 (c_X2_countyLine l g v0) (lw_V q721 q723 qs8 q116 q724) rfl rfl mh_X2_countyLine rfl (by decide) (by decide) rfl (cat4 (Nat.le_of_ble_eq_true rfl)) dX2_line_261 hw) (fun _ h H locs cells slots hR hw => ?_)
    refine lv_goto (tgt := 322) hx hb dX2_line_264 (by decide) ?_
    exact r_vret X hR rfl dX2_line_322 hw
  by_cases c8_1 : v2 = 1
  · have hw := swT_at hw 1 rfl c8_1
    rw [c8_1]
    refine lv_tableIn (tgt := 267) hx hb dX2_line_212 (by decide) (by decide) rfl (by decide) ?_
    refine r_aload_n X dX2_line_267 rfl (lv_at hl 0 rfl) ?_
    refine r_callVx X hxt hR (c_V (ci := 2) (q := (RX2, TX2, 10)) X hR hl.1 (c_X2_personLine l g v0) (lw_V q744 q746 qs13 q116 q747) rfl rfl mh_X2_personLine rfl (by decide) (by decide) rfl (cat4 (Nat.le_of_ble_eq_true rfl)) dX2_line_268 hw) (fun _ h H locs cells slots hR hw => ?_)
    refine lv_goto (tgt := 322) hx hb dX2_line_271 (by decide) ?_
    exact r_vret X hR rfl dX2_line_322 hw
  by_cases c8_2 : v2 = 2
  · have hw := swT_at hw 2 rfl c8_2
    rw [c8_2]
    refine lv_tableIn (tgt := 274) hx hb dX2_line_212 (by decide) (by decide) rfl (by decide) ?_
    refine r_aload_n X dX2_line_274 rfl (lv_at hl 0 rfl) ?_
    refine r_callVx X hxt hR (c_V (ci := 2) (q := (RX2, TX2, 10)) X hR hl.1 (c_X2_umbrellaLine l g v0) (lw_V q814 q816 qs18 q116 q817) rfl rfl mh_X2_umbrellaLine rfl (by decide) (by decide) rfl (cat4 (Nat.le_of_ble_eq_true rfl)) dX2_line_275 hw) (fun _ h H locs cells slots hR hw => ?_)
    refine lv_goto (tgt := 322) hx hb dX2_line_278 (by decide) ?_
    exact r_vret X hR rfl dX2_line_322 hw
  by_cases c8_3 : v2 = 3
  · have hw := swT_at hw 3 rfl c8_3
    rw [c8_3]
    refine lv_tableIn (tgt := 281) hx hb dX2_line_212 (by decide) (by decide) rfl (by decide) ?_
    refine r_aload_n X dX2_line_281 rfl (lv_at hl 0 rfl) ?_
    refine r_callVx X hxt hR (c_V (ci := 2) (q := (RX2, TX2, 10)) X hR hl.1 (c_X2_lentLine l g v0) (lw_V q899 q901 qs21 q116 q902) rfl rfl mh_X2_lentLine rfl (by decide) (by decide) rfl (cat4 (Nat.le_of_ble_eq_true rfl)) dX2_line_282 hw) (fun _ h H locs cells slots hR hw => ?_)
    refine lv_goto (tgt := 322) hx hb dX2_line_285 (by decide) ?_
    exact r_vret X hR rfl dX2_line_322 hw
  by_cases c8_4 : v2 = 4
  · have hw := swT_at hw 4 rfl c8_4
    rw [c8_4]
    refine lv_tableIn (tgt := 288) hx hb dX2_line_212 (by decide) (by decide) rfl (by decide) ?_
    refine r_aload_n X dX2_line_288 rfl (lv_at hl 0 rfl) ?_
    refine r_callVx X hxt hR (c_V (ci := 2) (q := (RX2, TX2, 10)) X hR hl.1 (c_X2_leftLine l g v0) (lw_V q947 q949 qs26 q116 q950) rfl rfl mh_X2_leftLine rfl (by decide) (by decide) rfl (cat4 (Nat.le_of_ble_eq_true rfl)) dX2_line_289 hw) (fun _ h H locs cells slots hR hw => ?_)
    refine lv_goto (tgt := 322) hx hb dX2_line_292 (by decide) ?_
    exact r_vret X hR rfl dX2_line_322 hw
  by_cases c8_5 : v2 = 5
  · have hw := swT_at hw 5 rfl c8_5
    rw [c8_5]
    refine lv_tableIn (tgt := 295) hx hb dX2_line_212 (by decide) (by decide) rfl (by decide) ?_
    refine r_aload_n X dX2_line_295 rfl (lv_at hl 0 rfl) ?_
    refine r_callVx X hxt hR (c_V (ci := 2) (q := (RX2, TX2, 10)) X hR hl.1 (c_X2_changedLine l g v0) (lw_V q960 q962 qs27 q116 q963) rfl rfl mh_X2_changedLine rfl (by decide) (by decide) rfl (cat4 (Nat.le_of_ble_eq_true rfl)) dX2_line_296 hw) (fun _ h H locs cells slots hR hw => ?_)
    refine lv_goto (tgt := 322) hx hb dX2_line_299 (by decide) ?_
    exact r_vret X hR rfl dX2_line_322 hw
  by_cases c8_6 : v2 = 6
  · have hw := swT_at hw 6 rfl c8_6
    rw [c8_6]
    refine lv_tableIn (tgt := 302) hx hb dX2_line_212 (by decide) (by decide) rfl (by decide) ?_
    refine r_aload_n X dX2_line_302 rfl (lv_at hl 0 rfl) ?_
    refine r_callVx X hxt hR (c_V (ci := 2) (q := (RX2, TX2, 10)) X hR hl.1 (c_X2_rainLine l g v0) (lw_V q976 q978 qs28 q116 q979) rfl rfl mh_X2_rainLine rfl (by decide) (by decide) rfl (cat4 (Nat.le_of_ble_eq_true rfl)) dX2_line_303 hw) (fun _ h H locs cells slots hR hw => ?_)
    refine lv_goto (tgt := 322) hx hb dX2_line_306 (by decide) ?_
    exact r_vret X hR rfl dX2_line_322 hw
  by_cases c8_7 : v2 = 7
  · have hw := swT_at hw 7 rfl c8_7
    rw [c8_7]
    refine lv_tableIn (tgt := 309) hx hb dX2_line_212 (by decide) (by decide) rfl (by decide) ?_
    refine r_aload_n X dX2_line_309 rfl (lv_at hl 0 rfl) ?_
    refine r_callVx X hxt hR (c_V (ci := 2) (q := (RX2, TX2, 10)) X hR hl.1 (c_X2_claimsLine l g v0) (lw_V q989 q991 qs29 q116 q992) rfl rfl mh_X2_claimsLine rfl (by decide) (by decide) rfl (cat4 (Nat.le_of_ble_eq_true rfl)) dX2_line_310 hw) (fun _ h H locs cells slots hR hw => ?_)
    refine lv_goto (tgt := 322) hx hb dX2_line_313 (by decide) ?_
    exact r_vret X hR rfl dX2_line_322 hw
  have hw := hw.2 (List.forall_mem_cons.mpr ⟨c8_0, (List.forall_mem_cons.mpr ⟨c8_1, (List.forall_mem_cons.mpr ⟨c8_2, (List.forall_mem_cons.mpr ⟨c8_3, (List.forall_mem_cons.mpr ⟨c8_4, (List.forall_mem_cons.mpr ⟨c8_5, (List.forall_mem_cons.mpr ⟨c8_6, (List.forall_mem_cons.mpr ⟨c8_7, (fun _ h => absurd h List.not_mem_nil)⟩)⟩)⟩)⟩)⟩)⟩)⟩)⟩)
  refine lv_tableOut (tgt := 316) hx hb dX2_line_212 (sw_out (x := v2) (lo := 0) (n := 8) (by decide) (lt_s (lt_s (lt_s (lt_s (lt_s (lt_s (lt_s (lt_s lt_0 c8_0) c8_1) c8_2) c8_3) c8_4) c8_5) c8_6) c8_7)) (by decide) ?_
  refine r_aload_n X dX2_line_316 rfl (lv_at hl 0 rfl) ?_
  refine lv_iconst (v := 1) hx hb dX2_line_317 (by decide) ?_
  refine r_callR X hR (c_V (ci := 2) (q := (RX2, TX2, 10)) X hR hl.1 (c_X2_fail l g v0 1) (lw_V q644 q646 qs7 q116 q647) rfl rfl mh_X2_fail rfl (by decide) (by decide) rfl (cat4 (Nat.le_of_ble_eq_true rfl)) dX2_line_318 hw) (fun x9 h H locs cells slots hR hw => ?_)
  exact r_throw X hxt hR dX2_line_321 hw
theorem c_X2_line (l : Launch) (g : GT) (v0 : Option Nat) : CT qV l yX2_line (ws_ yX2_line cX2_line 3 none) 14 g [va_rf v0] (fun K E h => w_X2_line g v0 K E h) := by
  refine CT_of (lv := [(0, va_rf v0)]) (by decide +kernel) (by simp [lg_sl, cat_rf, cat_int, cat_long]) (by simp [lv_args, cat_rf, cat_int, cat_long]) (fun h0 K E p e s m args below meth c H locs cells slots ls X hxt hmn hw hR hl => ?_)
  have hx := X.hx
  have hb := X.hb
  unfold w_X2_line at hw
  refine r_aload_n X dX2_line_0 rfl (lv_at hl 0 rfl) ?_
  refine r_gI X hR fk_X2_47 dX2_line_1 hw (fun x1 hw => ?_)
  refine lv_iconst (v := 2) hx hb dX2_line_4 (by decide) ?_
  refine lv_icmp_eq (tgt := 14) hx hb dX2_line_5 (by decide) (fun c2 => ?_) (fun c2 => ?_)
  · have hw := hw.1 c2
    refine r_aload_n X dX2_line_14 rfl (lv_at hl 0 rfl) ?_
    refine r_gR X hR fk_X2_61 dX2_line_15 hw (fun x3 hw => ?_)
    refine r_astore_n (i := 1) (lv' := [(1, va_rf x3), (0, va_rf v0)]) X dX2_line_18 rfl hl (by decide) (by simp [cat_rf, cat_int, cat_long]) (fun ls hl => ?_)
    refine lv_iconst (v := (-1)) hx hb dX2_line_19 (by decide) ?_
    refine lv_istore_n (i := 2) (lv' := [(2, .int (-1)), (1, va_rf x3), (0, va_rf v0)]) hx hb dX2_line_20 rfl hl (by decide) (by simp [cat_rf, cat_int, cat_long]) (fun ls hl => ?_)
    refine r_aload_n X dX2_line_21 rfl (lv_at hl 1 rfl) ?_
    refine r_callI X hR (c_V (ci := 0) (q := (RJ3, TJ3, 4)) X hR hl.1 (c_J3_hashCode l g x3) (lw_V q652 q653 q654 q127 q655) rfl rfl mh_J3_hashCode rfl (by decide) (by decide) rfl (cat4 (Nat.le_of_ble_eq_true rfl)) dX2_line_22 hw) (fun x4 h H locs cells slots hR hw => ?_)
    by_cases c5_0 : x4 = (-1381913276)
    · have hw := swT_at hw 0 rfl c5_0
      rw [c5_0]
      refine lv_lookup (tgt := 128) (off := 103) hx hb dX2_line_25 (by decide) (by decide) (by decide) ?_
      refine r_aload_n X dX2_line_128 rfl (lv_at hl 1 rfl) ?_
      refine r_ldcS X (tx := "umbrella") (List.mem_of_getElem? (i := 3) rfl) dX2_line_129 ?_
      refine r_callI X hR (c_V (ci := 0) (q := (RJ3, TJ3, 4)) X hR hl.1 (c_J3_equals l g x3 (some (g.2.2.2.1 3))) (lw_V q706 q707 q708 q127 q709) rfl rfl mh_J3_equals rfl (by decide) (by decide) rfl (cat4 (Nat.le_of_ble_eq_true rfl)) dX2_line_131 hw) (fun x6 h H locs cells slots hR hw => ?_)
      refine lv_if_eq (tgt := 211) hx hb dX2_line_134 (by decide) (fun c7 => ?_) (fun c7 => ?_)
      · have hw := hw.1 c7
        exact t_X2_line_J211 X hxt  hw hR (lv_sub hl [2, 0] rfl)
      · have hw := hw.2 c7
        refine lv_iconst (v := 2) hx hb dX2_line_137 (by decide) ?_
        refine lv_istore_n (i := 2) (lv' := [(2, .int 2), (1, va_rf x3), (0, va_rf v0)]) hx hb dX2_line_138 rfl hl (by decide) (by simp [cat_rf, cat_int, cat_long]) (fun ls hl => ?_)
        refine lv_goto (tgt := 211) hx hb dX2_line_139 (by decide) ?_
        exact t_X2_line_J211 X hxt  hw hR (lv_sub hl [2, 0] rfl)
    by_cases c5_1 : x4 = (-1357946953)
    · have hw := swT_at hw 1 rfl c5_1
      rw [c5_1]
      refine lv_lookup (tgt := 199) (off := 174) hx hb dX2_line_25 (by decide) (by decide) (by decide) ?_
      refine r_aload_n X dX2_line_199 rfl (lv_at hl 1 rfl) ?_
      refine r_ldcS X (tx := "claims") (List.mem_of_getElem? (i := 8) rfl) dX2_line_200 ?_
      refine r_callI X hR (c_V (ci := 0) (q := (RJ3, TJ3, 4)) X hR hl.1 (c_J3_equals l g x3 (some (g.2.2.2.1 8))) (lw_V q706 q707 q708 q127 q709) rfl rfl mh_J3_equals rfl (by decide) (by decide) rfl (cat4 (Nat.le_of_ble_eq_true rfl)) dX2_line_202 hw) (fun x10 h H locs cells slots hR hw => ?_)
      refine lv_if_eq (tgt := 211) hx hb dX2_line_205 (by decide) (fun c11 => ?_) (fun c11 => ?_)
      · have hw := hw.1 c11
        exact t_X2_line_J211 X hxt  hw hR (lv_sub hl [2, 0] rfl)
      · have hw := hw.2 c11
        refine lv_bipush (v := 7) hx hb dX2_line_208 (by decide) ?_
        refine lv_istore_n (i := 2) (lv' := [(2, .int 7), (1, va_rf x3), (0, va_rf v0)]) hx hb dX2_line_210 rfl hl (by decide) (by simp [cat_rf, cat_int, cat_long]) (fun ls hl => ?_)
        exact t_X2_line_J211 X hxt  hw hR (lv_sub hl [2, 0] rfl)
    by_cases c5_2 : x4 = (-1354575542)
    · have hw := swT_at hw 2 rfl c5_2
      rw [c5_2]
      refine lv_lookup (tgt := 100) (off := 75) hx hb dX2_line_25 (by decide) (by decide) (by decide) ?_
      refine r_aload_n X dX2_line_100 rfl (lv_at hl 1 rfl) ?_
      refine r_ldcS X (tx := "county") (List.mem_of_getElem? (i := 1) rfl) dX2_line_101 ?_
      refine r_callI X hR (c_V (ci := 0) (q := (RJ3, TJ3, 4)) X hR hl.1 (c_J3_equals l g x3 (some (g.2.2.2.1 1))) (lw_V q706 q707 q708 q127 q709) rfl rfl mh_J3_equals rfl (by decide) (by decide) rfl (cat4 (Nat.le_of_ble_eq_true rfl)) dX2_line_103 hw) (fun x12 h H locs cells slots hR hw => ?_)
      refine lv_if_eq (tgt := 211) hx hb dX2_line_106 (by decide) (fun c13 => ?_) (fun c13 => ?_)
      · have hw := hw.1 c13
        exact t_X2_line_J211 X hxt  hw hR (lv_sub hl [2, 0] rfl)
      · have hw := hw.2 c13
        refine lv_iconst (v := 0) hx hb dX2_line_109 (by decide) ?_
        refine lv_istore_n (i := 2) (lv' := [(2, .int 0), (1, va_rf x3), (0, va_rf v0)]) hx hb dX2_line_110 rfl hl (by decide) (by simp [cat_rf, cat_int, cat_long]) (fun ls hl => ?_)
        refine lv_goto (tgt := 211) hx hb dX2_line_111 (by decide) ?_
        exact t_X2_line_J211 X hxt  hw hR (lv_sub hl [2, 0] rfl)
    by_cases c5_3 : x4 = (-991716523)
    · have hw := swT_at hw 3 rfl c5_3
      rw [c5_3]
      refine lv_lookup (tgt := 114) (off := 89) hx hb dX2_line_25 (by decide) (by decide) (by decide) ?_
      refine r_aload_n X dX2_line_114 rfl (lv_at hl 1 rfl) ?_
      refine r_ldcS X (tx := "person") (List.mem_of_getElem? (i := 2) rfl) dX2_line_115 ?_
      refine r_callI X hR (c_V (ci := 0) (q := (RJ3, TJ3, 4)) X hR hl.1 (c_J3_equals l g x3 (some (g.2.2.2.1 2))) (lw_V q706 q707 q708 q127 q709) rfl rfl mh_J3_equals rfl (by decide) (by decide) rfl (cat4 (Nat.le_of_ble_eq_true rfl)) dX2_line_117 hw) (fun x14 h H locs cells slots hR hw => ?_)
      refine lv_if_eq (tgt := 211) hx hb dX2_line_120 (by decide) (fun c15 => ?_) (fun c15 => ?_)
      · have hw := hw.1 c15
        exact t_X2_line_J211 X hxt  hw hR (lv_sub hl [2, 0] rfl)
      · have hw := hw.2 c15
        refine lv_iconst (v := 1) hx hb dX2_line_123 (by decide) ?_
        refine lv_istore_n (i := 2) (lv' := [(2, .int 1), (1, va_rf x3), (0, va_rf v0)]) hx hb dX2_line_124 rfl hl (by decide) (by simp [cat_rf, cat_int, cat_long]) (fun ls hl => ?_)
        refine lv_goto (tgt := 211) hx hb dX2_line_125 (by decide) ?_
        exact t_X2_line_J211 X hxt  hw hR (lv_sub hl [2, 0] rfl)
    by_cases c5_4 : x4 = 3317767
    · have hw := swT_at hw 4 rfl c5_4
      rw [c5_4]
      refine lv_lookup (tgt := 156) (off := 131) hx hb dX2_line_25 (by decide) (by decide) (by decide) ?_
      refine r_aload_n X dX2_line_156 rfl (lv_at hl 1 rfl) ?_
      refine r_ldcS X (tx := "left") (List.mem_of_getElem? (i := 5) rfl) dX2_line_157 ?_
      refine r_callI X hR (c_V (ci := 0) (q := (RJ3, TJ3, 4)) X hR hl.1 (c_J3_equals l g x3 (some (g.2.2.2.1 5))) (lw_V q706 q707 q708 q127 q709) rfl rfl mh_J3_equals rfl (by decide) (by decide) rfl (cat4 (Nat.le_of_ble_eq_true rfl)) dX2_line_159 hw) (fun x16 h H locs cells slots hR hw => ?_)
      refine lv_if_eq (tgt := 211) hx hb dX2_line_162 (by decide) (fun c17 => ?_) (fun c17 => ?_)
      · have hw := hw.1 c17
        exact t_X2_line_J211 X hxt  hw hR (lv_sub hl [2, 0] rfl)
      · have hw := hw.2 c17
        refine lv_iconst (v := 4) hx hb dX2_line_165 (by decide) ?_
        refine lv_istore_n (i := 2) (lv' := [(2, .int 4), (1, va_rf x3), (0, va_rf v0)]) hx hb dX2_line_166 rfl hl (by decide) (by simp [cat_rf, cat_int, cat_long]) (fun ls hl => ?_)
        refine lv_goto (tgt := 211) hx hb dX2_line_167 (by decide) ?_
        exact t_X2_line_J211 X hxt  hw hR (lv_sub hl [2, 0] rfl)
    by_cases c5_5 : x4 = 3318015
    · have hw := swT_at hw 5 rfl c5_5
      rw [c5_5]
      refine lv_lookup (tgt := 142) (off := 117) hx hb dX2_line_25 (by decide) (by decide) (by decide) ?_
      refine r_aload_n X dX2_line_142 rfl (lv_at hl 1 rfl) ?_
      refine r_ldcS X (tx := "lent") (List.mem_of_getElem? (i := 4) rfl) dX2_line_143 ?_
      refine r_callI X hR (c_V (ci := 0) (q := (RJ3, TJ3, 4)) X hR hl.1 (c_J3_equals l g x3 (some (g.2.2.2.1 4))) (lw_V q706 q707 q708 q127 q709) rfl rfl mh_J3_equals rfl (by decide) (by decide) rfl (cat4 (Nat.le_of_ble_eq_true rfl)) dX2_line_145 hw) (fun x18 h H locs cells slots hR hw => ?_)
      refine lv_if_eq (tgt := 211) hx hb dX2_line_148 (by decide) (fun c19 => ?_) (fun c19 => ?_)
      · have hw := hw.1 c19
        exact t_X2_line_J211 X hxt  hw hR (lv_sub hl [2, 0] rfl)
      · have hw := hw.2 c19
        refine lv_iconst (v := 3) hx hb dX2_line_151 (by decide) ?_
        refine lv_istore_n (i := 2) (lv' := [(2, .int 3), (1, va_rf x3), (0, va_rf v0)]) hx hb dX2_line_152 rfl hl (by decide) (by simp [cat_rf, cat_int, cat_long]) (fun ls hl => ?_)
        refine lv_goto (tgt := 211) hx hb dX2_line_153 (by decide) ?_
        exact t_X2_line_J211 X hxt  hw hR (lv_sub hl [2, 0] rfl)
    by_cases c5_6 : x4 = 3492756
    · have hw := swT_at hw 6 rfl c5_6
      rw [c5_6]
      refine lv_lookup (tgt := 184) (off := 159) hx hb dX2_line_25 (by decide) (by decide) (by decide) ?_
      refine r_aload_n X dX2_line_184 rfl (lv_at hl 1 rfl) ?_
      refine r_ldcS X (tx := "rain") (List.mem_of_getElem? (i := 7) rfl) dX2_line_185 ?_
      refine r_callI X hR (c_V (ci := 0) (q := (RJ3, TJ3, 4)) X hR hl.1 (c_J3_equals l g x3 (some (g.2.2.2.1 7))) (lw_V q706 q707 q708 q127 q709) rfl rfl mh_J3_equals rfl (by decide) (by decide) rfl (cat4 (Nat.le_of_ble_eq_true rfl)) dX2_line_187 hw) (fun x20 h H locs cells slots hR hw => ?_)
      refine lv_if_eq (tgt := 211) hx hb dX2_line_190 (by decide) (fun c21 => ?_) (fun c21 => ?_)
      · have hw := hw.1 c21
        exact t_X2_line_J211 X hxt  hw hR (lv_sub hl [2, 0] rfl)
      · have hw := hw.2 c21
        refine lv_bipush (v := 6) hx hb dX2_line_193 (by decide) ?_
        refine lv_istore_n (i := 2) (lv' := [(2, .int 6), (1, va_rf x3), (0, va_rf v0)]) hx hb dX2_line_195 rfl hl (by decide) (by simp [cat_rf, cat_int, cat_long]) (fun ls hl => ?_)
        refine lv_goto (tgt := 211) hx hb dX2_line_196 (by decide) ?_
        exact t_X2_line_J211 X hxt  hw hR (lv_sub hl [2, 0] rfl)
    by_cases c5_7 : x4 = 738943668
    · have hw := swT_at hw 7 rfl c5_7
      rw [c5_7]
      refine lv_lookup (tgt := 170) (off := 145) hx hb dX2_line_25 (by decide) (by decide) (by decide) ?_
      refine r_aload_n X dX2_line_170 rfl (lv_at hl 1 rfl) ?_
      refine r_ldcS X (tx := "changed") (List.mem_of_getElem? (i := 6) rfl) dX2_line_171 ?_
      refine r_callI X hR (c_V (ci := 0) (q := (RJ3, TJ3, 4)) X hR hl.1 (c_J3_equals l g x3 (some (g.2.2.2.1 6))) (lw_V q706 q707 q708 q127 q709) rfl rfl mh_J3_equals rfl (by decide) (by decide) rfl (cat4 (Nat.le_of_ble_eq_true rfl)) dX2_line_173 hw) (fun x22 h H locs cells slots hR hw => ?_)
      refine lv_if_eq (tgt := 211) hx hb dX2_line_176 (by decide) (fun c23 => ?_) (fun c23 => ?_)
      · have hw := hw.1 c23
        exact t_X2_line_J211 X hxt  hw hR (lv_sub hl [2, 0] rfl)
      · have hw := hw.2 c23
        refine lv_iconst (v := 5) hx hb dX2_line_179 (by decide) ?_
        refine lv_istore_n (i := 2) (lv' := [(2, .int 5), (1, va_rf x3), (0, va_rf v0)]) hx hb dX2_line_180 rfl hl (by decide) (by simp [cat_rf, cat_int, cat_long]) (fun ls hl => ?_)
        refine lv_goto (tgt := 211) hx hb dX2_line_181 (by decide) ?_
        exact t_X2_line_J211 X hxt  hw hR (lv_sub hl [2, 0] rfl)
    have hw := hw.2 (List.forall_mem_cons.mpr ⟨c5_0, (List.forall_mem_cons.mpr ⟨c5_1, (List.forall_mem_cons.mpr ⟨c5_2, (List.forall_mem_cons.mpr ⟨c5_3, (List.forall_mem_cons.mpr ⟨c5_4, (List.forall_mem_cons.mpr ⟨c5_5, (List.forall_mem_cons.mpr ⟨c5_6, (List.forall_mem_cons.mpr ⟨c5_7, (fun _ h => absurd h List.not_mem_nil)⟩)⟩)⟩)⟩)⟩)⟩)⟩)⟩)
    refine lv_lookup (tgt := 211) (off := 186) hx hb dX2_line_25 (by decide) (lk_out (List.forall_mem_cons.mpr ⟨c5_0, (List.forall_mem_cons.mpr ⟨c5_1, (List.forall_mem_cons.mpr ⟨c5_2, (List.forall_mem_cons.mpr ⟨c5_3, (List.forall_mem_cons.mpr ⟨c5_4, (List.forall_mem_cons.mpr ⟨c5_5, (List.forall_mem_cons.mpr ⟨c5_6, (List.forall_mem_cons.mpr ⟨c5_7, (fun _ h => absurd h List.not_mem_nil)⟩)⟩)⟩)⟩)⟩)⟩)⟩)⟩)) (by decide) ?_
    exact t_X2_line_J211 X hxt  hw hR (lv_sub hl [2, 0] rfl)
  · have hw := hw.2 c2
    refine r_aload_n X dX2_line_8 rfl (lv_at hl 0 rfl) ?_
    refine lv_iconst (v := 1) hx hb dX2_line_9 (by decide) ?_
    refine r_callR X hR (c_V (ci := 2) (q := (RX2, TX2, 10)) X hR hl.1 (c_X2_fail l g v0 1) (lw_V q644 q646 qs7 q116 q647) rfl rfl mh_X2_fail rfl (by decide) (by decide) rfl (cat4 (Nat.le_of_ble_eq_true rfl)) dX2_line_10 hw) (fun x24 h H locs cells slots hR hw => ?_)
    exact r_throw X hxt hR dX2_line_13 hw
theorem t_X2_read_J92 {p : Program} {l : Launch} {e : Env} {s : State} {m : MethodId} {args : Array Value} {below : List Frame} {meth : Method} {c : Code} {g : GT} {h0 : AH} {v0 : Option Nat} {K : Option Nat → AH → Prop} {E : Nat → AH → Prop} {h : AH} {H : Heap} {locs : List Loc} {cells slots : Nat} {ls : Array Slot} (X : Cx g h0 p s m args meth c RX2 cX2_read 2 (Option.some (Jvm.ClassFile.FieldType.object "UmbrellaHeir$County"))) (hxt : c.exceptionTable.toList = [])  (hw : w_X2_read_J92 g v0 K E h) (hR : HS g s h H locs) (hl : lv_has ls 2 [(0, va_rf v0)]) : W p l e (RM 15 h0) s m args below meth c H locs cells slots (MQT below g (qR K) E args s h0) (F0 m 92 ls []) := by
  have hx := X.hx
  have hb := X.hb
  unfold w_X2_read_J92 at hw
  refine r_aload_n X dX2_read_92 rfl (lv_at hl 0 rfl) ?_
  refine lv_bipush (v := 6) hx hb dX2_read_93 (by decide) ?_
  refine r_callR X hR (c_V (ci := 2) (q := (RX2, TX2, 10)) X hR hl.1 (c_X2_fail l g v0 6) (lw_V q644 q646 qs7 q116 q647) rfl rfl mh_X2_fail rfl (by decide) (by decide) rfl (cat4 (Nat.le_of_ble_eq_true rfl)) dX2_read_95 hw) (fun x9 h H locs cells slots hR hw => ?_)
  exact r_throw X hxt hR dX2_read_98 hw
theorem t_X2_read_L29 {p : Program} {l : Launch} {e : Env} {s : State} {m : MethodId} {args : Array Value} {below : List Frame} {meth : Method} {c : Code} {g : GT} {h0 : AH} {v0 : Option Nat} {K : Option Nat → AH → Prop} {E : Nat → AH → Prop} (X : Cx g h0 p s m args meth c RX2 cX2_read 2 (Option.some (Jvm.ClassFile.FieldType.object "UmbrellaHeir$County"))) (hxt : c.exceptionTable.toList = [])  : ∀ (n : Nat) {h : AH} {H : Heap} {locs : List Loc} {cells slots : Nat} {ls : Array Slot}, LpN0 (w_X2_read_L29 g v0 K E) n h → HS g s h H locs → lv_has ls 2 [(0, va_rf v0)] → W p l e (RM 15 h0) s m args below meth c H locs cells slots (MQT below g (qR K) E args s h0) (F0 m 29 ls []) := by
  have hx := X.hx
  have hb := X.hb
  intro n
  induction n with
  | zero =>
    intro h H locs cells slots ls hw
    exact hw.elim
  | succ n k29 =>
    intro h H locs cells slots ls hw hR hl
    have hw : w_X2_read_L29 g v0 K E (LpN0 (w_X2_read_L29 g v0 K E) n) h := hw
    unfold w_X2_read_L29 at hw
    refine r_aload_n X dX2_read_29 rfl (lv_at hl 0 rfl) ?_
    refine r_gI X hR fk_X2_47 dX2_read_30 hw (fun x2 hw => ?_)
    refine lv_bipush (v := 59) hx hb dX2_read_33 (by decide) ?_
    refine lv_icmp_ne (tgt := 49) hx hb dX2_read_35 (by decide) (fun c3 => ?_) (fun c3 => ?_)
    · have hw := hw.1 c3
      refine r_aload_n X dX2_read_49 rfl (lv_at hl 0 rfl) ?_
      refine r_gI X hR fk_X2_47 dX2_read_50 hw (fun x4 hw => ?_)
      refine lv_if_eq (tgt := 62) hx hb dX2_read_53 (by decide) (fun c5 => ?_) (fun c5 => ?_)
      · have hw := hw.1 c5
        refine r_aload_n X dX2_read_62 rfl (lv_at hl 0 rfl) ?_
        refine r_gR X hR fk_X2_109 dX2_read_63 hw (fun x6 hw => ?_)
        refine r_gI X hR fk_X2_137 dX2_read_66 hw (fun x7 hw => ?_)
        refine lv_if_eq (tgt := 92) hx hb dX2_read_69 (by decide) (fun c8 => ?_) (fun c8 => ?_)
        · have hw := hw.1 c8
          exact t_X2_read_J92 X hxt  hw hR (lv_sub hl [0] rfl)
        · have hw := hw.2 c8
          refine r_aload_n X dX2_read_72 rfl (lv_at hl 0 rfl) ?_
          refine r_gR X hR fk_X2_109 dX2_read_73 hw (fun x10 hw => ?_)
          refine r_gI X hR fk_X2_144 dX2_read_76 hw (fun x11 hw => ?_)
          refine lv_if_eq (tgt := 92) hx hb dX2_read_79 (by decide) (fun c12 => ?_) (fun c12 => ?_)
          · have hw := hw.1 c12
            exact t_X2_read_J92 X hxt  hw hR (lv_sub hl [0] rfl)
          · have hw := hw.2 c12
            refine r_aload_n X dX2_read_82 rfl (lv_at hl 0 rfl) ?_
            refine r_gR X hR fk_X2_109 dX2_read_83 hw (fun x13 hw => ?_)
            refine r_gI X hR fk_X2_147 dX2_read_86 hw (fun x14 hw => ?_)
            refine lv_if_ne (tgt := 99) hx hb dX2_read_89 (by decide) (fun c15 => ?_) (fun c15 => ?_)
            · have hw := hw.1 c15
              refine r_aload_n X dX2_read_99 rfl (lv_at hl 0 rfl) ?_
              refine r_gR X hR fk_X2_109 dX2_read_100 hw (fun x16 hw => ?_)
              exact r_aret X (Or.inl ⟨_, rfl⟩) hR dX2_read_103 hw
            · have hw := hw.2 c15
              exact t_X2_read_J92 X hxt  hw hR (lv_sub hl [0] rfl)
      · have hw := hw.2 c5
        refine r_aload_n X dX2_read_56 rfl (lv_at hl 0 rfl) ?_
        refine lv_iconst (v := 1) hx hb dX2_read_57 (by decide) ?_
        refine r_callR X hR (c_V (ci := 2) (q := (RX2, TX2, 10)) X hR hl.1 (c_X2_fail l g v0 1) (lw_V q644 q646 qs7 q116 q647) rfl rfl mh_X2_fail rfl (by decide) (by decide) rfl (cat4 (Nat.le_of_ble_eq_true rfl)) dX2_read_58 hw) (fun x17 h H locs cells slots hR hw => ?_)
        exact r_throw X hxt hR dX2_read_61 hw
    · have hw := hw.2 c3
      refine r_aload_n X dX2_read_38 rfl (lv_at hl 0 rfl) ?_
      refine r_callV X hR (c_V (ci := 2) (q := (RX2, TX2, 10)) X hR hl.1 (c_X2_next l g v0) (lw_V q546 q548 qs4 q116 q549) rfl rfl mh_X2_next rfl (by decide) (by decide) rfl (cat4 (Nat.le_of_ble_eq_true rfl)) dX2_read_39 hw) (fun _ h H locs cells slots hR hw => ?_)
      refine r_aload_n X dX2_read_42 rfl (lv_at hl 0 rfl) ?_
      refine r_callVx X hxt hR (c_V (ci := 2) (q := (RX2, TX2, 10)) X hR hl.1 (c_X2_line l g v0) (lw_V q640 q642 qs6 q116 q643) rfl rfl mh_X2_line rfl (by decide) (by decide) rfl (cat4 (Nat.le_of_ble_eq_true rfl)) dX2_read_43 hw) (fun _ h H locs cells slots hR hw => ?_)
      refine lv_goto (tgt := 29) hx hb dX2_read_46 (by decide) ?_
      exact k29 hw hR (lv_sub hl [0] rfl)
theorem c_X2_read (l : Launch) (g : GT) (v0 : Option Nat) (v1 : Int32) : CT qR l yX2_read (ws_ yX2_read cX2_read 2 (Option.some (Jvm.ClassFile.FieldType.object "UmbrellaHeir$County"))) 15 g [va_rf v0, .int v1] (fun K E h => w_X2_read g v0 v1 K E h) := by
  refine CT_of (lv := [(0, va_rf v0), (1, .int v1)]) (by decide +kernel) (by simp [lg_sl, cat_rf, cat_int, cat_long]) (by simp [lv_args, cat_rf, cat_int, cat_long]) (fun h0 K E p e s m args below meth c H locs cells slots ls X hxt hmn hw hR hl => ?_)
  have hx := X.hx
  have hb := X.hb
  unfold w_X2_read at hw
  refine r_aload_n X dX2_read_0 rfl (lv_at hl 0 rfl) ?_
  refine lv_iload_n hx hb dX2_read_1 rfl (lv_at hl 1 rfl) ?_
  refine r_put X hR fp_X2_33 (Or.inl fn_X2_33) (nf_int _) dX2_read_2 hw (fun H locs h hR hw => ?_)
  refine r_aload_n X dX2_read_5 rfl (lv_at hl 0 rfl) ?_
  refine lv_iconst (v := 0) hx hb dX2_read_6 (by decide) ?_
  refine r_put X hR fp_X2_40 (Or.inl fn_X2_40) (nf_int _) dX2_read_7 hw (fun H locs h hR hw => ?_)
  refine r_aload_n X dX2_read_10 rfl (lv_at hl 0 rfl) ?_
  refine r_new X hR nk_X2_113 dX2_read_11 hw (fun H cells slots x1 h hR hw => ?_)
  refine lv_dup hx hb dX2_read_14 (cat_rf _) ?_
  refine r_callV X hR (c_IN X hR hl.1 (c_X9_init l g x1) (lw_meth q474) q126 q472 q473 rfl mh_X9_init rfl (by decide) (by decide) rfl (cat4 (Nat.le_of_ble_eq_true rfl)) dX2_read_15 hw) (fun _ h H locs cells slots hR hw => ?_)
  refine r_put X hR fp_X2_109 (Or.inl fn_X2_109) (nf_obj _ _) dX2_read_18 hw (fun H locs h hR hw => ?_)
  refine r_aload_n X dX2_read_21 rfl (lv_at hl 0 rfl) ?_
  refine r_callV X hR (c_V (ci := 2) (q := (RX2, TX2, 10)) X hR hl.1 (c_X2_next l g v0) (lw_V q546 q548 qs4 q116 q549) rfl rfl mh_X2_next rfl (by decide) (by decide) rfl (cat4 (Nat.le_of_ble_eq_true rfl)) dX2_read_22 hw) (fun _ h H locs cells slots hR hw => ?_)
  refine r_aload_n X dX2_read_25 rfl (lv_at hl 0 rfl) ?_
  refine r_callVx X hxt hR (c_V (ci := 2) (q := (RX2, TX2, 10)) X hR hl.1 (c_X2_line l g v0) (lw_V q640 q642 qs6 q116 q643) rfl rfl mh_X2_line rfl (by decide) (by decide) rfl (cat4 (Nat.le_of_ble_eq_true rfl)) dX2_read_26 hw) (fun _ h H locs cells slots hR hw => ?_)
  obtain ⟨n, hw⟩ := hw
  exact t_X2_read_L29 X hxt  n hw hR (lv_sub hl [0] rfl)
theorem c_X15_isTitled (l : Launch) (g : GT) (v0 : Option Nat) : CT qI l yX15_isTitled (ws_ yX15_isTitled cX15_isTitled 1 (Option.some Jvm.ClassFile.FieldType.boolean)) 1 g [va_rf v0] (fun K E h => w_X15_isTitled g v0 K E h) := by
  refine CT_of (lv := [(0, va_rf v0)]) (by decide +kernel) (by simp [lg_sl, cat_rf, cat_int, cat_long]) (by simp [lv_args, cat_rf, cat_int, cat_long]) (fun h0 K E p e s m args below meth c H locs cells slots ls X hxt hmn hw hR hl => ?_)
  have hx := X.hx
  have hb := X.hb
  unfold w_X15_isTitled at hw
  refine lv_iconst (v := 1) hx hb dX15_isTitled_0 (by decide) ?_
  exact r_zret X hR dX15_isTitled_1 hw
theorem c_X18_isTitled (l : Launch) (g : GT) (v0 : Option Nat) : CT qI l yX18_isTitled (ws_ yX18_isTitled cX18_isTitled 1 (Option.some Jvm.ClassFile.FieldType.boolean)) 1 g [va_rf v0] (fun K E h => w_X18_isTitled g v0 K E h) := by
  refine CT_of (lv := [(0, va_rf v0)]) (by decide +kernel) (by simp [lg_sl, cat_rf, cat_int, cat_long]) (by simp [lv_args, cat_rf, cat_int, cat_long]) (fun h0 K E p e s m args below meth c H locs cells slots ls X hxt hmn hw hR hl => ?_)
  have hx := X.hx
  have hb := X.hb
  unfold w_X18_isTitled at hw
  refine lv_iconst (v := 0) hx hb dX18_isTitled_0 (by decide) ?_
  exact r_zret X hR dX18_isTitled_1 hw
theorem c_X11_canHold (l : Launch) (g : GT) (v0 : Option Nat) : CT qI l yX11_canHold (ws_ yX11_canHold cX11_canHold 1 (Option.some Jvm.ClassFile.FieldType.boolean)) 1 g [va_rf v0] (fun K E h => w_X11_canHold g v0 K E h) := by
  refine CT_of (lv := [(0, va_rf v0)]) (by decide +kernel) (by simp [lg_sl, cat_rf, cat_int, cat_long]) (by simp [lv_args, cat_rf, cat_int, cat_long]) (fun h0 K E p e s m args below meth c H locs cells slots ls X hxt hmn hw hR hl => ?_)
  have hx := X.hx
  have hb := X.hb
  unfold w_X11_canHold at hw
  refine lv_iconst (v := 1) hx hb dX11_canHold_0 (by decide) ?_
  exact r_zret X hR dX11_canHold_1 hw
theorem c_X13_canHold (l : Launch) (g : GT) (v0 : Option Nat) : CT qI l yX13_canHold (ws_ yX13_canHold cX13_canHold 1 (Option.some Jvm.ClassFile.FieldType.boolean)) 1 g [va_rf v0] (fun K E h => w_X13_canHold g v0 K E h) := by
  refine CT_of (lv := [(0, va_rf v0)]) (by decide +kernel) (by simp [lg_sl, cat_rf, cat_int, cat_long]) (by simp [lv_args, cat_rf, cat_int, cat_long]) (fun h0 K E p e s m args below meth c H locs cells slots ls X hxt hmn hw hR hl => ?_)
  have hx := X.hx
  have hb := X.hb
  unfold w_X13_canHold at hw
  refine lv_iconst (v := 0) hx hb dX13_canHold_0 (by decide) ?_
  exact r_zret X hR dX13_canHold_1 hw
theorem c_X4_takes (l : Launch) (g : GT) (v0 : Option Nat) (v1 : Int32) : CT qV l yX4_takes (ws_ yX4_takes cX4_takes 2 none) 2 g [va_rf v0, .int v1] (fun K E h => w_X4_takes g v0 v1 K E h) := by
  refine CT_of (lv := [(0, va_rf v0), (1, .int v1)]) (by decide +kernel) (by simp [lg_sl, cat_rf, cat_int, cat_long]) (by simp [lv_args, cat_rf, cat_int, cat_long]) (fun h0 K E p e s m args below meth c H locs cells slots ls X hxt hmn hw hR hl => ?_)
  have hx := X.hx
  have hb := X.hb
  unfold w_X4_takes at hw
  refine r_aload_n X dX4_takes_0 rfl (lv_at hl 0 rfl) ?_
  refine r_gR X hR fk_X4_9 dX4_takes_1 hw (fun x1 hw => ?_)
  refine lv_iload_n hx hb dX4_takes_4 rfl (lv_at hl 1 rfl) ?_
  refine r_iald X hR dX4_takes_5 hw (fun x2 hw => ?_)
  refine lv_bipush (v := (-2)) hx hb dX4_takes_6 (by decide) ?_
  refine lv_icmp_eq (tgt := 43) hx hb dX4_takes_8 (by decide) (fun c3 => ?_) (fun c3 => ?_)
  · have hw := hw.1 c3
    exact r_vret X hR rfl dX4_takes_43 hw
  · have hw := hw.2 c3
    refine r_aload_n X dX4_takes_11 rfl (lv_at hl 0 rfl) ?_
    refine r_gR X hR fk_X4_18 dX4_takes_12 hw (fun x4 hw => ?_)
    refine r_gR X hR fk_X4_54 dX4_takes_15 hw (fun x5 hw => ?_)
    refine r_aload_n X dX4_takes_18 rfl (lv_at hl 0 rfl) ?_
    refine r_gR X hR fk_X4_9 dX4_takes_19 hw (fun x6 hw => ?_)
    refine lv_iload_n hx hb dX4_takes_22 rfl (lv_at hl 1 rfl) ?_
    refine r_iald X hR dX4_takes_23 hw (fun x7 hw => ?_)
    refine r_aald X hR (t := 5) (by decide) (by decide) dX4_takes_24 hw (fun x8 hw => ?_)
    refine r_callI X hR (r_letRun (qq := qI) hw (fun K10 hw => Or.elim hw (fun hw => c_U (C := "UmbrellaHeir$Plain") (owner := "UmbrellaHeir$Person") (x := ⟨"UmbrellaHeir$Person", "canHold", "()Z"⟩) (ci := 12) (q := (RX12, TX12, 2)) X hR hl.1 (c_X11_canHold l g x8) rfl rfl (va_cwU (C := "UmbrellaHeir$Plain") (owner := "UmbrellaHeir$Person") (x := ⟨"UmbrellaHeir$Person", "canHold", "()Z"⟩) (y := yX11_canHold) 0 X.hts (lw_app (List.forall_mem_cons.mpr ⟨q1030, List.forall_mem_cons.mpr ⟨q1032, List.forall_mem_cons.mpr ⟨q1037, List.forall_mem_cons.mpr ⟨q1031, List.forall_mem_cons.mpr ⟨q133, fun _ h => absurd h List.not_mem_nil⟩⟩⟩⟩⟩) (lw_meth q1038)) rfl rfl rfl rfl ⟨by decide +kernel, by decide +kernel, by decide +kernel⟩ (rm_ok (by decide) (by decide))) rfl rfl (cat4 (Nat.le_of_ble_eq_true rfl)) dX4_takes_25 hw) (fun hw => Or.elim hw (fun hw => c_U (C := "UmbrellaHeir$Child") (owner := "UmbrellaHeir$Person") (x := ⟨"UmbrellaHeir$Person", "canHold", "()Z"⟩) (ci := 13) (q := (RX13, TX13, 2)) X hR hl.1 (c_X13_canHold l g x8) rfl rfl (va_cwO (C := "UmbrellaHeir$Child") (owner := "UmbrellaHeir$Person") (x := ⟨"UmbrellaHeir$Person", "canHold", "()Z"⟩) (y := yX13_canHold) 0 X.hts (lw_app (List.forall_mem_cons.mpr ⟨q1030, List.forall_mem_cons.mpr ⟨q1032, List.forall_mem_cons.mpr ⟨q1031, List.forall_mem_cons.mpr ⟨q1034, List.forall_mem_cons.mpr ⟨q1035, List.forall_mem_cons.mpr ⟨q135, fun _ h => absurd h List.not_mem_nil⟩⟩⟩⟩⟩⟩) (lw_meth q1036)) rfl rfl rfl q1038 ⟨by decide +kernel, by decide +kernel, by decide +kernel⟩ (rm_ok (by decide) (by decide))) rfl rfl (cat4 (Nat.le_of_ble_eq_true rfl)) dX4_takes_25 hw) (fun hw => c_U (C := "UmbrellaHeir$Careless") (owner := "UmbrellaHeir$Person") (x := ⟨"UmbrellaHeir$Person", "canHold", "()Z"⟩) (ci := 14) (q := (RX14, TX14, 2)) X hR hl.1 (c_X11_canHold l g x8) rfl rfl (va_cwU (C := "UmbrellaHeir$Careless") (owner := "UmbrellaHeir$Person") (x := ⟨"UmbrellaHeir$Person", "canHold", "()Z"⟩) (y := yX11_canHold) 0 X.hts (lw_app (List.forall_mem_cons.mpr ⟨q1030, List.forall_mem_cons.mpr ⟨q1032, List.forall_mem_cons.mpr ⟨q1033, List.forall_mem_cons.mpr ⟨q1031, List.forall_mem_cons.mpr ⟨q133, fun _ h => absurd h List.not_mem_nil⟩⟩⟩⟩⟩) (lw_meth q1038)) rfl rfl rfl rfl ⟨by decide +kernel, by decide +kernel, by decide +kernel⟩ (rm_ok (by decide) (by decide))) rfl rfl (cat4 (Nat.le_of_ble_eq_true rfl)) dX4_takes_25 hw)))) (fun x9 h H locs cells slots hR hw => ?_)
    refine lv_if_eq (tgt := 43) hx hb dX4_takes_28 (by decide) (fun c11 => ?_) (fun c11 => ?_)
    · have hw := hw.1 c11
      exact r_vret X hR rfl dX4_takes_43 hw
    · have hw := hw.2 c11
      refine r_aload_n X dX4_takes_31 rfl (lv_at hl 0 rfl) ?_
      refine r_gR X hR fk_X4_15 dX4_takes_32 hw (fun x12 hw => ?_)
      refine lv_iload_n hx hb dX4_takes_35 rfl (lv_at hl 1 rfl) ?_
      refine r_aload_n X dX4_takes_36 rfl (lv_at hl 0 rfl) ?_
      refine r_gR X hR fk_X4_9 dX4_takes_37 hw (fun x13 hw => ?_)
      refine lv_iload_n hx hb dX4_takes_40 rfl (lv_at hl 1 rfl) ?_
      refine r_iald X hR dX4_takes_41 hw (fun x14 hw => ?_)
      refine r_iast X hR dX4_takes_42 hw (fun H locs h hR hw => ?_)
      exact r_vret X hR rfl dX4_takes_43 hw
theorem t_X4_begin_J60 {p : Program} {l : Launch} {e : Env} {s : State} {m : MethodId} {args : Array Value} {below : List Frame} {meth : Method} {c : Code} {g : GT} {h0 : AH} {v0 : Option Nat} {v1 : Option Nat} {v2 : Int32} {K : Unit → AH → Prop} {E : Nat → AH → Prop} {L12 : Int32 → AH → Prop} {h : AH} {H : Heap} {locs : List Loc} {cells slots : Nat} {ls : Array Slot} (X : Cx g h0 p s m args meth c RX4 cX4_begin 3 none) (k12 : ∀ {v2' : Int32} {h : AH} {H : Heap} {locs : List Loc} {cells slots : Nat} {ls : Array Slot}, L12 v2' h → HS g s h H locs → lv_has ls 3 [(0, va_rf v0), (1, va_rf v1), (2, .int (v2'))] → W p l e (RM 3 h0) s m args below meth c H locs cells slots (MQT below g (qV K) E args s h0) (F0 m 12 ls [])) (hw : w_X4_begin_J60 g v0 v1 v2 K E L12 h) (hR : HS g s h H locs) (hl : lv_has ls 3 [(0, va_rf v0), (1, va_rf v1), (2, .int v2)]) : W p l e (RM 3 h0) s m args below meth c H locs cells slots (MQT below g (qV K) E args s h0) (F0 m 60 ls []) := by
  have hx := X.hx
  have hb := X.hb
  unfold w_X4_begin_J60 at hw
  refine r_iinc X (k := 2) (v := (v2 + 1)) (lv' := fun x13 => [(2, .int x13), (0, va_rf v0), (1, va_rf v1)]) dX4_begin_60 hl rfl rfl (by decide) hw (fun _ => by simp [cat_rf, cat_int, cat_long]) (fun x13 hw ls hl => ?_)
  refine lv_goto (tgt := 12) hx hb dX4_begin_63 (by decide) ?_
  exact k12 hw hR (lv_sub hl [1, 2, 0] rfl)
theorem t_X4_begin_L12 {p : Program} {l : Launch} {e : Env} {s : State} {m : MethodId} {args : Array Value} {below : List Frame} {meth : Method} {c : Code} {g : GT} {h0 : AH} {v0 : Option Nat} {v1 : Option Nat} {K : Unit → AH → Prop} {E : Nat → AH → Prop} (X : Cx g h0 p s m args meth c RX4 cX4_begin 3 none)  : ∀ (n : Nat) {v2 : Int32} {h : AH} {H : Heap} {locs : List Loc} {cells slots : Nat} {ls : Array Slot}, LpN1 (w_X4_begin_L12 g v0 v1 K E) n v2 h → HS g s h H locs → lv_has ls 3 [(0, va_rf v0), (1, va_rf v1), (2, .int v2)] → W p l e (RM 3 h0) s m args below meth c H locs cells slots (MQT below g (qV K) E args s h0) (F0 m 12 ls []) := by
  have hx := X.hx
  have hb := X.hb
  intro n
  induction n with
  | zero =>
    intro v2 h H locs cells slots ls hw
    exact hw.elim
  | succ n k12 =>
    intro v2 h H locs cells slots ls hw hR hl
    have hw : w_X4_begin_L12 g v0 v1 K E (LpN1 (w_X4_begin_L12 g v0 v1 K E) n) v2 h := hw
    unfold w_X4_begin_L12 at hw
    refine lv_iload_n hx hb dX4_begin_12 rfl (lv_at hl 2 rfl) ?_
    refine r_aload_n X dX4_begin_13 rfl (lv_at hl 1 rfl) ?_
    refine r_gI X hR fk_X4_26 dX4_begin_14 hw (fun x1 hw => ?_)
    refine lv_icmp_ge (tgt := 66) hx hb dX4_begin_17 (by decide) (fun c2 => ?_) (fun c2 => ?_)
    · have hw := hw.1 c2
      exact r_vret X hR rfl dX4_begin_66 hw
    · have hw := hw.2 c2
      refine r_aload_n X dX4_begin_20 rfl (lv_at hl 0 rfl) ?_
      refine r_gR X hR fk_X4_9 dX4_begin_21 hw (fun x3 hw => ?_)
      refine lv_iload_n hx hb dX4_begin_24 rfl (lv_at hl 2 rfl) ?_
      refine r_aload_n X dX4_begin_25 rfl (lv_at hl 1 rfl) ?_
      refine r_gR X hR fk_X4_31 dX4_begin_26 hw (fun x4 hw => ?_)
      refine lv_iload_n hx hb dX4_begin_29 rfl (lv_at hl 2 rfl) ?_
      refine r_aald X hR (t := 6) (by decide) (by decide) dX4_begin_30 hw (fun x5 hw => ?_)
      refine r_gI X hR fk_X4_35 dX4_begin_31 hw (fun x6 hw => ?_)
      refine r_iast X hR dX4_begin_34 hw (fun H locs h hR hw => ?_)
      refine r_aload_n X dX4_begin_35 rfl (lv_at hl 0 rfl) ?_
      refine r_gR X hR fk_X4_15 dX4_begin_36 hw (fun x7 hw => ?_)
      refine lv_iload_n hx hb dX4_begin_39 rfl (lv_at hl 2 rfl) ?_
      refine lv_bipush (v := (-2)) hx hb dX4_begin_40 (by decide) ?_
      refine r_iast X hR dX4_begin_42 hw (fun H locs h hR hw => ?_)
      refine r_aload_n X dX4_begin_43 rfl (lv_at hl 1 rfl) ?_
      refine r_gR X hR fk_X4_31 dX4_begin_44 hw (fun x8 hw => ?_)
      refine lv_iload_n hx hb dX4_begin_47 rfl (lv_at hl 2 rfl) ?_
      refine r_aald X hR (t := 6) (by decide) (by decide) dX4_begin_48 hw (fun x9 hw => ?_)
      refine r_callI X hR (r_letRun (qq := qI) hw (fun K11 hw => Or.elim hw (fun hw => c_U (C := "UmbrellaHeir$Silk") (owner := "UmbrellaHeir$Umbrella") (x := ⟨"UmbrellaHeir$Umbrella", "isTitled", "()Z"⟩) (ci := 16) (q := (RX16, TY16, 5)) X hR hl.1 (c_X15_isTitled l g x9) rfl rfl (va_cwU (C := "UmbrellaHeir$Silk") (owner := "UmbrellaHeir$Umbrella") (x := ⟨"UmbrellaHeir$Umbrella", "isTitled", "()Z"⟩) (y := yX15_isTitled) 0 X.hts (lw_app (List.forall_mem_cons.mpr ⟨q1016, List.forall_mem_cons.mpr ⟨q1018, List.forall_mem_cons.mpr ⟨q1021, List.forall_mem_cons.mpr ⟨q1017, List.forall_mem_cons.mpr ⟨q137, fun _ h => absurd h List.not_mem_nil⟩⟩⟩⟩⟩) (lw_meth q1025)) rfl rfl rfl rfl ⟨by decide +kernel, by decide +kernel, by decide +kernel⟩ (rm_ok (by decide) (by decide))) rfl rfl (cat4 (Nat.le_of_ble_eq_true rfl)) dX4_begin_49 hw) (fun hw => Or.elim hw (fun hw => c_U (C := "UmbrellaHeir$Cotton") (owner := "UmbrellaHeir$Umbrella") (x := ⟨"UmbrellaHeir$Umbrella", "isTitled", "()Z"⟩) (ci := 17) (q := (RX17, TY17, 5)) X hR hl.1 (c_X15_isTitled l g x9) rfl rfl (va_cwU (C := "UmbrellaHeir$Cotton") (owner := "UmbrellaHeir$Umbrella") (x := ⟨"UmbrellaHeir$Umbrella", "isTitled", "()Z"⟩) (y := yX15_isTitled) 0 X.hts (lw_app (List.forall_mem_cons.mpr ⟨q1016, List.forall_mem_cons.mpr ⟨q1018, List.forall_mem_cons.mpr ⟨q1019, List.forall_mem_cons.mpr ⟨q1017, List.forall_mem_cons.mpr ⟨q137, fun _ h => absurd h List.not_mem_nil⟩⟩⟩⟩⟩) (lw_meth q1025)) rfl rfl rfl rfl ⟨by decide +kernel, by decide +kernel, by decide +kernel⟩ (rm_ok (by decide) (by decide))) rfl rfl (cat4 (Nat.le_of_ble_eq_true rfl)) dX4_begin_49 hw) (fun hw => Or.elim hw (fun hw => c_U (C := "UmbrellaHeir$Stick") (owner := "UmbrellaHeir$Umbrella") (x := ⟨"UmbrellaHeir$Umbrella", "isTitled", "()Z"⟩) (ci := 18) (q := (RX18, TY18, 5)) X hR hl.1 (c_X18_isTitled l g x9) rfl rfl (va_cwO (C := "UmbrellaHeir$Stick") (owner := "UmbrellaHeir$Umbrella") (x := ⟨"UmbrellaHeir$Umbrella", "isTitled", "()Z"⟩) (y := yX18_isTitled) 0 X.hts (lw_app (List.forall_mem_cons.mpr ⟨q1016, List.forall_mem_cons.mpr ⟨q1018, List.forall_mem_cons.mpr ⟨q1017, List.forall_mem_cons.mpr ⟨q1022, List.forall_mem_cons.mpr ⟨q1023, List.forall_mem_cons.mpr ⟨q140, fun _ h => absurd h List.not_mem_nil⟩⟩⟩⟩⟩⟩) (lw_meth q1024)) rfl rfl rfl q1025 ⟨by decide +kernel, by decide +kernel, by decide +kernel⟩ (rm_ok (by decide) (by decide))) rfl rfl (cat4 (Nat.le_of_ble_eq_true rfl)) dX4_begin_49 hw) (fun hw => c_U (C := "UmbrellaHeir$Parasol") (owner := "UmbrellaHeir$Umbrella") (x := ⟨"UmbrellaHeir$Umbrella", "isTitled", "()Z"⟩) (ci := 19) (q := (RX19, TY19, 5)) X hR hl.1 (c_X15_isTitled l g x9) rfl rfl (va_cwU (C := "UmbrellaHeir$Parasol") (owner := "UmbrellaHeir$Umbrella") (x := ⟨"UmbrellaHeir$Umbrella", "isTitled", "()Z"⟩) (y := yX15_isTitled) 0 X.hts (lw_app (List.forall_mem_cons.mpr ⟨q1016, List.forall_mem_cons.mpr ⟨q1018, List.forall_mem_cons.mpr ⟨q1020, List.forall_mem_cons.mpr ⟨q1017, List.forall_mem_cons.mpr ⟨q137, fun _ h => absurd h List.not_mem_nil⟩⟩⟩⟩⟩) (lw_meth q1025)) rfl rfl rfl rfl ⟨by decide +kernel, by decide +kernel, by decide +kernel⟩ (rm_ok (by decide) (by decide))) rfl rfl (cat4 (Nat.le_of_ble_eq_true rfl)) dX4_begin_49 hw))))) (fun x10 h H locs cells slots hR hw => ?_)
      refine lv_if_eq (tgt := 60) hx hb dX4_begin_52 (by decide) (fun c12 => ?_) (fun c12 => ?_)
      · have hw := hw.1 c12
        exact t_X4_begin_J60 X k12 hw hR (lv_sub hl [0, 1, 2] rfl)
      · have hw := hw.2 c12
        refine r_aload_n X dX4_begin_55 rfl (lv_at hl 0 rfl) ?_
        refine lv_iload_n hx hb dX4_begin_56 rfl (lv_at hl 2 rfl) ?_
        refine r_callV X hR (c_V (ci := 4) (q := (RX4, TX4, 4)) X hR hl.1 (c_X4_takes l g v0 v2) (lw_V q1026 q1028 qs30 q121 q1029) rfl rfl mh_X4_takes rfl (by decide) (by decide) rfl (cat4 (Nat.le_of_ble_eq_true rfl)) dX4_begin_57 hw) (fun _ h H locs cells slots hR hw => ?_)
        exact t_X4_begin_J60 X k12 hw hR (lv_sub hl [0, 1, 2] rfl)
theorem c_X4_begin (l : Launch) (g : GT) (v0 : Option Nat) (v1 : Option Nat) : CT qV l yX4_begin (ws_ yX4_begin cX4_begin 3 none) 3 g [va_rf v0, va_rf v1] (fun K E h => w_X4_begin g v0 v1 K E h) := by
  refine CT_of (lv := [(0, va_rf v0), (1, va_rf v1)]) (by decide +kernel) (by simp [lg_sl, cat_rf, cat_int, cat_long]) (by simp [lv_args, cat_rf, cat_int, cat_long]) (fun h0 K E p e s m args below meth c H locs cells slots ls X hxt hmn hw hR hl => ?_)
  have hx := X.hx
  have hb := X.hb
  unfold w_X4_begin at hw
  refine r_aload_n X dX4_begin_0 rfl (lv_at hl 0 rfl) ?_
  refine r_aload_n X dX4_begin_1 rfl (lv_at hl 1 rfl) ?_
  refine r_put X hR fp_X4_18 (Or.inl fn_X4_18) (nf_obj _ _) dX4_begin_2 hw (fun H locs h hR hw => ?_)
  refine r_aload_n X dX4_begin_5 rfl (lv_at hl 0 rfl) ?_
  refine lv_iconst (v := 0) hx hb dX4_begin_6 (by decide) ?_
  refine r_put X hR fp_X4_22 (Or.inl fn_X4_22) (nf_int _) dX4_begin_7 hw (fun H locs h hR hw => ?_)
  refine lv_iconst (v := 0) hx hb dX4_begin_10 (by decide) ?_
  refine lv_istore_n (i := 2) (lv' := [(2, .int 0), (0, va_rf v0), (1, va_rf v1)]) hx hb dX4_begin_11 rfl hl (by decide) (by simp [cat_rf, cat_int, cat_long]) (fun ls hl => ?_)
  obtain ⟨n, hw⟩ := hw
  exact t_X4_begin_L12 X  n hw hR (lv_sub hl [1, 2, 0] rfl)
theorem c_X4_change (l : Launch) (g : GT) (v0 : Option Nat) (v1 : Int32) (v2 : Int32) : CT qV l yX4_change (ws_ yX4_change cX4_change 4 none) 1 g [va_rf v0, .int v1, .int v2] (fun K E h => w_X4_change g v0 v1 v2 K E h) := by
  refine CT_of (lv := [(0, va_rf v0), (1, .int v1), (2, .int v2)]) (by decide +kernel) (by simp [lg_sl, cat_rf, cat_int, cat_long]) (by simp [lv_args, cat_rf, cat_int, cat_long]) (fun h0 K E p e s m args below meth c H locs cells slots ls X hxt hmn hw hR hl => ?_)
  have hx := X.hx
  have hb := X.hb
  unfold w_X4_change at hw
  refine r_aload_n X dX4_change_0 rfl (lv_at hl 0 rfl) ?_
  refine r_gR X hR fk_X4_9 dX4_change_1 hw (fun x1 hw => ?_)
  refine lv_iload_n hx hb dX4_change_4 rfl (lv_at hl 1 rfl) ?_
  refine r_iald X hR dX4_change_5 hw (fun x2 hw => ?_)
  refine lv_istore_n (i := 3) (lv' := [(3, .int x2), (0, va_rf v0), (1, .int v1), (2, .int v2)]) hx hb dX4_change_6 rfl hl (by decide) rfl (fun ls hl => ?_)
  refine r_aload_n X dX4_change_7 rfl (lv_at hl 1 rfl) ?_
  refine r_gR X hR fk_X4_9 dX4_change_8 hw (fun x3 hw => ?_)
  refine lv_iload_n hx hb dX4_change_11 rfl (lv_at hl 2 rfl) ?_
  refine r_aload_n X dX4_change_12 rfl (lv_at hl 1 rfl) ?_
  refine r_gR X hR fk_X4_9 dX4_change_13 hw (fun x4 hw => ?_)
  refine lv_iload_n hx hb dX4_change_16 rfl (lv_at hl 3 rfl) ?_
  refine r_iald X hR dX4_change_17 hw (fun x5 hw => ?_)
  refine r_iast X hR dX4_change_18 hw (fun H locs h hR hw => ?_)
  refine r_aload_n X dX4_change_19 rfl (lv_at hl 1 rfl) ?_
  refine r_gR X hR fk_X4_9 dX4_change_20 hw (fun x6 hw => ?_)
  refine lv_iload_n hx hb dX4_change_23 rfl (lv_at hl 3 rfl) ?_
  refine lv_iload_n hx hb dX4_change_24 rfl (lv_at hl 0 rfl) ?_
  refine r_iast X hR dX4_change_25 hw (fun H locs h hR hw => ?_)
  exact r_vret X hR rfl dX4_change_26 hw
theorem c_X21_happens (l : Launch) (g : GT) (v0 : Option Nat) (v1 : Option Nat) : CT qV l yX21_happens (ws_ yX21_happens cX21_happens 2 none) 1 g [va_rf v0, va_rf v1] (fun K E h => w_X21_happens g v0 v1 K E h) := by
  refine CT_of (lv := [(0, va_rf v0), (1, va_rf v1)]) (by decide +kernel) (by simp [lg_sl, cat_rf, cat_int, cat_long]) (by simp [lv_args, cat_rf, cat_int, cat_long]) (fun h0 K E p e s m args below meth c H locs cells slots ls X hxt hmn hw hR hl => ?_)
  have hx := X.hx
  have hb := X.hb
  unfold w_X21_happens at hw
  refine r_aload_n X dX21_happens_0 rfl (lv_at hl 1 rfl) ?_
  refine r_gR X hR fk_X21_13 dX21_happens_1 hw (fun x1 hw => ?_)
  refine r_aload_n X dX21_happens_4 rfl (lv_at hl 0 rfl) ?_
  refine r_gI X hR fk_X21_19 dX21_happens_5 hw (fun x2 hw => ?_)
  refine r_aload_n X dX21_happens_8 rfl (lv_at hl 0 rfl) ?_
  refine r_gI X hR fk_X21_7 dX21_happens_9 hw (fun x3 hw => ?_)
  refine r_iast X hR dX21_happens_12 hw (fun H locs h hR hw => ?_)
  exact r_vret X hR rfl dX21_happens_13 hw
theorem c_X22_happens (l : Launch) (g : GT) (v0 : Option Nat) (v1 : Option Nat) : CT qV l yX22_happens (ws_ yX22_happens cX22_happens 2 none) 1 g [va_rf v0, va_rf v1] (fun K E h => w_X22_happens g v0 v1 K E h) := by
  refine CT_of (lv := [(0, va_rf v0), (1, va_rf v1)]) (by decide +kernel) (by simp [lg_sl, cat_rf, cat_int, cat_long]) (by simp [lv_args, cat_rf, cat_int, cat_long]) (fun h0 K E p e s m args below meth c H locs cells slots ls X hxt hmn hw hR hl => ?_)
  have hx := X.hx
  have hb := X.hb
  unfold w_X22_happens at hw
  refine r_aload_n X dX22_happens_0 rfl (lv_at hl 1 rfl) ?_
  refine r_gR X hR fk_X22_9 dX22_happens_1 hw (fun x1 hw => ?_)
  refine r_aload_n X dX22_happens_4 rfl (lv_at hl 0 rfl) ?_
  refine r_gI X hR fk_X22_15 dX22_happens_5 hw (fun x2 hw => ?_)
  refine lv_bipush (v := (-2)) hx hb dX22_happens_8 (by decide) ?_
  refine r_iast X hR dX22_happens_10 hw (fun H locs h hR hw => ?_)
  exact r_vret X hR rfl dX22_happens_11 hw
theorem c_X23_happens (l : Launch) (g : GT) (v0 : Option Nat) (v1 : Option Nat) : CT qV l yX23_happens (ws_ yX23_happens cX23_happens 2 none) 2 g [va_rf v0, va_rf v1] (fun K E h => w_X23_happens g v0 v1 K E h) := by
  refine CT_of (lv := [(0, va_rf v0), (1, va_rf v1)]) (by decide +kernel) (by simp [lg_sl, cat_rf, cat_int, cat_long]) (by simp [lv_args, cat_rf, cat_int, cat_long]) (fun h0 K E p e s m args below meth c H locs cells slots ls X hxt hmn hw hR hl => ?_)
  have hx := X.hx
  have hb := X.hb
  unfold w_X23_happens at hw
  refine r_aload_n X dX23_happens_0 rfl (lv_at hl 1 rfl) ?_
  refine r_aload_n X dX23_happens_1 rfl (lv_at hl 0 rfl) ?_
  refine r_gI X hR fk_X23_13 dX23_happens_2 hw (fun x1 hw => ?_)
  refine r_aload_n X dX23_happens_5 rfl (lv_at hl 0 rfl) ?_
  refine r_gI X hR fk_X23_7 dX23_happens_6 hw (fun x2 hw => ?_)
  refine r_callV X hR (c_V (ci := 4) (q := (RX4, TX4, 4)) X hR hl.1 (c_X4_change l g v1 x1 x2) (lw_V q1054 q1045 q1046 q121 q1047) rfl rfl mh_X4_change rfl (by decide) (by decide) rfl (cat4 (Nat.le_of_ble_eq_true rfl)) dX23_happens_9 hw) (fun _ h H locs cells slots hR hw => ?_)
  exact r_vret X hR rfl dX23_happens_12 hw
theorem c_X24_happens (l : Launch) (g : GT) (v0 : Option Nat) (v1 : Option Nat) : CT qV l yX24_happens (ws_ yX24_happens cX24_happens 2 none) 1 g [va_rf v0, va_rf v1] (fun K E h => w_X24_happens g v0 v1 K E h) := by
  refine CT_of (lv := [(0, va_rf v0), (1, va_rf v1)]) (by decide +kernel) (by simp [lg_sl, cat_rf, cat_int, cat_long]) (by simp [lv_args, cat_rf, cat_int, cat_long]) (fun h0 K E p e s m args below meth c H locs cells slots ls X hxt hmn hw hR hl => ?_)
  have hx := X.hx
  have hb := X.hb
  unfold w_X24_happens at hw
  exact r_vret X hR rfl dX24_happens_0 hw
theorem c_X20_isRain (l : Launch) (g : GT) (v0 : Option Nat) : CT qI l yX20_isRain (ws_ yX20_isRain cX20_isRain 1 (Option.some Jvm.ClassFile.FieldType.boolean)) 1 g [va_rf v0] (fun K E h => w_X20_isRain g v0 K E h) := by
  refine CT_of (lv := [(0, va_rf v0)]) (by decide +kernel) (by simp [lg_sl, cat_rf, cat_int, cat_long]) (by simp [lv_args, cat_rf, cat_int, cat_long]) (fun h0 K E p e s m args below meth c H locs cells slots ls X hxt hmn hw hR hl => ?_)
  have hx := X.hx
  have hb := X.hb
  unfold w_X20_isRain at hw
  refine lv_iconst (v := 0) hx hb dX20_isRain_0 (by decide) ?_
  exact r_zret X hR dX20_isRain_1 hw
theorem c_X24_isRain (l : Launch) (g : GT) (v0 : Option Nat) : CT qI l yX24_isRain (ws_ yX24_isRain cX24_isRain 1 (Option.some Jvm.ClassFile.FieldType.boolean)) 1 g [va_rf v0] (fun K E h => w_X24_isRain g v0 K E h) := by
  refine CT_of (lv := [(0, va_rf v0)]) (by decide +kernel) (by simp [lg_sl, cat_rf, cat_int, cat_long]) (by simp [lv_args, cat_rf, cat_int, cat_long]) (fun h0 K E p e s m args below meth c H locs cells slots ls X hxt hmn hw hR hl => ?_)
  have hx := X.hx
  have hb := X.hb
  unfold w_X24_isRain at hw
  refine lv_iconst (v := 1) hx hb dX24_isRain_0 (by decide) ?_
  exact r_zret X hR dX24_isRain_1 hw
theorem c_X15_passes (l : Launch) (g : GT) (v0 : Option Nat) (v1 : Int32) : CT qI l yX15_passes (ws_ yX15_passes cX15_passes 2 (Option.some Jvm.ClassFile.FieldType.boolean)) 1 g [va_rf v0, .int v1] (fun K E h => w_X15_passes g v0 v1 K E h) := by
  refine CT_of (lv := [(0, va_rf v0), (1, .int v1)]) (by decide +kernel) (by simp [lg_sl, cat_rf, cat_int, cat_long]) (by simp [lv_args, cat_rf, cat_int, cat_long]) (fun h0 K E p e s m args below meth c H locs cells slots ls X hxt hmn hw hR hl => ?_)
  have hx := X.hx
  have hb := X.hb
  unfold w_X15_passes at hw
  refine lv_iload_n hx hb dX15_passes_0 rfl (lv_at hl 1 rfl) ?_
  exact r_zret X hR dX15_passes_1 hw
theorem c_X18_passes (l : Launch) (g : GT) (v0 : Option Nat) (v1 : Int32) : CT qI l yX18_passes (ws_ yX18_passes cX18_passes 2 (Option.some Jvm.ClassFile.FieldType.boolean)) 1 g [va_rf v0, .int v1] (fun K E h => w_X18_passes g v0 v1 K E h) := by
  refine CT_of (lv := [(0, va_rf v0), (1, .int v1)]) (by decide +kernel) (by simp [lg_sl, cat_rf, cat_int, cat_long]) (by simp [lv_args, cat_rf, cat_int, cat_long]) (fun h0 K E p e s m args below meth c H locs cells slots ls X hxt hmn hw hR hl => ?_)
  have hx := X.hx
  have hb := X.hb
  unfold w_X18_passes at hw
  refine lv_iconst (v := 0) hx hb dX18_passes_0 (by decide) ?_
  exact r_zret X hR dX18_passes_1 hw
theorem c_X19_passes (l : Launch) (g : GT) (v0 : Option Nat) (v1 : Int32) : CT qI l yX19_passes (ws_ yX19_passes cX19_passes 2 (Option.some Jvm.ClassFile.FieldType.boolean)) 2 g [va_rf v0, .int v1] (fun K E h => w_X19_passes g v0 v1 K E h) := by
  refine CT_of (lv := [(0, va_rf v0), (1, .int v1)]) (by decide +kernel) (by simp [lg_sl, cat_rf, cat_int, cat_long]) (by simp [lv_args, cat_rf, cat_int, cat_long]) (fun h0 K E p e s m args below meth c H locs cells slots ls X hxt hmn hw hR hl => ?_)
  have hx := X.hx
  have hb := X.hb
  unfold w_X19_passes at hw
  refine r_aload_n X dX19_passes_0 rfl (lv_at hl 0 rfl) ?_
  refine lv_iload_n hx hb dX19_passes_1 rfl (lv_at hl 1 rfl) ?_
  refine r_callI X hR (c_SU (n := 1) (ci := 19) (q := (RX19, TY19, 5)) X hR hl.1 (c_X15_passes l g v0 v1) rfl (lw_app (List.forall_mem_cons.mpr ⟨q1088, List.forall_mem_cons.mpr ⟨q1083, List.forall_mem_cons.mpr ⟨q890, List.forall_mem_cons.mpr ⟨q1082, List.forall_mem_cons.mpr ⟨q137, fun _ h => absurd h List.not_mem_nil⟩⟩⟩⟩⟩) (lw_meth q1089)) ⟨by decide +kernel, by decide +kernel⟩ rfl (by decide) (by decide) rfl (cat4 (Nat.le_of_ble_eq_true rfl)) dX19_passes_2 hw) (fun x1 h H locs cells slots hR hw => ?_)
  refine lv_if_ne (tgt := 12) hx hb dX19_passes_5 (by decide) (fun c2 => ?_) (fun c2 => ?_)
  · have hw := hw.1 c2
    refine lv_iconst (v := 0) hx hb dX19_passes_12 (by decide) ?_
    exact r_zret X hR dX19_passes_13 hw
  · have hw := hw.2 c2
    refine lv_iconst (v := 1) hx hb dX19_passes_8 (by decide) ?_
    refine lv_goto (tgt := 13) hx hb dX19_passes_9 (by decide) ?_
    exact r_zret X hR dX19_passes_13 hw
theorem c_X16_doesLapse (l : Launch) (g : GT) (v0 : Option Nat) : CT qI l yX16_doesLapse (ws_ yX16_doesLapse cX16_doesLapse 1 (Option.some Jvm.ClassFile.FieldType.boolean)) 1 g [va_rf v0] (fun K E h => w_X16_doesLapse g v0 K E h) := by
  refine CT_of (lv := [(0, va_rf v0)]) (by decide +kernel) (by simp [lg_sl, cat_rf, cat_int, cat_long]) (by simp [lv_args, cat_rf, cat_int, cat_long]) (fun h0 K E p e s m args below meth c H locs cells slots ls X hxt hmn hw hR hl => ?_)
  have hx := X.hx
  have hb := X.hb
  unfold w_X16_doesLapse at hw
  refine lv_iconst (v := 0) hx hb dX16_doesLapse_0 (by decide) ?_
  exact r_zret X hR dX16_doesLapse_1 hw
theorem c_X15_doesLapse (l : Launch) (g : GT) (v0 : Option Nat) : CT qI l yX15_doesLapse (ws_ yX15_doesLapse cX15_doesLapse 1 (Option.some Jvm.ClassFile.FieldType.boolean)) 1 g [va_rf v0] (fun K E h => w_X15_doesLapse g v0 K E h) := by
  refine CT_of (lv := [(0, va_rf v0)]) (by decide +kernel) (by simp [lg_sl, cat_rf, cat_int, cat_long]) (by simp [lv_args, cat_rf, cat_int, cat_long]) (fun h0 K E p e s m args below meth c H locs cells slots ls X hxt hmn hw hR hl => ?_)
  have hx := X.hx
  have hb := X.hb
  unfold w_X15_doesLapse at hw
  refine lv_iconst (v := 1) hx hb dX15_doesLapse_0 (by decide) ?_
  exact r_zret X hR dX15_doesLapse_1 hw
theorem c_X11_doesLeave (l : Launch) (g : GT) (v0 : Option Nat) : CT qI l yX11_doesLeave (ws_ yX11_doesLeave cX11_doesLeave 1 (Option.some Jvm.ClassFile.FieldType.boolean)) 1 g [va_rf v0] (fun K E h => w_X11_doesLeave g v0 K E h) := by
  refine CT_of (lv := [(0, va_rf v0)]) (by decide +kernel) (by simp [lg_sl, cat_rf, cat_int, cat_long]) (by simp [lv_args, cat_rf, cat_int, cat_long]) (fun h0 K E p e s m args below meth c H locs cells slots ls X hxt hmn hw hR hl => ?_)
  have hx := X.hx
  have hb := X.hb
  unfold w_X11_doesLeave at hw
  refine lv_iconst (v := 0) hx hb dX11_doesLeave_0 (by decide) ?_
  exact r_zret X hR dX11_doesLeave_1 hw
theorem c_X14_doesLeave (l : Launch) (g : GT) (v0 : Option Nat) : CT qI l yX14_doesLeave (ws_ yX14_doesLeave cX14_doesLeave 1 (Option.some Jvm.ClassFile.FieldType.boolean)) 1 g [va_rf v0] (fun K E h => w_X14_doesLeave g v0 K E h) := by
  refine CT_of (lv := [(0, va_rf v0)]) (by decide +kernel) (by simp [lg_sl, cat_rf, cat_int, cat_long]) (by simp [lv_args, cat_rf, cat_int, cat_long]) (fun h0 K E p e s m args below meth c H locs cells slots ls X hxt hmn hw hR hl => ?_)
  have hx := X.hx
  have hb := X.hb
  unfold w_X14_doesLeave at hw
  refine lv_iconst (v := 1) hx hb dX14_doesLeave_0 (by decide) ?_
  exact r_zret X hR dX14_doesLeave_1 hw
theorem t_X4_has_J33 {p : Program} {l : Launch} {e : Env} {s : State} {m : MethodId} {args : Array Value} {below : List Frame} {meth : Method} {c : Code} {g : GT} {h0 : AH} {v0 : Option Nat} {v1 : Int32} {v3 : Int32} {s0 : Int32} {s1 : Int32} {K : Int32 → AH → Prop} {E : Nat → AH → Prop} {L4 : Int32 → Int32 → AH → Prop} {h : AH} {H : Heap} {locs : List Loc} {cells slots : Nat} {ls : Array Slot} (X : Cx g h0 p s m args meth c RX4 cX4_has 4 (Option.some Jvm.ClassFile.FieldType.int)) (k4 : ∀ {v2' : Int32} {v3' : Int32} {h : AH} {H : Heap} {locs : List Loc} {cells slots : Nat} {ls : Array Slot}, L4 v2' v3' h → HS g s h H locs → lv_has ls 4 [(0, va_rf v0), (1, .int v1), (2, .int (v2')), (3, .int (v3'))] → W p l e (RM 1 h0) s m args below meth c H locs cells slots (MQT below g (qI K) E args s h0) (F0 m 4 ls [])) (hw : w_X4_has_J33 g v0 v1 v3 s0 s1 K E L4 h) (hR : HS g s h H locs) (hl : lv_has ls 4 [(0, va_rf v0), (1, .int v1), (3, .int v3)]) : W p l e (RM 1 h0) s m args below meth c H locs cells slots (MQT below g (qI K) E args s h0) (F0 m 33 ls [.int s0, .int s1]) := by
  have hx := X.hx
  have hb := X.hb
  unfold w_X4_has_J33 at hw
  refine lv_ior hx hb dX4_has_33 ?_
  refine r_nmI hw (fun x7 hw => ?_)
  refine lv_istore_n (i := 2) (lv' := [(2, .int x7), (0, va_rf v0), (1, .int v1), (3, .int v3)]) hx hb dX4_has_34 rfl hl (by decide) rfl (fun ls hl => ?_)
  refine r_iinc X (k := 3) (v := (v3 + 1)) (lv' := fun x8 => [(3, .int x8), (2, .int x7), (0, va_rf v0), (1, .int v1)]) dX4_has_35 hl rfl rfl (by decide) hw (fun _ => rfl) (fun x8 hw ls hl => ?_)
  refine lv_goto (tgt := 4) hx hb dX4_has_38 (by decide) ?_
  exact k4 hw hR (lv_sub hl [2, 3, 1, 0] rfl)
theorem t_X4_has_L4 {p : Program} {l : Launch} {e : Env} {s : State} {m : MethodId} {args : Array Value} {below : List Frame} {meth : Method} {c : Code} {g : GT} {h0 : AH} {v0 : Option Nat} {v1 : Int32} {K : Int32 → AH → Prop} {E : Nat → AH → Prop} (X : Cx g h0 p s m args meth c RX4 cX4_has 4 (Option.some Jvm.ClassFile.FieldType.int))  : ∀ (n : Nat) {v2 : Int32} {v3 : Int32} {h : AH} {H : Heap} {locs : List Loc} {cells slots : Nat} {ls : Array Slot}, LpN2 (w_X4_has_L4 g v0 v1 K E) n v2 v3 h → HS g s h H locs → lv_has ls 4 [(0, va_rf v0), (1, .int v1), (2, .int v2), (3, .int v3)] → W p l e (RM 1 h0) s m args below meth c H locs cells slots (MQT below g (qI K) E args s h0) (F0 m 4 ls []) := by
  have hx := X.hx
  have hb := X.hb
  intro n
  induction n with
  | zero =>
    intro v2 v3 h H locs cells slots ls hw
    exact hw.elim
  | succ n k4 =>
    intro v2 v3 h H locs cells slots ls hw hR hl
    have hw : w_X4_has_L4 g v0 v1 K E (LpN2 (w_X4_has_L4 g v0 v1 K E) n) v2 v3 h := hw
    unfold w_X4_has_L4 at hw
    refine lv_iload_n hx hb dX4_has_4 rfl (lv_at hl 3 rfl) ?_
    refine r_aload_n X dX4_has_5 rfl (lv_at hl 0 rfl) ?_
    refine r_gR X hR fk_X4_18 dX4_has_6 hw (fun x1 hw => ?_)
    refine r_gI X hR fk_X4_26 dX4_has_9 hw (fun x2 hw => ?_)
    refine lv_icmp_ge (tgt := 41) hx hb dX4_has_12 (by decide) (fun c3 => ?_) (fun c3 => ?_)
    · have hw := hw.1 c3
      refine lv_iload_n hx hb dX4_has_41 rfl (lv_at hl 2 rfl) ?_
      exact r_iret X hR dX4_has_42 hw
    · have hw := hw.2 c3
      refine lv_iload_n hx hb dX4_has_15 rfl (lv_at hl 2 rfl) ?_
      refine r_aload_n X dX4_has_16 rfl (lv_at hl 0 rfl) ?_
      refine r_gR X hR fk_X4_9 dX4_has_17 hw (fun x4 hw => ?_)
      refine lv_iload_n hx hb dX4_has_20 rfl (lv_at hl 3 rfl) ?_
      refine r_iald X hR dX4_has_21 hw (fun x5 hw => ?_)
      refine lv_iload_n hx hb dX4_has_22 rfl (lv_at hl 1 rfl) ?_
      refine lv_icmp_ne (tgt := 32) hx hb dX4_has_23 (by decide) (fun c6 => ?_) (fun c6 => ?_)
      · have hw := hw.1 c6
        refine lv_iconst (v := 0) hx hb dX4_has_32 (by decide) ?_
        exact t_X4_has_J33 X k4 hw hR (lv_sub hl [0, 1, 3] rfl)
      · have hw := hw.2 c6
        refine lv_iconst (v := 1) hx hb dX4_has_26 (by decide) ?_
        refine lv_iload_n hx hb dX4_has_27 rfl (lv_at hl 3 rfl) ?_
        refine lv_ishl hx hb dX4_has_28 ?_
        refine lv_goto (tgt := 33) hx hb dX4_has_29 (by decide) ?_
        exact t_X4_has_J33 X k4 hw hR (lv_sub hl [0, 1, 3] rfl)
theorem c_X4_has (l : Launch) (g : GT) (v0 : Option Nat) (v1 : Int32) : CT qI l yX4_has (ws_ yX4_has cX4_has 4 (Option.some Jvm.ClassFile.FieldType.int)) 1 g [va_rf v0, .int v1] (fun K E h => w_X4_has g v0 v1 K E h) := by
  refine CT_of (lv := [(0, va_rf v0), (1, .int v1)]) (by decide +kernel) (by simp [lg_sl, cat_rf, cat_int, cat_long]) (by simp [lv_args, cat_rf, cat_int, cat_long]) (fun h0 K E p e s m args below meth c H locs cells slots ls X hxt hmn hw hR hl => ?_)
  have hx := X.hx
  have hb := X.hb
  unfold w_X4_has at hw
  refine lv_iconst (v := 0) hx hb dX4_has_0 (by decide) ?_
  refine lv_istore_n (i := 2) (lv' := [(2, .int 0), (0, va_rf v0), (1, .int v1)]) hx hb dX4_has_1 rfl hl (by decide) rfl (fun ls hl => ?_)
  refine lv_iconst (v := 0) hx hb dX4_has_2 (by decide) ?_
  refine lv_istore_n (i := 3) (lv' := [(3, .int 0), (2, .int 0), (0, va_rf v0), (1, .int v1)]) hx hb dX4_has_3 rfl hl (by decide) rfl (fun ls hl => ?_)
  obtain ⟨n, hw⟩ := hw
  exact t_X4_has_L4 X  n hw hR (lv_sub hl [2, 3, 1, 0] rfl)
theorem t_X1_ones_L4 {p : Program} {l : Launch} {e : Env} {s : State} {m : MethodId} {args : Array Value} {below : List Frame} {meth : Method} {c : Code} {g : GT} {h0 : AH} {K : Int32 → AH → Prop} {E : Nat → AH → Prop} (X : Cx g h0 p s m args meth c RX1 cX1_ones 3 (Option.some Jvm.ClassFile.FieldType.int))  : ∀ (n : Nat) {v1 : Int32} {v2 : Int32} {h : AH} {H : Heap} {locs : List Loc} {cells slots : Nat} {ls : Array Slot}, LpN2 (w_X1_ones_L4 g  K E) n v1 v2 h → HS g s h H locs → lv_has ls 3 [(1, .int v1), (2, .int v2)] → W p l e (RM 1 h0) s m args below meth c H locs cells slots (MQT below g (qI K) E args s h0) (F0 m 4 ls []) := by
  have hx := X.hx
  have hb := X.hb
  intro n
  induction n with
  | zero =>
    intro v1 v2 h H locs cells slots ls hw
    exact hw.elim
  | succ n k4 =>
    intro v1 v2 h H locs cells slots ls hw hR hl
    have hw : w_X1_ones_L4 g  K E (LpN2 (w_X1_ones_L4 g  K E) n) v1 v2 h := hw
    unfold w_X1_ones_L4 at hw
    refine lv_iload_n hx hb dX1_ones_4 rfl (lv_at hl 1 rfl) ?_
    refine lv_if_eq (tgt := 20) hx hb dX1_ones_5 (by decide) (fun c1 => ?_) (fun c1 => ?_)
    · have hw := hw.1 c1
      refine lv_iload_n hx hb dX1_ones_20 rfl (lv_at hl 0 rfl) ?_
      exact r_iret X hR dX1_ones_21 hw
    · have hw := hw.2 c1
      refine r_iinc X (k := 0) (v := (v1 + 1)) (lv' := fun x2 => [(1, .int x2), (2, .int v2)]) dX1_ones_8 hl rfl rfl (by decide) hw (fun _ => rfl) (fun x2 hw ls hl => ?_)
      refine lv_iload_n hx hb dX1_ones_11 rfl (lv_at hl 1 rfl) ?_
      refine lv_iload_n hx hb dX1_ones_12 rfl (lv_at hl 1 rfl) ?_
      refine lv_iconst (v := 1) hx hb dX1_ones_13 (by decide) ?_
      refine lv_isub hx hb dX1_ones_14 ?_
      refine lv_iand hx hb dX1_ones_15 ?_
      refine r_nmI hw (fun x3 hw => ?_)
      refine lv_istore_n (i := 2) (lv' := [(2, .int x3), (1, .int x2)]) hx hb dX1_ones_16 rfl hl (by decide) rfl (fun ls hl => ?_)
      refine lv_goto (tgt := 4) hx hb dX1_ones_17 (by decide) ?_
      exact k4 hw hR (lv_sub hl [1, 0] rfl)
theorem c_X1_ones (l : Launch) (g : GT) (v0 : Int32) : CT qI l yX1_ones (ws_ yX1_ones cX1_ones 3 (Option.some Jvm.ClassFile.FieldType.int)) 1 g [.int v0] (fun K E h => w_X1_ones g v0 K E h) := by
  refine CT_of (lv := [(0, .int v0)]) (by decide +kernel) (by simp [lg_sl, cat_rf, cat_int, cat_long]) (by simp [lv_args, cat_rf, cat_int, cat_long]) (fun h0 K E p e s m args below meth c H locs cells slots ls X hxt hmn hw hR hl => ?_)
  have hx := X.hx
  have hb := X.hb
  unfold w_X1_ones at hw
  refine lv_iconst (v := 0) hx hb dX1_ones_0 (by decide) ?_
  refine lv_istore_n (i := 1) (lv' := [(1, .int 0), (0, .int v0)]) hx hb dX1_ones_1 rfl hl (by decide) rfl (fun ls hl => ?_)
  refine lv_iload_n hx hb dX1_ones_2 rfl (lv_at hl 1 rfl) ?_
  refine lv_istore_n (i := 2) (lv' := [(2, .int v0), (1, .int 0), (0, .int v0)]) hx hb dX1_ones_3 rfl hl (by decide) rfl (fun ls hl => ?_)
  obtain ⟨n, hw⟩ := hw
  exact t_X1_ones_L4 X  n hw hR (lv_sub hl [1, 0] rfl)
theorem c_X1_has (l : Launch) (g : GT) (v0 : Int32) (v1 : Int32) : CT qI l yX1_has (ws_ yX1_has cX1_has 2 (Option.some Jvm.ClassFile.FieldType.boolean)) 1 g [.int v0, .int v1] (fun K E h => w_X1_has g v0 v1 K E h) := by
  refine CT_of (lv := [(0, .int v0), (1, .int v1)]) (by decide +kernel) (by simp [lg_sl, cat_rf, cat_int, cat_long]) (by simp [lv_args, cat_rf, cat_int, cat_long]) (fun h0 K E p e s m args below meth c H locs cells slots ls X hxt hmn hw hR hl => ?_)
  have hx := X.hx
  have hb := X.hb
  unfold w_X1_has at hw
  refine lv_iload_n hx hb dX1_has_0 rfl (lv_at hl 0 rfl) ?_
  refine lv_iload_n hx hb dX1_has_1 rfl (lv_at hl 1 rfl) ?_
  refine lv_ishr hx hb dX1_has_2 ?_
  refine lv_iconst (v := 1) hx hb dX1_has_3 (by decide) ?_
  refine lv_iand hx hb dX1_has_4 ?_
  refine lv_iconst (v := 1) hx hb dX1_has_5 (by decide) ?_
  refine lv_icmp_ne (tgt := 13) hx hb dX1_has_6 (by decide) (fun c1 => ?_) (fun c1 => ?_)
  · have hw := hw.1 c1
    refine lv_iconst (v := 0) hx hb dX1_has_13 (by decide) ?_
    exact r_zret X hR dX1_has_14 hw
  · have hw := hw.2 c1
    refine lv_iconst (v := 1) hx hb dX1_has_9 (by decide) ?_
    refine lv_goto (tgt := 14) hx hb dX1_has_10 (by decide) ?_
    exact r_zret X hR dX1_has_14 hw
theorem t_X4_leaves_J79 {p : Program} {l : Launch} {e : Env} {s : State} {m : MethodId} {args : Array Value} {below : List Frame} {meth : Method} {c : Code} {g : GT} {h0 : AH} {v0 : Option Nat} {v2 : Int32} {v3 : Int32} {v4 : Int32} {K : Unit → AH → Prop} {E : Nat → AH → Prop} {L21 : Int32 → Int32 → AH → Prop} {h : AH} {H : Heap} {locs : List Loc} {cells slots : Nat} {ls : Array Slot} (X : Cx g h0 p s m args meth c RX4 cX4_leaves 5 none) (k21 : ∀ {v3' : Int32} {v4' : Int32} {h : AH} {H : Heap} {locs : List Loc} {cells slots : Nat} {ls : Array Slot}, L21 v3' v4' h → HS g s h H locs → lv_has ls 5 [(0, va_rf v0), (2, .int v2), (3, .int (v3')), (4, .int (v4'))] → W p l e (RM 2 h0) s m args below meth c H locs cells slots (MQT below g (qV K) E args s h0) (F0 m 21 ls [])) (hw : w_X4_leaves_J79 g v0 v2 v3 v4 K E L21 h) (hR : HS g s h H locs) (hl : lv_has ls 5 [(0, va_rf v0), (2, .int v2), (3, .int v3), (4, .int v4)]) : W p l e (RM 2 h0) s m args below meth c H locs cells slots (MQT below g (qV K) E args s h0) (F0 m 79 ls []) := by
  have hx := X.hx
  have hb := X.hb
  unfold w_X4_leaves_J79 at hw
  refine r_iinc X (k := 3) (v := (v4 + 1)) (lv' := fun x10 => [(4, .int x10), (0, va_rf v0), (2, .int v2), (3, .int v3)]) dX4_leaves_79 hl rfl rfl (by decide) hw (fun _ => rfl) (fun x10 hw ls hl => ?_)
  refine lv_goto (tgt := 21) hx hb dX4_leaves_82 (by decide) ?_
  exact k21 hw hR (lv_sub hl [1, 2, 3, 0] rfl)
theorem t_X4_leaves_J76 {p : Program} {l : Launch} {e : Env} {s : State} {m : MethodId} {args : Array Value} {below : List Frame} {meth : Method} {c : Code} {g : GT} {h0 : AH} {v0 : Option Nat} {v2 : Int32} {v4 : Int32} {K : Unit → AH → Prop} {E : Nat → AH → Prop} {L21 : Int32 → Int32 → AH → Prop} {h : AH} {H : Heap} {locs : List Loc} {cells slots : Nat} {ls : Array Slot} (X : Cx g h0 p s m args meth c RX4 cX4_leaves 5 none) (k21 : ∀ {v3' : Int32} {v4' : Int32} {h : AH} {H : Heap} {locs : List Loc} {cells slots : Nat} {ls : Array Slot}, L21 v3' v4' h → HS g s h H locs → lv_has ls 5 [(0, va_rf v0), (2, .int v2), (3, .int (v3')), (4, .int (v4'))] → W p l e (RM 2 h0) s m args below meth c H locs cells slots (MQT below g (qV K) E args s h0) (F0 m 21 ls [])) (hw : w_X4_leaves_J76 g v0 v2 v4 K E L21 h) (hR : HS g s h H locs) (hl : lv_has ls 5 [(0, va_rf v0), (2, .int v2), (4, .int v4)]) : W p l e (RM 2 h0) s m args below meth c H locs cells slots (MQT below g (qV K) E args s h0) (F0 m 76 ls []) := by
  have hx := X.hx
  have hb := X.hb
  unfold w_X4_leaves_J76 at hw
  refine lv_iload hx hb dX4_leaves_76 (lv_at hl 2 rfl) ?_
  refine lv_istore_n (i := 3) (lv' := [(3, .int v4), (0, va_rf v0), (2, .int v2), (4, .int v4)]) hx hb dX4_leaves_78 rfl hl (by decide) rfl (fun ls hl => ?_)
  exact t_X4_leaves_J79 X k21 hw hR (lv_sub hl [1, 2, 0, 3] rfl)
theorem t_X4_leaves_L21 {p : Program} {l : Launch} {e : Env} {s : State} {m : MethodId} {args : Array Value} {below : List Frame} {meth : Method} {c : Code} {g : GT} {h0 : AH} {v0 : Option Nat} {v2 : Int32} {K : Unit → AH → Prop} {E : Nat → AH → Prop} (X : Cx g h0 p s m args meth c RX4 cX4_leaves 5 none)  : ∀ (n : Nat) {v3 : Int32} {v4 : Int32} {h : AH} {H : Heap} {locs : List Loc} {cells slots : Nat} {ls : Array Slot}, LpN2 (w_X4_leaves_L21 g v0 v2 K E) n v3 v4 h → HS g s h H locs → lv_has ls 5 [(0, va_rf v0), (2, .int v2), (3, .int v3), (4, .int v4)] → W p l e (RM 2 h0) s m args below meth c H locs cells slots (MQT below g (qV K) E args s h0) (F0 m 21 ls []) := by
  have hx := X.hx
  have hb := X.hb
  intro n
  induction n with
  | zero =>
    intro v3 v4 h H locs cells slots ls hw
    exact hw.elim
  | succ n k21 =>
    intro v3 v4 h H locs cells slots ls hw hR hl
    have hw : w_X4_leaves_L21 g v0 v2 K E (LpN2 (w_X4_leaves_L21 g v0 v2 K E) n) v3 v4 h := hw
    unfold w_X4_leaves_L21 at hw
    refine lv_iload hx hb dX4_leaves_21 (lv_at hl 3 rfl) ?_
    refine r_aload_n X dX4_leaves_23 rfl (lv_at hl 0 rfl) ?_
    refine r_gR X hR fk_X4_18 dX4_leaves_24 hw (fun x4 hw => ?_)
    refine r_gI X hR fk_X4_26 dX4_leaves_27 hw (fun x5 hw => ?_)
    refine lv_icmp_ge (tgt := 85) hx hb dX4_leaves_30 (by decide) (fun c6 => ?_) (fun c6 => ?_)
    · have hw := hw.1 c6
      refine r_aload_n X dX4_leaves_85 rfl (lv_at hl 0 rfl) ?_
      refine r_gR X hR fk_X4_9 dX4_leaves_86 hw (fun x7 hw => ?_)
      refine lv_iload_n hx hb dX4_leaves_89 rfl (lv_at hl 2 rfl) ?_
      refine lv_bipush (v := (-2)) hx hb dX4_leaves_90 (by decide) ?_
      refine r_iast X hR dX4_leaves_92 hw (fun H locs h hR hw => ?_)
      exact r_vret X hR rfl dX4_leaves_93 hw
    · have hw := hw.2 c6
      refine lv_iload_n hx hb dX4_leaves_33 rfl (lv_at hl 1 rfl) ?_
      refine lv_iload hx hb dX4_leaves_34 (lv_at hl 3 rfl) ?_
      refine r_callI X hR (c_SN X hR hl.1 (c_X1_has l g v2 v4) (lw_meth q1126) q1124 q115 q1125 mh_X1_has rfl (by decide) (by decide) rfl (cat4 (Nat.le_of_ble_eq_true rfl)) dX4_leaves_36 hw) (fun x8 h H locs cells slots hR hw => ?_)
      refine lv_if_eq (tgt := 79) hx hb dX4_leaves_39 (by decide) (fun c9 => ?_) (fun c9 => ?_)
      · have hw := hw.1 c9
        exact t_X4_leaves_J79 X k21 hw hR (lv_sub hl [0, 1, 2, 3] rfl)
      · have hw := hw.2 c9
        refine lv_iload_n hx hb dX4_leaves_42 rfl (lv_at hl 2 rfl) ?_
        refine lv_bipush (v := (-2)) hx hb dX4_leaves_43 (by decide) ?_
        refine lv_icmp_eq (tgt := 76) hx hb dX4_leaves_45 (by decide) (fun c11 => ?_) (fun c11 => ?_)
        · have hw := hw.1 c11
          exact t_X4_leaves_J76 X k21 hw hR (lv_sub hl [0, 1, 3] rfl)
        · have hw := hw.2 c11
          refine r_aload_n X dX4_leaves_48 rfl (lv_at hl 0 rfl) ?_
          refine r_gR X hR fk_X4_18 dX4_leaves_49 hw (fun x12 hw => ?_)
          refine r_gR X hR fk_X4_31 dX4_leaves_52 hw (fun x13 hw => ?_)
          refine lv_iload hx hb dX4_leaves_55 (lv_at hl 3 rfl) ?_
          refine r_aald X hR (t := 6) (by decide) (by decide) dX4_leaves_57 hw (fun x14 hw => ?_)
          refine r_gI X hR fk_X4_63 dX4_leaves_58 hw (fun x15 hw => ?_)
          refine r_aload_n X dX4_leaves_61 rfl (lv_at hl 0 rfl) ?_
          refine r_gR X hR fk_X4_18 dX4_leaves_62 hw (fun x16 hw => ?_)
          refine r_gR X hR fk_X4_31 dX4_leaves_65 hw (fun x17 hw => ?_)
          refine lv_iload_n hx hb dX4_leaves_68 rfl (lv_at hl 2 rfl) ?_
          refine r_aald X hR (t := 6) (by decide) (by decide) dX4_leaves_69 hw (fun x18 hw => ?_)
          refine r_gI X hR fk_X4_63 dX4_leaves_70 hw (fun x19 hw => ?_)
          refine lv_icmp_ge (tgt := 79) hx hb dX4_leaves_73 (by decide) (fun c20 => ?_) (fun c20 => ?_)
          · have hw := hw.1 c20
            exact t_X4_leaves_J79 X k21 hw hR (lv_sub hl [0, 1, 2, 3] rfl)
          · have hw := hw.2 c20
            exact t_X4_leaves_J76 X k21 hw hR (lv_sub hl [0, 1, 3] rfl)
theorem c_X4_leaves (l : Launch) (g : GT) (v0 : Option Nat) (v1 : Int32) : CT qV l yX4_leaves (ws_ yX4_leaves cX4_leaves 5 none) 2 g [va_rf v0, .int v1] (fun K E h => w_X4_leaves g v0 v1 K E h) := by
  refine CT_of (lv := [(0, va_rf v0), (1, .int v1)]) (by decide +kernel) (by simp [lg_sl, cat_rf, cat_int, cat_long]) (by simp [lv_args, cat_rf, cat_int, cat_long]) (fun h0 K E p e s m args below meth c H locs cells slots ls X hxt hmn hw hR hl => ?_)
  have hx := X.hx
  have hb := X.hb
  unfold w_X4_leaves at hw
  refine r_aload_n X dX4_leaves_0 rfl (lv_at hl 0 rfl) ?_
  refine lv_iload_n hx hb dX4_leaves_1 rfl (lv_at hl 1 rfl) ?_
  refine r_callI X hR (c_V (ci := 4) (q := (RX4, TX4, 4)) X hR hl.1 (c_X4_has l g v0 v1) (lw_V q1117 q1118 q1119 q121 q1120) rfl rfl mh_X4_has rfl (by decide) (by decide) rfl (cat4 (Nat.le_of_ble_eq_true rfl)) dX4_leaves_2 hw) (fun x1 h H locs cells slots hR hw => ?_)
  refine lv_istore_n (i := 2) (lv' := [(2, .int x1), (0, va_rf v0), (1, .int v1)]) hx hb dX4_leaves_5 rfl hl (by decide) rfl (fun ls hl => ?_)
  refine lv_iload_n hx hb dX4_leaves_6 rfl (lv_at hl 0 rfl) ?_
  refine r_callI X hR (c_SN X hR hl.1 (c_X1_ones l g x1) (lw_meth q1123) q1121 q115 q1122 mh_X1_ones rfl (by decide) (by decide) rfl (cat4 (Nat.le_of_ble_eq_true rfl)) dX4_leaves_7 hw) (fun x2 h H locs cells slots hR hw => ?_)
  refine lv_iconst (v := 2) hx hb dX4_leaves_10 (by decide) ?_
  refine lv_icmp_ge (tgt := 15) hx hb dX4_leaves_11 (by decide) (fun c3 => ?_) (fun c3 => ?_)
  · have hw := hw.1 c3
    refine lv_bipush (v := (-2)) hx hb dX4_leaves_15 (by decide) ?_
    refine lv_istore_n (i := 3) (lv' := [(3, .int (-2)), (2, .int x1), (0, va_rf v0), (1, .int v1)]) hx hb dX4_leaves_17 rfl hl (by decide) rfl (fun ls hl => ?_)
    refine lv_iconst (v := 0) hx hb dX4_leaves_18 (by decide) ?_
    refine lv_istore (i := 4) (lv' := [(4, .int 0), (3, .int (-2)), (2, .int x1), (0, va_rf v0), (1, .int v1)]) hx hb dX4_leaves_19 hl (by decide) rfl (fun ls hl => ?_)
    obtain ⟨n, hw⟩ := hw
    exact t_X4_leaves_L21 X  n hw hR (lv_sub hl [3, 2, 1, 0] rfl)
  · have hw := hw.2 c3
    exact r_vret X hR rfl dX4_leaves_14 hw
theorem t_X4_ends_J152 {p : Program} {l : Launch} {e : Env} {s : State} {m : MethodId} {args : Array Value} {below : List Frame} {meth : Method} {c : Code} {g : GT} {h0 : AH} {v0 : Option Nat} {v2 : Int32} {K : Unit → AH → Prop} {E : Nat → AH → Prop} {L121 : Int32 → AH → Prop} {h : AH} {H : Heap} {locs : List Loc} {cells slots : Nat} {ls : Array Slot} (X : Cx g h0 p s m args meth c RX4 cX4_ends 3 none) (k121 : ∀ {v2' : Int32} {h : AH} {H : Heap} {locs : List Loc} {cells slots : Nat} {ls : Array Slot}, L121 v2' h → HS g s h H locs → lv_has ls 3 [(0, va_rf v0), (2, .int (v2'))] → W p l e (RM 3 h0) s m args below meth c H locs cells slots (MQT below g (qV K) E args s h0) (F0 m 121 ls [])) (hw : w_X4_ends_J152 g v0 v2 K E L121 h) (hR : HS g s h H locs) (hl : lv_has ls 3 [(0, va_rf v0), (2, .int v2)]) : W p l e (RM 3 h0) s m args below meth c H locs cells slots (MQT below g (qV K) E args s h0) (F0 m 152 ls []) := by
  have hx := X.hx
  have hb := X.hb
  unfold w_X4_ends_J152 at hw
  refine r_iinc X (k := 1) (v := (v2 + 1)) (lv' := fun x18 => [(2, .int x18), (0, va_rf v0)]) dX4_ends_152 hl rfl rfl (by decide) hw (fun _ => rfl) (fun x18 hw ls hl => ?_)
  refine lv_goto (tgt := 121) hx hb dX4_ends_155 (by decide) ?_
  exact k121 hw hR (lv_sub hl [1, 0] rfl)
theorem t_X4_ends_L121 {p : Program} {l : Launch} {e : Env} {s : State} {m : MethodId} {args : Array Value} {below : List Frame} {meth : Method} {c : Code} {g : GT} {h0 : AH} {v0 : Option Nat} {K : Unit → AH → Prop} {E : Nat → AH → Prop} (X : Cx g h0 p s m args meth c RX4 cX4_ends 3 none)  : ∀ (n : Nat) {v2 : Int32} {h : AH} {H : Heap} {locs : List Loc} {cells slots : Nat} {ls : Array Slot}, LpN1 (w_X4_ends_L121 g v0 K E) n v2 h → HS g s h H locs → lv_has ls 3 [(0, va_rf v0), (2, .int v2)] → W p l e (RM 3 h0) s m args below meth c H locs cells slots (MQT below g (qV K) E args s h0) (F0 m 121 ls []) := by
  have hx := X.hx
  have hb := X.hb
  intro n
  induction n with
  | zero =>
    intro v2 h H locs cells slots ls hw
    exact hw.elim
  | succ n k121 =>
    intro v2 h H locs cells slots ls hw hR hl
    have hw : w_X4_ends_L121 g v0 K E (LpN1 (w_X4_ends_L121 g v0 K E) n) v2 h := hw
    unfold w_X4_ends_L121 at hw
    refine lv_iload_n hx hb dX4_ends_121 rfl (lv_at hl 1 rfl) ?_
    refine r_aload_n X dX4_ends_122 rfl (lv_at hl 0 rfl) ?_
    refine r_gR X hR fk_X4_18 dX4_ends_123 hw (fun x9 hw => ?_)
    refine r_gI X hR fk_X4_92 dX4_ends_126 hw (fun x10 hw => ?_)
    refine lv_icmp_ge (tgt := 158) hx hb dX4_ends_129 (by decide) (fun c11 => ?_) (fun c11 => ?_)
    · have hw := hw.1 c11
      exact r_vret X hR rfl dX4_ends_158 hw
    · have hw := hw.2 c11
      refine r_aload_n X dX4_ends_132 rfl (lv_at hl 0 rfl) ?_
      refine r_gR X hR fk_X4_18 dX4_ends_133 hw (fun x12 hw => ?_)
      refine r_gR X hR fk_X4_54 dX4_ends_136 hw (fun x13 hw => ?_)
      refine lv_iload_n hx hb dX4_ends_139 rfl (lv_at hl 1 rfl) ?_
      refine r_aald X hR (t := 5) (by decide) (by decide) dX4_ends_140 hw (fun x14 hw => ?_)
      refine r_callI X hR (r_letRun (qq := qI) hw (fun K16 hw => Or.elim hw (fun hw => c_U (C := "UmbrellaHeir$Plain") (owner := "UmbrellaHeir$Person") (x := ⟨"UmbrellaHeir$Person", "doesLeave", "()Z"⟩) (ci := 12) (q := (RX12, TX12, 2)) X hR hl.1 (c_X11_doesLeave l g x14) rfl rfl (va_cwU (C := "UmbrellaHeir$Plain") (owner := "UmbrellaHeir$Person") (x := ⟨"UmbrellaHeir$Person", "doesLeave", "()Z"⟩) (y := yX11_doesLeave) 0 X.hts (lw_app (List.forall_mem_cons.mpr ⟨q1104, List.forall_mem_cons.mpr ⟨q1106, List.forall_mem_cons.mpr ⟨q1111, List.forall_mem_cons.mpr ⟨q1105, List.forall_mem_cons.mpr ⟨q133, fun _ h => absurd h List.not_mem_nil⟩⟩⟩⟩⟩) (lw_meth q1112)) rfl rfl rfl rfl ⟨by decide +kernel, by decide +kernel, by decide +kernel⟩ (rm_ok (by decide) (by decide))) rfl rfl (cat4 (Nat.le_of_ble_eq_true rfl)) dX4_ends_141 hw) (fun hw => Or.elim hw (fun hw => c_U (C := "UmbrellaHeir$Child") (owner := "UmbrellaHeir$Person") (x := ⟨"UmbrellaHeir$Person", "doesLeave", "()Z"⟩) (ci := 13) (q := (RX13, TX13, 2)) X hR hl.1 (c_X11_doesLeave l g x14) rfl rfl (va_cwU (C := "UmbrellaHeir$Child") (owner := "UmbrellaHeir$Person") (x := ⟨"UmbrellaHeir$Person", "doesLeave", "()Z"⟩) (y := yX11_doesLeave) 0 X.hts (lw_app (List.forall_mem_cons.mpr ⟨q1104, List.forall_mem_cons.mpr ⟨q1106, List.forall_mem_cons.mpr ⟨q1110, List.forall_mem_cons.mpr ⟨q1105, List.forall_mem_cons.mpr ⟨q133, fun _ h => absurd h List.not_mem_nil⟩⟩⟩⟩⟩) (lw_meth q1112)) rfl rfl rfl rfl ⟨by decide +kernel, by decide +kernel, by decide +kernel⟩ (rm_ok (by decide) (by decide))) rfl rfl (cat4 (Nat.le_of_ble_eq_true rfl)) dX4_ends_141 hw) (fun hw => c_U (C := "UmbrellaHeir$Careless") (owner := "UmbrellaHeir$Person") (x := ⟨"UmbrellaHeir$Person", "doesLeave", "()Z"⟩) (ci := 14) (q := (RX14, TX14, 2)) X hR hl.1 (c_X14_doesLeave l g x14) rfl rfl (va_cwO (C := "UmbrellaHeir$Careless") (owner := "UmbrellaHeir$Person") (x := ⟨"UmbrellaHeir$Person", "doesLeave", "()Z"⟩) (y := yX14_doesLeave) 0 X.hts (lw_app (List.forall_mem_cons.mpr ⟨q1104, List.forall_mem_cons.mpr ⟨q1106, List.forall_mem_cons.mpr ⟨q1105, List.forall_mem_cons.mpr ⟨q1107, List.forall_mem_cons.mpr ⟨q1108, List.forall_mem_cons.mpr ⟨q136, fun _ h => absurd h List.not_mem_nil⟩⟩⟩⟩⟩⟩) (lw_meth q1109)) rfl rfl rfl q1112 ⟨by decide +kernel, by decide +kernel, by decide +kernel⟩ (rm_ok (by decide) (by decide))) rfl rfl (cat4 (Nat.le_of_ble_eq_true rfl)) dX4_ends_141 hw)))) (fun x15 h H locs cells slots hR hw => ?_)
      refine lv_if_eq (tgt := 152) hx hb dX4_ends_144 (by decide) (fun c17 => ?_) (fun c17 => ?_)
      · have hw := hw.1 c17
        exact t_X4_ends_J152 X k121 hw hR (lv_sub hl [0, 1] rfl)
      · have hw := hw.2 c17
        refine r_aload_n X dX4_ends_147 rfl (lv_at hl 0 rfl) ?_
        refine lv_iload_n hx hb dX4_ends_148 rfl (lv_at hl 1 rfl) ?_
        refine r_callV X hR (c_V (ci := 4) (q := (RX4, TX4, 4)) X hR hl.1 (c_X4_leaves l g v0 v2) (lw_V q1113 q1115 qs31 q121 q1116) rfl rfl mh_X4_leaves rfl (by decide) (by decide) rfl (cat4 (Nat.le_of_ble_eq_true rfl)) dX4_ends_149 hw) (fun _ h H locs cells slots hR hw => ?_)
        exact t_X4_ends_J152 X k121 hw hR (lv_sub hl [0, 1] rfl)
theorem t_X4_ends_J119 {p : Program} {l : Launch} {e : Env} {s : State} {m : MethodId} {args : Array Value} {below : List Frame} {meth : Method} {c : Code} {g : GT} {h0 : AH} {v0 : Option Nat} {K : Unit → AH → Prop} {E : Nat → AH → Prop} {h : AH} {H : Heap} {locs : List Loc} {cells slots : Nat} {ls : Array Slot} (X : Cx g h0 p s m args meth c RX4 cX4_ends 3 none)  (hw : w_X4_ends_J119 g v0 K E h) (hR : HS g s h H locs) (hl : lv_has ls 3 [(0, va_rf v0)]) : W p l e (RM 3 h0) s m args below meth c H locs cells slots (MQT below g (qV K) E args s h0) (F0 m 119 ls []) := by
  have hx := X.hx
  have hb := X.hb
  unfold w_X4_ends_J119 at hw
  refine lv_iconst (v := 0) hx hb dX4_ends_119 (by decide) ?_
  refine lv_istore_n (i := 2) (lv' := [(2, .int 0), (0, va_rf v0)]) hx hb dX4_ends_120 rfl hl (by decide) rfl (fun ls hl => ?_)
  obtain ⟨n, hw⟩ := hw
  exact t_X4_ends_L121 X  n hw hR (lv_sub hl [1, 0] rfl)
theorem t_X4_ends_J113 {p : Program} {l : Launch} {e : Env} {s : State} {m : MethodId} {args : Array Value} {below : List Frame} {meth : Method} {c : Code} {g : GT} {h0 : AH} {v0 : Option Nat} {v2 : Int32} {K : Unit → AH → Prop} {E : Nat → AH → Prop} {L65 : Int32 → AH → Prop} {h : AH} {H : Heap} {locs : List Loc} {cells slots : Nat} {ls : Array Slot} (X : Cx g h0 p s m args meth c RX4 cX4_ends 3 none) (k65 : ∀ {v2' : Int32} {h : AH} {H : Heap} {locs : List Loc} {cells slots : Nat} {ls : Array Slot}, L65 v2' h → HS g s h H locs → lv_has ls 3 [(0, va_rf v0), (2, .int (v2'))] → W p l e (RM 3 h0) s m args below meth c H locs cells slots (MQT below g (qV K) E args s h0) (F0 m 65 ls [])) (hw : w_X4_ends_J113 g v0 v2 K E L65 h) (hR : HS g s h H locs) (hl : lv_has ls 3 [(0, va_rf v0), (2, .int v2)]) : W p l e (RM 3 h0) s m args below meth c H locs cells slots (MQT below g (qV K) E args s h0) (F0 m 113 ls []) := by
  have hx := X.hx
  have hb := X.hb
  unfold w_X4_ends_J113 at hw
  refine r_iinc X (k := 1) (v := (v2 + 1)) (lv' := fun x29 => [(2, .int x29), (0, va_rf v0)]) dX4_ends_113 hl rfl rfl (by decide) hw (fun _ => rfl) (fun x29 hw ls hl => ?_)
  refine lv_goto (tgt := 65) hx hb dX4_ends_116 (by decide) ?_
  exact k65 hw hR (lv_sub hl [1, 0] rfl)
theorem t_X4_ends_L65 {p : Program} {l : Launch} {e : Env} {s : State} {m : MethodId} {args : Array Value} {below : List Frame} {meth : Method} {c : Code} {g : GT} {h0 : AH} {v0 : Option Nat} {K : Unit → AH → Prop} {E : Nat → AH → Prop} (X : Cx g h0 p s m args meth c RX4 cX4_ends 3 none)  : ∀ (n : Nat) {v2 : Int32} {h : AH} {H : Heap} {locs : List Loc} {cells slots : Nat} {ls : Array Slot}, LpN1 (w_X4_ends_L65 g v0 K E) n v2 h → HS g s h H locs → lv_has ls 3 [(0, va_rf v0), (2, .int v2)] → W p l e (RM 3 h0) s m args below meth c H locs cells slots (MQT below g (qV K) E args s h0) (F0 m 65 ls []) := by
  have hx := X.hx
  have hb := X.hb
  intro n
  induction n with
  | zero =>
    intro v2 h H locs cells slots ls hw
    exact hw.elim
  | succ n k65 =>
    intro v2 h H locs cells slots ls hw hR hl
    have hw : w_X4_ends_L65 g v0 K E (LpN1 (w_X4_ends_L65 g v0 K E) n) v2 h := hw
    unfold w_X4_ends_L65 at hw
    refine lv_iload_n hx hb dX4_ends_65 rfl (lv_at hl 1 rfl) ?_
    refine r_aload_n X dX4_ends_66 rfl (lv_at hl 0 rfl) ?_
    refine r_gR X hR fk_X4_18 dX4_ends_67 hw (fun x6 hw => ?_)
    refine r_gI X hR fk_X4_26 dX4_ends_70 hw (fun x7 hw => ?_)
    refine lv_icmp_ge (tgt := 119) hx hb dX4_ends_73 (by decide) (fun c8 => ?_) (fun c8 => ?_)
    · have hw := hw.1 c8
      exact t_X4_ends_J119 X  hw hR (lv_sub hl [0] rfl)
    · have hw := hw.2 c8
      refine r_aload_n X dX4_ends_76 rfl (lv_at hl 0 rfl) ?_
      refine r_gI X hR fk_X4_22 dX4_ends_77 hw (fun x19 hw => ?_)
      refine r_aload_n X dX4_ends_80 rfl (lv_at hl 0 rfl) ?_
      refine r_gR X hR fk_X4_18 dX4_ends_81 hw (fun x20 hw => ?_)
      refine r_gI X hR fk_X4_86 dX4_ends_84 hw (fun x21 hw => ?_)
      refine lv_icmp_lt (tgt := 119) hx hb dX4_ends_87 (by decide) (fun c22 => ?_) (fun c22 => ?_)
      · have hw := hw.1 c22
        exact t_X4_ends_J119 X  hw hR (lv_sub hl [0] rfl)
      · have hw := hw.2 c22
        refine r_aload_n X dX4_ends_90 rfl (lv_at hl 0 rfl) ?_
        refine r_gR X hR fk_X4_18 dX4_ends_91 hw (fun x23 hw => ?_)
        refine r_gR X hR fk_X4_31 dX4_ends_94 hw (fun x24 hw => ?_)
        refine lv_iload_n hx hb dX4_ends_97 rfl (lv_at hl 1 rfl) ?_
        refine r_aald X hR (t := 6) (by decide) (by decide) dX4_ends_98 hw (fun x25 hw => ?_)
        refine r_callI X hR (r_letRun (qq := qI) hw (fun K27 hw => Or.elim hw (fun hw => c_U (C := "UmbrellaHeir$Silk") (owner := "UmbrellaHeir$Umbrella") (x := ⟨"UmbrellaHeir$Umbrella", "doesLapse", "()Z"⟩) (ci := 16) (q := (RX16, TY16, 5)) X hR hl.1 (c_X16_doesLapse l g x25) rfl rfl (va_cwO (C := "UmbrellaHeir$Silk") (owner := "UmbrellaHeir$Umbrella") (x := ⟨"UmbrellaHeir$Umbrella", "doesLapse", "()Z"⟩) (y := yX16_doesLapse) 0 X.hts (lw_app (List.forall_mem_cons.mpr ⟨q1094, List.forall_mem_cons.mpr ⟨q1096, List.forall_mem_cons.mpr ⟨q1095, List.forall_mem_cons.mpr ⟨q1099, List.forall_mem_cons.mpr ⟨q1100, List.forall_mem_cons.mpr ⟨q138, fun _ h => absurd h List.not_mem_nil⟩⟩⟩⟩⟩⟩) (lw_meth q1101)) rfl rfl rfl q1103 ⟨by decide +kernel, by decide +kernel, by decide +kernel⟩ (rm_ok (by decide) (by decide))) rfl rfl (cat4 (Nat.le_of_ble_eq_true rfl)) dX4_ends_99 hw) (fun hw => Or.elim hw (fun hw => c_U (C := "UmbrellaHeir$Cotton") (owner := "UmbrellaHeir$Umbrella") (x := ⟨"UmbrellaHeir$Umbrella", "doesLapse", "()Z"⟩) (ci := 17) (q := (RX17, TY17, 5)) X hR hl.1 (c_X15_doesLapse l g x25) rfl rfl (va_cwU (C := "UmbrellaHeir$Cotton") (owner := "UmbrellaHeir$Umbrella") (x := ⟨"UmbrellaHeir$Umbrella", "doesLapse", "()Z"⟩) (y := yX15_doesLapse) 0 X.hts (lw_app (List.forall_mem_cons.mpr ⟨q1094, List.forall_mem_cons.mpr ⟨q1096, List.forall_mem_cons.mpr ⟨q1097, List.forall_mem_cons.mpr ⟨q1095, List.forall_mem_cons.mpr ⟨q137, fun _ h => absurd h List.not_mem_nil⟩⟩⟩⟩⟩) (lw_meth q1103)) rfl rfl rfl rfl ⟨by decide +kernel, by decide +kernel, by decide +kernel⟩ (rm_ok (by decide) (by decide))) rfl rfl (cat4 (Nat.le_of_ble_eq_true rfl)) dX4_ends_99 hw) (fun hw => Or.elim hw (fun hw => c_U (C := "UmbrellaHeir$Stick") (owner := "UmbrellaHeir$Umbrella") (x := ⟨"UmbrellaHeir$Umbrella", "doesLapse", "()Z"⟩) (ci := 18) (q := (RX18, TY18, 5)) X hR hl.1 (c_X15_doesLapse l g x25) rfl rfl (va_cwU (C := "UmbrellaHeir$Stick") (owner := "UmbrellaHeir$Umbrella") (x := ⟨"UmbrellaHeir$Umbrella", "doesLapse", "()Z"⟩) (y := yX15_doesLapse) 0 X.hts (lw_app (List.forall_mem_cons.mpr ⟨q1094, List.forall_mem_cons.mpr ⟨q1096, List.forall_mem_cons.mpr ⟨q1102, List.forall_mem_cons.mpr ⟨q1095, List.forall_mem_cons.mpr ⟨q137, fun _ h => absurd h List.not_mem_nil⟩⟩⟩⟩⟩) (lw_meth q1103)) rfl rfl rfl rfl ⟨by decide +kernel, by decide +kernel, by decide +kernel⟩ (rm_ok (by decide) (by decide))) rfl rfl (cat4 (Nat.le_of_ble_eq_true rfl)) dX4_ends_99 hw) (fun hw => c_U (C := "UmbrellaHeir$Parasol") (owner := "UmbrellaHeir$Umbrella") (x := ⟨"UmbrellaHeir$Umbrella", "doesLapse", "()Z"⟩) (ci := 19) (q := (RX19, TY19, 5)) X hR hl.1 (c_X15_doesLapse l g x25) rfl rfl (va_cwU (C := "UmbrellaHeir$Parasol") (owner := "UmbrellaHeir$Umbrella") (x := ⟨"UmbrellaHeir$Umbrella", "doesLapse", "()Z"⟩) (y := yX15_doesLapse) 0 X.hts (lw_app (List.forall_mem_cons.mpr ⟨q1094, List.forall_mem_cons.mpr ⟨q1096, List.forall_mem_cons.mpr ⟨q1098, List.forall_mem_cons.mpr ⟨q1095, List.forall_mem_cons.mpr ⟨q137, fun _ h => absurd h List.not_mem_nil⟩⟩⟩⟩⟩) (lw_meth q1103)) rfl rfl rfl rfl ⟨by decide +kernel, by decide +kernel, by decide +kernel⟩ (rm_ok (by decide) (by decide))) rfl rfl (cat4 (Nat.le_of_ble_eq_true rfl)) dX4_ends_99 hw))))) (fun x26 h H locs cells slots hR hw => ?_)
        refine lv_if_eq (tgt := 113) hx hb dX4_ends_102 (by decide) (fun c28 => ?_) (fun c28 => ?_)
        · have hw := hw.1 c28
          exact t_X4_ends_J113 X k65 hw hR (lv_sub hl [0, 1] rfl)
        · have hw := hw.2 c28
          refine r_aload_n X dX4_ends_105 rfl (lv_at hl 0 rfl) ?_
          refine r_gR X hR fk_X4_15 dX4_ends_106 hw (fun x30 hw => ?_)
          refine lv_iload_n hx hb dX4_ends_109 rfl (lv_at hl 1 rfl) ?_
          refine lv_bipush (v := (-2)) hx hb dX4_ends_110 (by decide) ?_
          refine r_iast X hR dX4_ends_112 hw (fun H locs h hR hw => ?_)
          exact t_X4_ends_J113 X k65 hw hR (lv_sub hl [0, 1] rfl)
theorem t_X4_ends_J57 {p : Program} {l : Launch} {e : Env} {s : State} {m : MethodId} {args : Array Value} {below : List Frame} {meth : Method} {c : Code} {g : GT} {h0 : AH} {v0 : Option Nat} {v1 : Int32} {v2 : Int32} {K : Unit → AH → Prop} {E : Nat → AH → Prop} {L25 : Int32 → AH → Prop} {h : AH} {H : Heap} {locs : List Loc} {cells slots : Nat} {ls : Array Slot} (X : Cx g h0 p s m args meth c RX4 cX4_ends 3 none) (k25 : ∀ {v2' : Int32} {h : AH} {H : Heap} {locs : List Loc} {cells slots : Nat} {ls : Array Slot}, L25 v2' h → HS g s h H locs → lv_has ls 3 [(0, va_rf v0), (1, .int v1), (2, .int (v2'))] → W p l e (RM 3 h0) s m args below meth c H locs cells slots (MQT below g (qV K) E args s h0) (F0 m 25 ls [])) (hw : w_X4_ends_J57 g v0 v1 v2 K E L25 h) (hR : HS g s h H locs) (hl : lv_has ls 3 [(0, va_rf v0), (1, .int v1), (2, .int v2)]) : W p l e (RM 3 h0) s m args below meth c H locs cells slots (MQT below g (qV K) E args s h0) (F0 m 57 ls []) := by
  have hx := X.hx
  have hb := X.hb
  unfold w_X4_ends_J57 at hw
  refine r_iinc X (k := 2) (v := (v2 + 1)) (lv' := fun x37 => [(2, .int x37), (0, va_rf v0), (1, .int v1)]) dX4_ends_57 hl rfl rfl (by decide) hw (fun _ => rfl) (fun x37 hw ls hl => ?_)
  refine lv_goto (tgt := 25) hx hb dX4_ends_60 (by decide) ?_
  exact k25 hw hR (lv_sub hl [1, 2, 0] rfl)
theorem t_X4_ends_L25 {p : Program} {l : Launch} {e : Env} {s : State} {m : MethodId} {args : Array Value} {below : List Frame} {meth : Method} {c : Code} {g : GT} {h0 : AH} {v0 : Option Nat} {v1 : Int32} {K : Unit → AH → Prop} {E : Nat → AH → Prop} (X : Cx g h0 p s m args meth c RX4 cX4_ends 3 none)  : ∀ (n : Nat) {v2 : Int32} {h : AH} {H : Heap} {locs : List Loc} {cells slots : Nat} {ls : Array Slot}, LpN1 (w_X4_ends_L25 g v0 v1 K E) n v2 h → HS g s h H locs → lv_has ls 3 [(0, va_rf v0), (1, .int v1), (2, .int v2)] → W p l e (RM 3 h0) s m args below meth c H locs cells slots (MQT below g (qV K) E args s h0) (F0 m 25 ls []) := by
  have hx := X.hx
  have hb := X.hb
  intro n
  induction n with
  | zero =>
    intro v2 h H locs cells slots ls hw
    exact hw.elim
  | succ n k25 =>
    intro v2 h H locs cells slots ls hw hR hl
    have hw : w_X4_ends_L25 g v0 v1 K E (LpN1 (w_X4_ends_L25 g v0 v1 K E) n) v2 h := hw
    unfold w_X4_ends_L25 at hw
    refine lv_iload_n hx hb dX4_ends_25 rfl (lv_at hl 2 rfl) ?_
    refine r_aload_n X dX4_ends_26 rfl (lv_at hl 0 rfl) ?_
    refine r_gR X hR fk_X4_18 dX4_ends_27 hw (fun x3 hw => ?_)
    refine r_gI X hR fk_X4_26 dX4_ends_30 hw (fun x4 hw => ?_)
    refine lv_icmp_ge (tgt := 63) hx hb dX4_ends_33 (by decide) (fun c5 => ?_) (fun c5 => ?_)
    · have hw := hw.1 c5
      refine lv_iconst (v := 0) hx hb dX4_ends_63 (by decide) ?_
      refine lv_istore_n (i := 2) (lv' := [(2, .int 0), (0, va_rf v0), (1, .int v1)]) hx hb dX4_ends_64 rfl hl (by decide) rfl (fun ls hl => ?_)
      obtain ⟨n, hw⟩ := hw
      exact t_X4_ends_L65 X  n hw hR (lv_sub hl [1, 0] rfl)
    · have hw := hw.2 c5
      refine r_aload_n X dX4_ends_36 rfl (lv_at hl 0 rfl) ?_
      refine r_gR X hR fk_X4_18 dX4_ends_37 hw (fun x31 hw => ?_)
      refine r_gR X hR fk_X4_31 dX4_ends_40 hw (fun x32 hw => ?_)
      refine lv_iload_n hx hb dX4_ends_43 rfl (lv_at hl 2 rfl) ?_
      refine r_aald X hR (t := 6) (by decide) (by decide) dX4_ends_44 hw (fun x33 hw => ?_)
      refine lv_iload_n hx hb dX4_ends_45 rfl (lv_at hl 1 rfl) ?_
      refine r_callI X hR (r_letRun (qq := qI) hw (fun K35 hw => Or.elim hw (fun hw => c_U (C := "UmbrellaHeir$Silk") (owner := "UmbrellaHeir$Umbrella") (x := ⟨"UmbrellaHeir$Umbrella", "passes", "(Z)Z"⟩) (ci := 16) (q := (RX16, TY16, 5)) X hR hl.1 (c_X15_passes l g x33 v1) rfl rfl (va_cwU (C := "UmbrellaHeir$Silk") (owner := "UmbrellaHeir$Umbrella") (x := ⟨"UmbrellaHeir$Umbrella", "passes", "(Z)Z"⟩) (y := yX15_passes) 1 X.hts (lw_app (List.forall_mem_cons.mpr ⟨q1081, List.forall_mem_cons.mpr ⟨q1083, List.forall_mem_cons.mpr ⟨q1090, List.forall_mem_cons.mpr ⟨q1082, List.forall_mem_cons.mpr ⟨q137, fun _ h => absurd h List.not_mem_nil⟩⟩⟩⟩⟩) (lw_meth q1089)) rfl rfl rfl rfl ⟨by decide +kernel, by decide +kernel, by decide +kernel⟩ (rm_ok (by decide) (by decide))) rfl rfl (cat4 (Nat.le_of_ble_eq_true rfl)) dX4_ends_46 hw) (fun hw => Or.elim hw (fun hw => c_U (C := "UmbrellaHeir$Cotton") (owner := "UmbrellaHeir$Umbrella") (x := ⟨"UmbrellaHeir$Umbrella", "passes", "(Z)Z"⟩) (ci := 17) (q := (RX17, TY17, 5)) X hR hl.1 (c_X15_passes l g x33 v1) rfl rfl (va_cwU (C := "UmbrellaHeir$Cotton") (owner := "UmbrellaHeir$Umbrella") (x := ⟨"UmbrellaHeir$Umbrella", "passes", "(Z)Z"⟩) (y := yX15_passes) 1 X.hts (lw_app (List.forall_mem_cons.mpr ⟨q1081, List.forall_mem_cons.mpr ⟨q1083, List.forall_mem_cons.mpr ⟨q1084, List.forall_mem_cons.mpr ⟨q1082, List.forall_mem_cons.mpr ⟨q137, fun _ h => absurd h List.not_mem_nil⟩⟩⟩⟩⟩) (lw_meth q1089)) rfl rfl rfl rfl ⟨by decide +kernel, by decide +kernel, by decide +kernel⟩ (rm_ok (by decide) (by decide))) rfl rfl (cat4 (Nat.le_of_ble_eq_true rfl)) dX4_ends_46 hw) (fun hw => Or.elim hw (fun hw => c_U (C := "UmbrellaHeir$Stick") (owner := "UmbrellaHeir$Umbrella") (x := ⟨"UmbrellaHeir$Umbrella", "passes", "(Z)Z"⟩) (ci := 18) (q := (RX18, TY18, 5)) X hR hl.1 (c_X18_passes l g x33 v1) rfl rfl (va_cwO (C := "UmbrellaHeir$Stick") (owner := "UmbrellaHeir$Umbrella") (x := ⟨"UmbrellaHeir$Umbrella", "passes", "(Z)Z"⟩) (y := yX18_passes) 1 X.hts (lw_app (List.forall_mem_cons.mpr ⟨q1081, List.forall_mem_cons.mpr ⟨q1083, List.forall_mem_cons.mpr ⟨q1082, List.forall_mem_cons.mpr ⟨q1091, List.forall_mem_cons.mpr ⟨q1092, List.forall_mem_cons.mpr ⟨q140, fun _ h => absurd h List.not_mem_nil⟩⟩⟩⟩⟩⟩) (lw_meth q1093)) rfl rfl rfl q1089 ⟨by decide +kernel, by decide +kernel, by decide +kernel⟩ (rm_ok (by decide) (by decide))) rfl rfl (cat4 (Nat.le_of_ble_eq_true rfl)) dX4_ends_46 hw) (fun hw => c_U (C := "UmbrellaHeir$Parasol") (owner := "UmbrellaHeir$Umbrella") (x := ⟨"UmbrellaHeir$Umbrella", "passes", "(Z)Z"⟩) (ci := 19) (q := (RX19, TY19, 5)) X hR hl.1 (c_X19_passes l g x33 v1) rfl rfl (va_cwO (C := "UmbrellaHeir$Parasol") (owner := "UmbrellaHeir$Umbrella") (x := ⟨"UmbrellaHeir$Umbrella", "passes", "(Z)Z"⟩) (y := yX19_passes) 1 X.hts (lw_app (List.forall_mem_cons.mpr ⟨q1081, List.forall_mem_cons.mpr ⟨q1083, List.forall_mem_cons.mpr ⟨q1082, List.forall_mem_cons.mpr ⟨q1085, List.forall_mem_cons.mpr ⟨q1086, List.forall_mem_cons.mpr ⟨q141, fun _ h => absurd h List.not_mem_nil⟩⟩⟩⟩⟩⟩) (lw_meth q1087)) rfl rfl rfl q1089 ⟨by decide +kernel, by decide +kernel, by decide +kernel⟩ (rm_ok (by decide) (by decide))) rfl rfl (cat4 (Nat.le_of_ble_eq_true rfl)) dX4_ends_46 hw))))) (fun x34 h H locs cells slots hR hw => ?_)
      refine lv_if_eq (tgt := 57) hx hb dX4_ends_49 (by decide) (fun c36 => ?_) (fun c36 => ?_)
      · have hw := hw.1 c36
        exact t_X4_ends_J57 X k25 hw hR (lv_sub hl [0, 1, 2] rfl)
      · have hw := hw.2 c36
        refine r_aload_n X dX4_ends_52 rfl (lv_at hl 0 rfl) ?_
        refine lv_iload_n hx hb dX4_ends_53 rfl (lv_at hl 2 rfl) ?_
        refine r_callV X hR (c_V (ci := 4) (q := (RX4, TX4, 4)) X hR hl.1 (c_X4_takes l g v0 v2) (lw_V q1026 q1028 qs30 q121 q1029) rfl rfl mh_X4_takes rfl (by decide) (by decide) rfl (cat4 (Nat.le_of_ble_eq_true rfl)) dX4_ends_54 hw) (fun _ h H locs cells slots hR hw => ?_)
        exact t_X4_ends_J57 X k25 hw hR (lv_sub hl [0, 1, 2] rfl)
theorem t_X4_ends_J20 {p : Program} {l : Launch} {e : Env} {s : State} {m : MethodId} {args : Array Value} {below : List Frame} {meth : Method} {c : Code} {g : GT} {h0 : AH} {v0 : Option Nat} {v1 : Int32} {s0 : Int32} {s1 : Option Nat} {K : Unit → AH → Prop} {E : Nat → AH → Prop} {h : AH} {H : Heap} {locs : List Loc} {cells slots : Nat} {ls : Array Slot} (X : Cx g h0 p s m args meth c RX4 cX4_ends 3 none)  (hw : w_X4_ends_J20 g v0 v1 s0 s1 K E h) (hR : HS g s h H locs) (hl : lv_has ls 3 [(0, va_rf v0), (1, .int v1)]) : W p l e (RM 3 h0) s m args below meth c H locs cells slots (MQT below g (qV K) E args s h0) (F0 m 20 ls [.int s0, va_rf s1]) := by
  have hx := X.hx
  have hb := X.hb
  unfold w_X4_ends_J20 at hw
  refine r_put X hR fp_X4_22 (Or.inl fn_X4_22) (nf_int _) dX4_ends_20 hw (fun H locs h hR hw => ?_)
  refine lv_iconst (v := 0) hx hb dX4_ends_23 (by decide) ?_
  refine lv_istore_n (i := 2) (lv' := [(2, .int 0), (0, va_rf v0), (1, .int v1)]) hx hb dX4_ends_24 rfl hl (by decide) rfl (fun ls hl => ?_)
  obtain ⟨n, hw⟩ := hw
  exact t_X4_ends_L25 X  n hw hR (lv_sub hl [1, 2, 0] rfl)
theorem c_X4_ends (l : Launch) (g : GT) (v0 : Option Nat) (v1 : Int32) : CT qV l yX4_ends (ws_ yX4_ends cX4_ends 3 none) 3 g [va_rf v0, .int v1] (fun K E h => w_X4_ends g v0 v1 K E h) := by
  refine CT_of (lv := [(0, va_rf v0), (1, .int v1)]) (by decide +kernel) (by simp [lg_sl, cat_rf, cat_int, cat_long]) (by simp [lv_args, cat_rf, cat_int, cat_long]) (fun h0 K E p e s m args below meth c H locs cells slots ls X hxt hmn hw hR hl => ?_)
  have hx := X.hx
  have hb := X.hb
  unfold w_X4_ends at hw
  refine r_aload_n X dX4_ends_0 rfl (lv_at hl 0 rfl) ?_
  refine lv_iload_n hx hb dX4_ends_1 rfl (lv_at hl 1 rfl) ?_
  refine lv_if_eq (tgt := 9) hx hb dX4_ends_2 (by decide) (fun c1 => ?_) (fun c1 => ?_)
  · have hw := hw.1 c1
    refine lv_bipush (v := 30) hx hb dX4_ends_9 (by decide) ?_
    refine r_aload_n X dX4_ends_11 rfl (lv_at hl 0 rfl) ?_
    refine r_gI X hR fk_X4_22 dX4_ends_12 hw (fun x2 hw => ?_)
    refine lv_iconst (v := 1) hx hb dX4_ends_15 (by decide) ?_
    refine lv_iadd hx hb dX4_ends_16 ?_
    refine r_min X hl.1 hR q1078 (by decide) (cat4 (Nat.le_of_ble_eq_true rfl)) dX4_ends_17 (fun cells slots => ?_)
    exact t_X4_ends_J20 X  hw hR (lv_sub hl [0, 1] rfl)
  · have hw := hw.2 c1
    refine lv_iconst (v := 0) hx hb dX4_ends_5 (by decide) ?_
    refine lv_goto (tgt := 20) hx hb dX4_ends_6 (by decide) ?_
    exact t_X4_ends_J20 X  hw hR (lv_sub hl [0, 1] rfl)
theorem t_X5_run_J109 {p : Program} {l : Launch} {e : Env} {s : State} {m : MethodId} {args : Array Value} {below : List Frame} {meth : Method} {c : Code} {g : GT} {h0 : AH} {v0 : Option Nat} {v1 : Option Nat} {v2 : Int32} {v3 : Int32} {v4 : Int32} {v5 : Int32} {v6 : Int32} {v7 : Int32} {K : Unit → AH → Prop} {E : Nat → AH → Prop} {L14 : Int32 → Int32 → AH → Prop} {h : AH} {H : Heap} {locs : List Loc} {cells slots : Nat} {ls : Array Slot} (X : Cx g h0 p s m args meth c RX5 cX5_run 8 none) (k14 : ∀ {v5' : Int32} {v6' : Int32} {h : AH} {H : Heap} {locs : List Loc} {cells slots : Nat} {ls : Array Slot}, L14 v5' v6' h → HS g s h H locs → lv_has ls 8 [(0, va_rf v0), (1, va_rf v1), (2, .int v2), (3, .int v3), (4, .int v4), (5, .int (v5')), (6, .int (v6'))] → W p l e (RM 4 h0) s m args below meth c H locs cells slots (MQT below g (qV K) E args s h0) (F0 m 14 ls [])) (hw : w_X5_run_J109 g v0 v1 v2 v3 v4 v5 v6 v7 K E L14 h) (hR : HS g s h H locs) (hl : lv_has ls 8 [(0, va_rf v0), (1, va_rf v1), (2, .int v2), (3, .int v3), (4, .int v4), (5, .int v5), (6, .int v6), (7, .int v7)]) : W p l e (RM 4 h0) s m args below meth c H locs cells slots (MQT below g (qV K) E args s h0) (F0 m 109 ls []) := by
  have hx := X.hx
  have hb := X.hb
  unfold w_X5_run_J109 at hw
  refine r_aload_n X dX5_run_109 rfl (lv_at hl 0 rfl) ?_
  refine r_gR X hR fk_X5_12 dX5_run_110 hw (fun x6 hw => ?_)
  refine lv_iload hx hb dX5_run_113 (lv_at hl 7 rfl) ?_
  refine r_callV X hR (c_V (ci := 4) (q := (RX4, TX4, 4)) X hR hl.1 (c_X4_ends l g x6 v7) (lw_V q1074 q1075 q1076 q121 q1077) rfl rfl mh_X4_ends rfl (by decide) (by decide) rfl (cat4 (Nat.le_of_ble_eq_true rfl)) dX5_run_115 hw) (fun _ h H locs cells slots hR hw => ?_)
  refine r_aload_n X dX5_run_118 rfl (lv_at hl 0 rfl) ?_
  refine r_gR X hR fk_X5_12 dX5_run_119 hw (fun x7 hw => ?_)
  refine r_gR X hR fk_X5_60 dX5_run_122 hw (fun x8 hw => ?_)
  refine lv_iconst (v := 0) hx hb dX5_run_125 (by decide) ?_
  refine r_aload_n X dX5_run_126 rfl (lv_at hl 0 rfl) ?_
  refine r_gR X hR fk_X5_18 dX5_run_127 hw (fun x9 hw => ?_)
  refine lv_iconst (v := 5) hx hb dX5_run_130 (by decide) ?_
  refine lv_iload hx hb dX5_run_131 (lv_at hl 6 rfl) ?_
  refine lv_imul hx hb dX5_run_133 ?_
  refine lv_iconst (v := 5) hx hb dX5_run_134 (by decide) ?_
  refine r_copy X hl.1 hR q1127 q1129 q1128 q149 (by decide) (cat4 (Nat.le_of_ble_eq_true rfl)) dX5_run_135 hw (fun H locs h hR hw => ?_)
  refine r_aload_n X dX5_run_138 rfl (lv_at hl 0 rfl) ?_
  refine r_gR X hR fk_X5_12 dX5_run_139 hw (fun x10 hw => ?_)
  refine r_gR X hR fk_X5_67 dX5_run_142 hw (fun x11 hw => ?_)
  refine lv_iconst (v := 0) hx hb dX5_run_145 (by decide) ?_
  refine r_aload_n X dX5_run_146 rfl (lv_at hl 0 rfl) ?_
  refine r_gR X hR fk_X5_22 dX5_run_147 hw (fun x12 hw => ?_)
  refine lv_iconst (v := 5) hx hb dX5_run_150 (by decide) ?_
  refine lv_iload hx hb dX5_run_151 (lv_at hl 6 rfl) ?_
  refine lv_imul hx hb dX5_run_153 ?_
  refine lv_iconst (v := 5) hx hb dX5_run_154 (by decide) ?_
  refine r_copy X hl.1 hR q1127 q1129 q1128 q149 (by decide) (cat4 (Nat.le_of_ble_eq_true rfl)) dX5_run_155 hw (fun H locs h hR hw => ?_)
  refine r_iinc X (k := 6) (v := (v6 + 1)) (lv' := fun x13 => [(6, .int x13), (0, va_rf v0), (1, va_rf v1), (2, .int v2), (3, .int v3), (4, .int v4), (5, .int v5), (7, .int v7)]) dX5_run_158 hl rfl rfl (by decide) hw (fun _ => rfl) (fun x13 hw ls hl => ?_)
  refine lv_goto (tgt := 14) hx hb dX5_run_161 (by decide) ?_
  exact k14 hw hR (lv_sub hl [1, 2, 3, 4, 5, 6, 0] rfl)
theorem t_X5_run_J101 {p : Program} {l : Launch} {e : Env} {s : State} {m : MethodId} {args : Array Value} {below : List Frame} {meth : Method} {c : Code} {g : GT} {h0 : AH} {v0 : Option Nat} {v1 : Option Nat} {v2 : Int32} {v3 : Int32} {v4 : Int32} {v5 : Int32} {v6 : Int32} {s0 : Int32} {K : Unit → AH → Prop} {E : Nat → AH → Prop} {L40 : Int32 → Int32 → AH → Prop} {h : AH} {H : Heap} {locs : List Loc} {cells slots : Nat} {ls : Array Slot} (X : Cx g h0 p s m args meth c RX5 cX5_run 8 none) (k40 : ∀ {v5' : Int32} {v7' : Int32} {h : AH} {H : Heap} {locs : List Loc} {cells slots : Nat} {ls : Array Slot}, L40 v5' v7' h → HS g s h H locs → lv_has ls 8 [(0, va_rf v0), (1, va_rf v1), (2, .int v2), (3, .int v3), (4, .int v4), (5, .int (v5')), (6, .int v6), (7, .int (v7'))] → W p l e (RM 4 h0) s m args below meth c H locs cells slots (MQT below g (qV K) E args s h0) (F0 m 40 ls [])) (hw : w_X5_run_J101 g v0 v1 v2 v3 v4 v5 v6 s0 K E L40 h) (hR : HS g s h H locs) (hl : lv_has ls 8 [(0, va_rf v0), (1, va_rf v1), (2, .int v2), (3, .int v3), (4, .int v4), (5, .int v5), (6, .int v6)]) : W p l e (RM 4 h0) s m args below meth c H locs cells slots (MQT below g (qV K) E args s h0) (F0 m 101 ls [.int s0]) := by
  have hx := X.hx
  have hb := X.hb
  unfold w_X5_run_J101 at hw
  refine lv_istore (i := 7) (lv' := [(7, .int s0), (0, va_rf v0), (1, va_rf v1), (2, .int v2), (3, .int v3), (4, .int v4), (5, .int v5), (6, .int v6)]) hx hb dX5_run_101 hl (by decide) rfl (fun ls hl => ?_)
  refine r_iinc X (k := 6) (v := (v5 + 1)) (lv' := fun x23 => [(5, .int x23), (7, .int s0), (0, va_rf v0), (1, va_rf v1), (2, .int v2), (3, .int v3), (4, .int v4), (6, .int v6)]) dX5_run_103 hl rfl rfl (by decide) hw (fun _ => rfl) (fun x23 hw ls hl => ?_)
  refine lv_goto (tgt := 40) hx hb dX5_run_106 (by decide) ?_
  exact k40 hw hR (lv_sub hl [2, 3, 4, 5, 6, 0, 7, 1] rfl)
theorem t_X5_run_J96 {p : Program} {l : Launch} {e : Env} {s : State} {m : MethodId} {args : Array Value} {below : List Frame} {meth : Method} {c : Code} {g : GT} {h0 : AH} {v0 : Option Nat} {v1 : Option Nat} {v2 : Int32} {v3 : Int32} {v4 : Int32} {v5 : Int32} {v6 : Int32} {K : Unit → AH → Prop} {E : Nat → AH → Prop} {L40 : Int32 → Int32 → AH → Prop} {h : AH} {H : Heap} {locs : List Loc} {cells slots : Nat} {ls : Array Slot} (X : Cx g h0 p s m args meth c RX5 cX5_run 8 none) (k40 : ∀ {v5' : Int32} {v7' : Int32} {h : AH} {H : Heap} {locs : List Loc} {cells slots : Nat} {ls : Array Slot}, L40 v5' v7' h → HS g s h H locs → lv_has ls 8 [(0, va_rf v0), (1, va_rf v1), (2, .int v2), (3, .int v3), (4, .int v4), (5, .int (v5')), (6, .int v6), (7, .int (v7'))] → W p l e (RM 4 h0) s m args below meth c H locs cells slots (MQT below g (qV K) E args s h0) (F0 m 40 ls [])) (hw : w_X5_run_J96 g v0 v1 v2 v3 v4 v5 v6 K E L40 h) (hR : HS g s h H locs) (hl : lv_has ls 8 [(0, va_rf v0), (1, va_rf v1), (2, .int v2), (3, .int v3), (4, .int v4), (5, .int v5), (6, .int v6)]) : W p l e (RM 4 h0) s m args below meth c H locs cells slots (MQT below g (qV K) E args s h0) (F0 m 96 ls []) := by
  have hx := X.hx
  have hb := X.hb
  unfold w_X5_run_J96 at hw
  refine lv_iconst (v := 1) hx hb dX5_run_96 (by decide) ?_
  refine lv_goto (tgt := 101) hx hb dX5_run_97 (by decide) ?_
  exact t_X5_run_J101 X k40 hw hR (lv_sub hl [0, 1, 2, 3, 4, 5, 6] rfl)
theorem t_X5_run_L40 {p : Program} {l : Launch} {e : Env} {s : State} {m : MethodId} {args : Array Value} {below : List Frame} {meth : Method} {c : Code} {g : GT} {h0 : AH} {v0 : Option Nat} {v1 : Option Nat} {v2 : Int32} {v3 : Int32} {v4 : Int32} {v6 : Int32} {K : Unit → AH → Prop} {E : Nat → AH → Prop} {L14 : Int32 → Int32 → AH → Prop} (X : Cx g h0 p s m args meth c RX5 cX5_run 8 none) (k14 : ∀ {v5' : Int32} {v6' : Int32} {h : AH} {H : Heap} {locs : List Loc} {cells slots : Nat} {ls : Array Slot}, L14 v5' v6' h → HS g s h H locs → lv_has ls 8 [(0, va_rf v0), (1, va_rf v1), (2, .int v2), (3, .int v3), (4, .int v4), (5, .int (v5')), (6, .int (v6'))] → W p l e (RM 4 h0) s m args below meth c H locs cells slots (MQT below g (qV K) E args s h0) (F0 m 14 ls [])) : ∀ (n : Nat) {v5 : Int32} {v7 : Int32} {h : AH} {H : Heap} {locs : List Loc} {cells slots : Nat} {ls : Array Slot}, LpN2 (w_X5_run_L40 g v0 v1 v2 v3 v4 v6 K E L14) n v5 v7 h → HS g s h H locs → lv_has ls 8 [(0, va_rf v0), (1, va_rf v1), (2, .int v2), (3, .int v3), (4, .int v4), (5, .int v5), (6, .int v6), (7, .int v7)] → W p l e (RM 4 h0) s m args below meth c H locs cells slots (MQT below g (qV K) E args s h0) (F0 m 40 ls []) := by
  have hx := X.hx
  have hb := X.hb
  intro n
  induction n with
  | zero =>
    intro v5 v7 h H locs cells slots ls hw
    exact hw.elim
  | succ n k40 =>
    intro v5 v7 h H locs cells slots ls hw hR hl
    have hw : w_X5_run_L40 g v0 v1 v2 v3 v4 v6 K E L14 (LpN2 (w_X5_run_L40 g v0 v1 v2 v3 v4 v6 K E L14) n) v5 v7 h := hw
    unfold w_X5_run_L40 at hw
    refine lv_iload hx hb dX5_run_40 (lv_at hl 5 rfl) ?_
    refine r_aload_n X dX5_run_42 rfl (lv_at hl 1 rfl) ?_
    refine r_gI X hR fk_X5_33 dX5_run_43 hw (fun x4 hw => ?_)
    refine lv_icmp_ge (tgt := 109) hx hb dX5_run_46 (by decide) (fun c5 => ?_) (fun c5 => ?_)
    · have hw := hw.1 c5
      exact t_X5_run_J109 X k14 hw hR (lv_sub hl [0, 1, 2, 3, 4, 5, 6, 7] rfl)
    · have hw := hw.2 c5
      refine r_aload_n X dX5_run_49 rfl (lv_at hl 1 rfl) ?_
      refine r_gR X hR fk_X5_39 dX5_run_50 hw (fun x14 hw => ?_)
      refine lv_iload hx hb dX5_run_53 (lv_at hl 5 rfl) ?_
      refine r_aald X hR (t := 7) (by decide) (by decide) dX5_run_55 hw (fun x15 hw => ?_)
      refine r_gI X hR fk_X5_43 dX5_run_56 hw (fun x16 hw => ?_)
      refine lv_iload hx hb dX5_run_59 (lv_at hl 6 rfl) ?_
      refine lv_icmp_ne (tgt := 109) hx hb dX5_run_61 (by decide) (fun c17 => ?_) (fun c17 => ?_)
      · have hw := hw.1 c17
        exact t_X5_run_J109 X k14 hw hR (lv_sub hl [0, 1, 2, 3, 4, 5, 6, 7] rfl)
      · have hw := hw.2 c17
        refine r_aload_n X dX5_run_64 rfl (lv_at hl 1 rfl) ?_
        refine r_gR X hR fk_X5_39 dX5_run_65 hw (fun x18 hw => ?_)
        refine lv_iload hx hb dX5_run_68 (lv_at hl 5 rfl) ?_
        refine r_aald X hR (t := 7) (by decide) (by decide) dX5_run_70 hw (fun x19 hw => ?_)
        refine r_aload_n X dX5_run_71 rfl (lv_at hl 0 rfl) ?_
        refine r_gR X hR fk_X5_12 dX5_run_72 hw (fun x20 hw => ?_)
        refine r_callV X hR (r_letRun (qq := qV) hw (fun K21 hw => Or.elim hw (fun hw => c_U (C := "UmbrellaHeir$Lent") (owner := "UmbrellaHeir$Event") (x := ⟨"UmbrellaHeir$Event", "happens", "(LUmbrellaHeir$Hall;)V"⟩) (ci := 21) (q := (RX21, TX21, 3)) X hR hl.1 (c_X21_happens l g x19 x20) rfl rfl (va_cwA (C := "UmbrellaHeir$Lent") (owner := "UmbrellaHeir$Event") (x := ⟨"UmbrellaHeir$Event", "happens", "(LUmbrellaHeir$Hall;)V"⟩) (y := yX21_happens) 1 X.hts (lw_app (List.forall_mem_cons.mpr ⟨q1048, List.forall_mem_cons.mpr ⟨q1050, List.forall_mem_cons.mpr ⟨q1058, List.forall_mem_cons.mpr ⟨q1059, List.forall_mem_cons.mpr ⟨q143, fun _ h => absurd h List.not_mem_nil⟩⟩⟩⟩⟩) (lw_meth q1060)) rfl rfl rfl (X.hN _ q1049 rfl) ⟨by decide +kernel, by decide +kernel, by decide +kernel⟩ (rm_ok (by decide) (by decide))) rfl rfl (cat4 (Nat.le_of_ble_eq_true rfl)) dX5_run_75 hw) (fun hw => Or.elim hw (fun hw => c_U (C := "UmbrellaHeir$Left") (owner := "UmbrellaHeir$Event") (x := ⟨"UmbrellaHeir$Event", "happens", "(LUmbrellaHeir$Hall;)V"⟩) (ci := 22) (q := (RX22, TX22, 2)) X hR hl.1 (c_X22_happens l g x19 x20) rfl rfl (va_cwA (C := "UmbrellaHeir$Left") (owner := "UmbrellaHeir$Event") (x := ⟨"UmbrellaHeir$Event", "happens", "(LUmbrellaHeir$Hall;)V"⟩) (y := yX22_happens) 1 X.hts (lw_app (List.forall_mem_cons.mpr ⟨q1048, List.forall_mem_cons.mpr ⟨q1050, List.forall_mem_cons.mpr ⟨q1055, List.forall_mem_cons.mpr ⟨q1056, List.forall_mem_cons.mpr ⟨q144, fun _ h => absurd h List.not_mem_nil⟩⟩⟩⟩⟩) (lw_meth q1057)) rfl rfl rfl (X.hN _ q1049 rfl) ⟨by decide +kernel, by decide +kernel, by decide +kernel⟩ (rm_ok (by decide) (by decide))) rfl rfl (cat4 (Nat.le_of_ble_eq_true rfl)) dX5_run_75 hw) (fun hw => Or.elim hw (fun hw => c_U (C := "UmbrellaHeir$Changed") (owner := "UmbrellaHeir$Event") (x := ⟨"UmbrellaHeir$Event", "happens", "(LUmbrellaHeir$Hall;)V"⟩) (ci := 23) (q := (RX23, TX23, 3)) X hR hl.1 (c_X23_happens l g x19 x20) rfl rfl (va_cwA (C := "UmbrellaHeir$Changed") (owner := "UmbrellaHeir$Event") (x := ⟨"UmbrellaHeir$Event", "happens", "(LUmbrellaHeir$Hall;)V"⟩) (y := yX23_happens) 1 X.hts (lw_app (List.forall_mem_cons.mpr ⟨q1048, List.forall_mem_cons.mpr ⟨q1050, List.forall_mem_cons.mpr ⟨q1051, List.forall_mem_cons.mpr ⟨q1052, List.forall_mem_cons.mpr ⟨q145, fun _ h => absurd h List.not_mem_nil⟩⟩⟩⟩⟩) (lw_meth q1053)) rfl rfl rfl (X.hN _ q1049 rfl) ⟨by decide +kernel, by decide +kernel, by decide +kernel⟩ (rm_ok (by decide) (by decide))) rfl rfl (cat4 (Nat.le_of_ble_eq_true rfl)) dX5_run_75 hw) (fun hw => c_U (C := "UmbrellaHeir$Rain") (owner := "UmbrellaHeir$Event") (x := ⟨"UmbrellaHeir$Event", "happens", "(LUmbrellaHeir$Hall;)V"⟩) (ci := 24) (q := (RX24, TX24, 2)) X hR hl.1 (c_X24_happens l g x19 x20) rfl rfl (va_cwA (C := "UmbrellaHeir$Rain") (owner := "UmbrellaHeir$Event") (x := ⟨"UmbrellaHeir$Event", "happens", "(LUmbrellaHeir$Hall;)V"⟩) (y := yX24_happens) 1 X.hts (lw_app (List.forall_mem_cons.mpr ⟨q1048, List.forall_mem_cons.mpr ⟨q1050, List.forall_mem_cons.mpr ⟨q1061, List.forall_mem_cons.mpr ⟨q1062, List.forall_mem_cons.mpr ⟨q146, fun _ h => absurd h List.not_mem_nil⟩⟩⟩⟩⟩) (lw_meth q1063)) rfl rfl rfl (X.hN _ q1049 rfl) ⟨by decide +kernel, by decide +kernel, by decide +kernel⟩ (rm_ok (by decide) (by decide))) rfl rfl (cat4 (Nat.le_of_ble_eq_true rfl)) dX5_run_75 hw))))) (fun _ h H locs cells slots hR hw => ?_)
        refine lv_iload hx hb dX5_run_78 (lv_at hl 7 rfl) ?_
        refine lv_if_ne (tgt := 96) hx hb dX5_run_80 (by decide) (fun c22 => ?_) (fun c22 => ?_)
        · have hw := hw.1 c22
          exact t_X5_run_J96 X k40 hw hR (lv_sub hl [0, 1, 2, 3, 4, 5, 6] rfl)
        · have hw := hw.2 c22
          refine r_aload_n X dX5_run_83 rfl (lv_at hl 1 rfl) ?_
          refine r_gR X hR fk_X5_39 dX5_run_84 hw (fun x24 hw => ?_)
          refine lv_iload hx hb dX5_run_87 (lv_at hl 5 rfl) ?_
          refine r_aald X hR (t := 7) (by decide) (by decide) dX5_run_89 hw (fun x25 hw => ?_)
          refine r_callI X hR (r_letRun (qq := qI) hw (fun K27 hw => Or.elim hw (fun hw => c_U (C := "UmbrellaHeir$Lent") (owner := "UmbrellaHeir$Event") (x := ⟨"UmbrellaHeir$Event", "isRain", "()Z"⟩) (ci := 21) (q := (RX21, TX21, 3)) X hR hl.1 (c_X20_isRain l g x25) rfl rfl (va_cwU (C := "UmbrellaHeir$Lent") (owner := "UmbrellaHeir$Event") (x := ⟨"UmbrellaHeir$Event", "isRain", "()Z"⟩) (y := yX20_isRain) 0 X.hts (lw_app (List.forall_mem_cons.mpr ⟨q1064, List.forall_mem_cons.mpr ⟨q1066, List.forall_mem_cons.mpr ⟨q1069, List.forall_mem_cons.mpr ⟨q1065, List.forall_mem_cons.mpr ⟨q142, fun _ h => absurd h List.not_mem_nil⟩⟩⟩⟩⟩) (lw_meth q1073)) rfl rfl rfl rfl ⟨by decide +kernel, by decide +kernel, by decide +kernel⟩ (rm_ok (by decide) (by decide))) rfl rfl (cat4 (Nat.le_of_ble_eq_true rfl)) dX5_run_90 hw) (fun hw => Or.elim hw (fun hw => c_U (C := "UmbrellaHeir$Left") (owner := "UmbrellaHeir$Event") (x := ⟨"UmbrellaHeir$Event", "isRain", "()Z"⟩) (ci := 22) (q := (RX22, TX22, 2)) X hR hl.1 (c_X20_isRain l g x25) rfl rfl (va_cwU (C := "UmbrellaHeir$Left") (owner := "UmbrellaHeir$Event") (x := ⟨"UmbrellaHeir$Event", "isRain", "()Z"⟩) (y := yX20_isRain) 0 X.hts (lw_app (List.forall_mem_cons.mpr ⟨q1064, List.forall_mem_cons.mpr ⟨q1066, List.forall_mem_cons.mpr ⟨q1068, List.forall_mem_cons.mpr ⟨q1065, List.forall_mem_cons.mpr ⟨q142, fun _ h => absurd h List.not_mem_nil⟩⟩⟩⟩⟩) (lw_meth q1073)) rfl rfl rfl rfl ⟨by decide +kernel, by decide +kernel, by decide +kernel⟩ (rm_ok (by decide) (by decide))) rfl rfl (cat4 (Nat.le_of_ble_eq_true rfl)) dX5_run_90 hw) (fun hw => Or.elim hw (fun hw => c_U (C := "UmbrellaHeir$Changed") (owner := "UmbrellaHeir$Event") (x := ⟨"UmbrellaHeir$Event", "isRain", "()Z"⟩) (ci := 23) (q := (RX23, TX23, 3)) X hR hl.1 (c_X20_isRain l g x25) rfl rfl (va_cwU (C := "UmbrellaHeir$Changed") (owner := "UmbrellaHeir$Event") (x := ⟨"UmbrellaHeir$Event", "isRain", "()Z"⟩) (y := yX20_isRain) 0 X.hts (lw_app (List.forall_mem_cons.mpr ⟨q1064, List.forall_mem_cons.mpr ⟨q1066, List.forall_mem_cons.mpr ⟨q1067, List.forall_mem_cons.mpr ⟨q1065, List.forall_mem_cons.mpr ⟨q142, fun _ h => absurd h List.not_mem_nil⟩⟩⟩⟩⟩) (lw_meth q1073)) rfl rfl rfl rfl ⟨by decide +kernel, by decide +kernel, by decide +kernel⟩ (rm_ok (by decide) (by decide))) rfl rfl (cat4 (Nat.le_of_ble_eq_true rfl)) dX5_run_90 hw) (fun hw => c_U (C := "UmbrellaHeir$Rain") (owner := "UmbrellaHeir$Event") (x := ⟨"UmbrellaHeir$Event", "isRain", "()Z"⟩) (ci := 24) (q := (RX24, TX24, 2)) X hR hl.1 (c_X24_isRain l g x25) rfl rfl (va_cwO (C := "UmbrellaHeir$Rain") (owner := "UmbrellaHeir$Event") (x := ⟨"UmbrellaHeir$Event", "isRain", "()Z"⟩) (y := yX24_isRain) 0 X.hts (lw_app (List.forall_mem_cons.mpr ⟨q1064, List.forall_mem_cons.mpr ⟨q1066, List.forall_mem_cons.mpr ⟨q1065, List.forall_mem_cons.mpr ⟨q1070, List.forall_mem_cons.mpr ⟨q1071, List.forall_mem_cons.mpr ⟨q146, fun _ h => absurd h List.not_mem_nil⟩⟩⟩⟩⟩⟩) (lw_meth q1072)) rfl rfl rfl q1073 ⟨by decide +kernel, by decide +kernel, by decide +kernel⟩ (rm_ok (by decide) (by decide))) rfl rfl (cat4 (Nat.le_of_ble_eq_true rfl)) dX5_run_90 hw))))) (fun x26 h H locs cells slots hR hw => ?_)
          refine lv_if_eq (tgt := 100) hx hb dX5_run_93 (by decide) (fun c28 => ?_) (fun c28 => ?_)
          · have hw := hw.1 c28
            refine lv_iconst (v := 0) hx hb dX5_run_100 (by decide) ?_
            exact t_X5_run_J101 X k40 hw hR (lv_sub hl [0, 1, 2, 3, 4, 5, 6] rfl)
          · have hw := hw.2 c28
            exact t_X5_run_J96 X k40 hw hR (lv_sub hl [0, 1, 2, 3, 4, 5, 6] rfl)
theorem t_X5_run_J37 {p : Program} {l : Launch} {e : Env} {s : State} {m : MethodId} {args : Array Value} {below : List Frame} {meth : Method} {c : Code} {g : GT} {h0 : AH} {v0 : Option Nat} {v1 : Option Nat} {v2 : Int32} {v3 : Int32} {v4 : Int32} {v5 : Int32} {v6 : Int32} {K : Unit → AH → Prop} {E : Nat → AH → Prop} {L14 : Int32 → Int32 → AH → Prop} {h : AH} {H : Heap} {locs : List Loc} {cells slots : Nat} {ls : Array Slot} (X : Cx g h0 p s m args meth c RX5 cX5_run 8 none) (k14 : ∀ {v5' : Int32} {v6' : Int32} {h : AH} {H : Heap} {locs : List Loc} {cells slots : Nat} {ls : Array Slot}, L14 v5' v6' h → HS g s h H locs → lv_has ls 8 [(0, va_rf v0), (1, va_rf v1), (2, .int v2), (3, .int v3), (4, .int v4), (5, .int (v5')), (6, .int (v6'))] → W p l e (RM 4 h0) s m args below meth c H locs cells slots (MQT below g (qV K) E args s h0) (F0 m 14 ls [])) (hw : w_X5_run_J37 g v0 v1 v2 v3 v4 v5 v6 K E L14 h) (hR : HS g s h H locs) (hl : lv_has ls 8 [(0, va_rf v0), (1, va_rf v1), (2, .int v2), (3, .int v3), (4, .int v4), (5, .int v5), (6, .int v6)]) : W p l e (RM 4 h0) s m args below meth c H locs cells slots (MQT below g (qV K) E args s h0) (F0 m 37 ls []) := by
  have hx := X.hx
  have hb := X.hb
  unfold w_X5_run_J37 at hw
  refine lv_iconst (v := 0) hx hb dX5_run_37 (by decide) ?_
  refine lv_istore (i := 7) (lv' := [(7, .int 0), (0, va_rf v0), (1, va_rf v1), (2, .int v2), (3, .int v3), (4, .int v4), (5, .int v5), (6, .int v6)]) hx hb dX5_run_38 hl (by decide) rfl (fun ls hl => ?_)
  obtain ⟨n, hw⟩ := hw
  exact t_X5_run_L40 X k14 n hw hR (lv_sub hl [1, 2, 3, 4, 5, 6, 7, 0] rfl)
theorem t_X5_run_L14 {p : Program} {l : Launch} {e : Env} {s : State} {m : MethodId} {args : Array Value} {below : List Frame} {meth : Method} {c : Code} {g : GT} {h0 : AH} {v0 : Option Nat} {v1 : Option Nat} {v2 : Int32} {v3 : Int32} {v4 : Int32} {K : Unit → AH → Prop} {E : Nat → AH → Prop} (X : Cx g h0 p s m args meth c RX5 cX5_run 8 none)  : ∀ (n : Nat) {v5 : Int32} {v6 : Int32} {h : AH} {H : Heap} {locs : List Loc} {cells slots : Nat} {ls : Array Slot}, LpN2 (w_X5_run_L14 g v0 v1 v2 v3 v4 K E) n v5 v6 h → HS g s h H locs → lv_has ls 8 [(0, va_rf v0), (1, va_rf v1), (2, .int v2), (3, .int v3), (4, .int v4), (5, .int v5), (6, .int v6)] → W p l e (RM 4 h0) s m args below meth c H locs cells slots (MQT below g (qV K) E args s h0) (F0 m 14 ls []) := by
  have hx := X.hx
  have hb := X.hb
  intro n
  induction n with
  | zero =>
    intro v5 v6 h H locs cells slots ls hw
    exact hw.elim
  | succ n k14 =>
    intro v5 v6 h H locs cells slots ls hw hR hl
    have hw : w_X5_run_L14 g v0 v1 v2 v3 v4 K E (LpN2 (w_X5_run_L14 g v0 v1 v2 v3 v4 K E) n) v5 v6 h := hw
    unfold w_X5_run_L14 at hw
    refine lv_iload hx hb dX5_run_14 (lv_at hl 6 rfl) ?_
    refine lv_bipush (v := 40) hx hb dX5_run_16 (by decide) ?_
    refine lv_icmp_gt (tgt := 164) hx hb dX5_run_18 (by decide) (fun c2 => ?_) (fun c2 => ?_)
    · have hw := hw.1 c2
      exact r_vret X hR rfl dX5_run_164 hw
    · have hw := hw.2 c2
      refine lv_iload hx hb dX5_run_21 (lv_at hl 6 rfl) ?_
      refine lv_iload_n hx hb dX5_run_23 rfl (lv_at hl 2 rfl) ?_
      refine lv_icmp_ne (tgt := 37) hx hb dX5_run_24 (by decide) (fun c3 => ?_) (fun c3 => ?_)
      · have hw := hw.1 c3
        exact t_X5_run_J37 X k14 hw hR (lv_sub hl [0, 1, 2, 3, 4, 5, 6] rfl)
      · have hw := hw.2 c3
        refine r_aload_n X dX5_run_27 rfl (lv_at hl 0 rfl) ?_
        refine r_gR X hR fk_X5_12 dX5_run_28 hw (fun x29 hw => ?_)
        refine lv_iload_n hx hb dX5_run_31 rfl (lv_at hl 3 rfl) ?_
        refine lv_iload hx hb dX5_run_32 (lv_at hl 4 rfl) ?_
        refine r_callV X hR (c_V (ci := 4) (q := (RX4, TX4, 4)) X hR hl.1 (c_X4_change l g x29 v3 v4) (lw_V q1044 q1045 q1046 q121 q1047) rfl rfl mh_X4_change rfl (by decide) (by decide) rfl (cat4 (Nat.le_of_ble_eq_true rfl)) dX5_run_34 hw) (fun _ h H locs cells slots hR hw => ?_)
        exact t_X5_run_J37 X k14 hw hR (lv_sub hl [0, 1, 2, 3, 4, 5, 6] rfl)
theorem c_X5_run (l : Launch) (g : GT) (v0 : Option Nat) (v1 : Option Nat) (v2 : Int32) (v3 : Int32) (v4 : Int32) : CT qV l yX5_run (ws_ yX5_run cX5_run 8 none) 4 g [va_rf v0, va_rf v1, .int v2, .int v3, .int v4] (fun K E h => w_X5_run g v0 v1 v2 v3 v4 K E h) := by
  refine CT_of (lv := [(0, va_rf v0), (1, va_rf v1), (2, .int v2), (3, .int v3), (4, .int v4)]) (by decide +kernel) (by simp [lg_sl, cat_rf, cat_int, cat_long]) (by simp [lv_args, cat_rf, cat_int, cat_long]) (fun h0 K E p e s m args below meth c H locs cells slots ls X hxt hmn hw hR hl => ?_)
  have hx := X.hx
  have hb := X.hb
  unfold w_X5_run at hw
  refine r_aload_n X dX5_run_0 rfl (lv_at hl 0 rfl) ?_
  refine r_gR X hR fk_X5_12 dX5_run_1 hw (fun x1 hw => ?_)
  refine r_aload_n X dX5_run_4 rfl (lv_at hl 1 rfl) ?_
  refine r_callV X hR (c_V (ci := 4) (q := (RX4, TX4, 4)) X hR hl.1 (c_X4_begin l g x1 v1) (lw_V q1043 q1013 q1014 q121 q1015) rfl rfl mh_X4_begin rfl (by decide) (by decide) rfl (cat4 (Nat.le_of_ble_eq_true rfl)) dX5_run_5 hw) (fun _ h H locs cells slots hR hw => ?_)
  refine lv_iconst (v := 0) hx hb dX5_run_8 (by decide) ?_
  refine lv_istore (i := 5) (lv' := [(5, .int 0), (0, va_rf v0), (1, va_rf v1), (2, .int v2), (3, .int v3), (4, .int v4)]) hx hb dX5_run_9 hl (by decide) rfl (fun ls hl => ?_)
  refine lv_iconst (v := 0) hx hb dX5_run_11 (by decide) ?_
  refine lv_istore (i := 6) (lv' := [(6, .int 0), (5, .int 0), (0, va_rf v0), (1, va_rf v1), (2, .int v2), (3, .int v3), (4, .int v4)]) hx hb dX5_run_12 hl (by decide) rfl (fun ls hl => ?_)
  obtain ⟨n, hw⟩ := hw
  exact t_X5_run_L14 X  n hw hR (lv_sub hl [2, 3, 4, 5, 6, 1, 0] rfl)
theorem c_X1_fault (l : Launch) (g : GT) (v0 : Option Nat) : CT qI l yX1_fault (ws_ yX1_fault cX1_fault 1 (Option.some Jvm.ClassFile.FieldType.int)) 1 g [va_rf v0] (fun K E h => w_X1_fault g v0 K E h) := by
  refine CT_of (lv := [(0, va_rf v0)]) (by decide +kernel) (by simp [lg_sl, cat_rf, cat_int, cat_long]) (by simp [lv_args, cat_rf, cat_int, cat_long]) (fun h0 K E p e s m args below meth c H locs cells slots ls X hxt hmn hw hR hl => ?_)
  have hx := X.hx
  have hb := X.hb
  unfold w_X1_fault at hw
  refine r_aload_n X dX1_fault_0 rfl (lv_at hl 0 rfl) ?_
  refine r_gI X hR fk_X1_95 dX1_fault_1 hw (fun x1 hw => ?_)
  exact r_iret X hR dX1_fault_4 hw
theorem c_X1_where (l : Launch) (g : GT) (v0 : Option Nat) : CT qI l yX1_where (ws_ yX1_where cX1_where 1 (Option.some Jvm.ClassFile.FieldType.int)) 1 g [va_rf v0] (fun K E h => w_X1_where g v0 K E h) := by
  refine CT_of (lv := [(0, va_rf v0)]) (by decide +kernel) (by simp [lg_sl, cat_rf, cat_int, cat_long]) (by simp [lv_args, cat_rf, cat_int, cat_long]) (fun h0 K E p e s m args below meth c H locs cells slots ls X hxt hmn hw hR hl => ?_)
  have hx := X.hx
  have hb := X.hb
  unfold w_X1_where at hw
  refine r_aload_n X dX1_where_0 rfl (lv_at hl 0 rfl) ?_
  refine r_gI X hR fk_X1_74 dX1_where_1 hw (fun x1 hw => ?_)
  refine lv_iconst (v := 4) hx hb dX1_where_4 (by decide) ?_
  refine lv_icmp_ne (tgt := 15) hx hb dX1_where_5 (by decide) (fun c2 => ?_) (fun c2 => ?_)
  · have hw := hw.1 c2
    refine lv_iconst (v := (-1)) hx hb dX1_where_15 (by decide) ?_
    exact r_iret X hR dX1_where_16 hw
  · have hw := hw.2 c2
    refine r_aload_n X dX1_where_8 rfl (lv_at hl 0 rfl) ?_
    refine r_gI X hR fk_X1_26 dX1_where_9 hw (fun x3 hw => ?_)
    refine lv_goto (tgt := 16) hx hb dX1_where_12 (by decide) ?_
    exact r_iret X hR dX1_where_16 hw
theorem c_X1_isUmbrella (l : Launch) (g : GT) (v0 : Option Nat) (v1 : Int32) : CT qI l yX1_isUmbrella (ws_ yX1_isUmbrella cX1_isUmbrella 2 (Option.some Jvm.ClassFile.FieldType.boolean)) 2 g [va_rf v0, .int v1] (fun K E h => w_X1_isUmbrella g v0 v1 K E h) := by
  refine CT_of (lv := [(0, va_rf v0), (1, .int v1)]) (by decide +kernel) (by simp [lg_sl, cat_rf, cat_int, cat_long]) (by simp [lv_args, cat_rf, cat_int, cat_long]) (fun h0 K E p e s m args below meth c H locs cells slots ls X hxt hmn hw hR hl => ?_)
  have hx := X.hx
  have hb := X.hb
  unfold w_X1_isUmbrella at hw
  refine r_aload_n X dX1_isUmbrella_0 rfl (lv_at hl 0 rfl) ?_
  refine r_gR X hR fk_X1_102 dX1_isUmbrella_1 hw (fun x1 hw => ?_)
  refine r_ifnull (tgt := 28) X dX1_isUmbrella_4 (by decide) (fun c2 => ?_) (fun c2 => ?_)
  · have hw := hw.1 c2
    refine lv_iconst (v := 0) hx hb dX1_isUmbrella_28 (by decide) ?_
    exact r_zret X hR dX1_isUmbrella_29 hw
  · have hw := hw.2 c2
    refine lv_iload_n hx hb dX1_isUmbrella_7 rfl (lv_at hl 1 rfl) ?_
    refine lv_iconst (v := 0) hx hb dX1_isUmbrella_8 (by decide) ?_
    refine r_aload_n X dX1_isUmbrella_9 rfl (lv_at hl 0 rfl) ?_
    refine r_gR X hR fk_X1_102 dX1_isUmbrella_10 hw (fun x3 hw => ?_)
    refine r_gI X hR fk_X1_126 dX1_isUmbrella_13 hw (fun x4 hw => ?_)
    refine lv_iconst (v := 1) hx hb dX1_isUmbrella_16 (by decide) ?_
    refine lv_isub hx hb dX1_isUmbrella_17 ?_
    refine r_callI X hR (c_S X hR hl.1 (c_X1_in l g v1 0 (x4 - 1)) (lw_S q459 q460 q115 q461) mh_X1_in rfl (by decide) (by decide) rfl (cat4 (Nat.le_of_ble_eq_true rfl)) dX1_isUmbrella_18 hw) (fun x5 h H locs cells slots hR hw => ?_)
    refine lv_if_eq (tgt := 28) hx hb dX1_isUmbrella_21 (by decide) (fun c6 => ?_) (fun c6 => ?_)
    · have hw := hw.1 c6
      refine lv_iconst (v := 0) hx hb dX1_isUmbrella_28 (by decide) ?_
      exact r_zret X hR dX1_isUmbrella_29 hw
    · have hw := hw.2 c6
      refine lv_iconst (v := 1) hx hb dX1_isUmbrella_24 (by decide) ?_
      refine lv_goto (tgt := 29) hx hb dX1_isUmbrella_25 (by decide) ?_
      exact r_zret X hR dX1_isUmbrella_29 hw
theorem c_X16_kind (l : Launch) (g : GT) (v0 : Option Nat) : CT qI l yX16_kind (ws_ yX16_kind cX16_kind 1 (Option.some Jvm.ClassFile.FieldType.int)) 1 g [va_rf v0] (fun K E h => w_X16_kind g v0 K E h) := by
  refine CT_of (lv := [(0, va_rf v0)]) (by decide +kernel) (by simp [lg_sl, cat_rf, cat_int, cat_long]) (by simp [lv_args, cat_rf, cat_int, cat_long]) (fun h0 K E p e s m args below meth c H locs cells slots ls X hxt hmn hw hR hl => ?_)
  have hx := X.hx
  have hb := X.hb
  unfold w_X16_kind at hw
  refine lv_iconst (v := 0) hx hb dX16_kind_0 (by decide) ?_
  exact r_iret X hR dX16_kind_1 hw
theorem c_X17_kind (l : Launch) (g : GT) (v0 : Option Nat) : CT qI l yX17_kind (ws_ yX17_kind cX17_kind 1 (Option.some Jvm.ClassFile.FieldType.int)) 1 g [va_rf v0] (fun K E h => w_X17_kind g v0 K E h) := by
  refine CT_of (lv := [(0, va_rf v0)]) (by decide +kernel) (by simp [lg_sl, cat_rf, cat_int, cat_long]) (by simp [lv_args, cat_rf, cat_int, cat_long]) (fun h0 K E p e s m args below meth c H locs cells slots ls X hxt hmn hw hR hl => ?_)
  have hx := X.hx
  have hb := X.hb
  unfold w_X17_kind at hw
  refine lv_iconst (v := 1) hx hb dX17_kind_0 (by decide) ?_
  exact r_iret X hR dX17_kind_1 hw
theorem c_X18_kind (l : Launch) (g : GT) (v0 : Option Nat) : CT qI l yX18_kind (ws_ yX18_kind cX18_kind 1 (Option.some Jvm.ClassFile.FieldType.int)) 1 g [va_rf v0] (fun K E h => w_X18_kind g v0 K E h) := by
  refine CT_of (lv := [(0, va_rf v0)]) (by decide +kernel) (by simp [lg_sl, cat_rf, cat_int, cat_long]) (by simp [lv_args, cat_rf, cat_int, cat_long]) (fun h0 K E p e s m args below meth c H locs cells slots ls X hxt hmn hw hR hl => ?_)
  have hx := X.hx
  have hb := X.hb
  unfold w_X18_kind at hw
  refine lv_iconst (v := 2) hx hb dX18_kind_0 (by decide) ?_
  exact r_iret X hR dX18_kind_1 hw
theorem c_X19_kind (l : Launch) (g : GT) (v0 : Option Nat) : CT qI l yX19_kind (ws_ yX19_kind cX19_kind 1 (Option.some Jvm.ClassFile.FieldType.int)) 1 g [va_rf v0] (fun K E h => w_X19_kind g v0 K E h) := by
  refine CT_of (lv := [(0, va_rf v0)]) (by decide +kernel) (by simp [lg_sl, cat_rf, cat_int, cat_long]) (by simp [lv_args, cat_rf, cat_int, cat_long]) (fun h0 K E p e s m args below meth c H locs cells slots ls X hxt hmn hw hR hl => ?_)
  have hx := X.hx
  have hb := X.hb
  unfold w_X19_kind at hw
  refine lv_iconst (v := 3) hx hb dX19_kind_0 (by decide) ?_
  exact r_iret X hR dX19_kind_1 hw
theorem c_X1_umbrella (l : Launch) (g : GT) (v0 : Option Nat) (v1 : Int32) (v2 : Int32) : CT qI l yX1_umbrella (ws_ yX1_umbrella cX1_umbrella 4 (Option.some Jvm.ClassFile.FieldType.int)) 3 g [va_rf v0, .int v1, .int v2] (fun K E h => w_X1_umbrella g v0 v1 v2 K E h) := by
  refine CT_of (lv := [(0, va_rf v0), (1, .int v1), (2, .int v2)]) (by decide +kernel) (by simp [lg_sl, cat_rf, cat_int, cat_long]) (by simp [lv_args, cat_rf, cat_int, cat_long]) (fun h0 K E p e s m args below meth c H locs cells slots ls X hxt hmn hw hR hl => ?_)
  have hx := X.hx
  have hb := X.hb
  unfold w_X1_umbrella at hw
  refine r_aload_n X dX1_umbrella_0 rfl (lv_at hl 0 rfl) ?_
  refine r_callV X hR (c_V (ci := 1) (q := (RX1, TX1, 21)) X hR hl.1 (c_X1_anew l g v0) (lw_V q455 q457 qs2 q115 q458) rfl rfl mh_X1_anew rfl (by decide) (by decide) rfl (cat4 (Nat.le_of_ble_eq_true rfl)) dX1_umbrella_1 hw) (fun _ h H locs cells slots hR hw => ?_)
  refine r_aload_n X dX1_umbrella_4 rfl (lv_at hl 0 rfl) ?_
  refine lv_iload_n hx hb dX1_umbrella_5 rfl (lv_at hl 1 rfl) ?_
  refine r_callI X hR (c_V (ci := 1) (q := (RX1, TX1, 21)) X hR hl.1 (c_X1_isUmbrella l g v0 v1) (lw_V q1142 q1144 qs32 q115 q1145) rfl rfl mh_X1_isUmbrella rfl (by decide) (by decide) rfl (cat4 (Nat.le_of_ble_eq_true rfl)) dX1_umbrella_6 hw) (fun x1 h H locs cells slots hR hw => ?_)
  refine lv_if_ne (tgt := 18) hx hb dX1_umbrella_9 (by decide) (fun c2 => ?_) (fun c2 => ?_)
  · have hw := hw.1 c2
    refine r_aload_n X dX1_umbrella_18 rfl (lv_at hl 0 rfl) ?_
    refine r_gR X hR fk_X1_102 dX1_umbrella_19 hw (fun x3 hw => ?_)
    refine r_gR X hR fk_X1_138 dX1_umbrella_22 hw (fun x4 hw => ?_)
    refine lv_iload_n hx hb dX1_umbrella_25 rfl (lv_at hl 1 rfl) ?_
    refine r_aald X hR (t := 6) (by decide) (by decide) dX1_umbrella_26 hw (fun x5 hw => ?_)
    refine r_astore_n (i := 3) (lv' := [(3, va_rf x5), (0, va_rf v0), (1, .int v1), (2, .int v2)]) X dX1_umbrella_27 rfl hl (by decide) rfl (fun ls hl => ?_)
    refine lv_iload_n hx hb dX1_umbrella_28 rfl (lv_at hl 3 rfl) ?_
    by_cases c6_0 : v2 = 0
    · have hw := swT_at hw 0 rfl c6_0
      rw [c6_0]
      refine lv_tableIn (tgt := 64) hx hb dX1_umbrella_29 (by decide) (by decide) rfl (by decide) ?_
      refine r_aload_n X dX1_umbrella_64 rfl (lv_at hl 0 rfl) ?_
      refine r_callI X hR (r_letRun (qq := qI) hw (fun K8 hw => Or.elim hw (fun hw => c_U (C := "UmbrellaHeir$Silk") (owner := "UmbrellaHeir$Umbrella") (x := ⟨"UmbrellaHeir$Umbrella", "kind", "()I"⟩) (ci := 16) (q := (RX16, TY16, 5)) X hR hl.1 (c_X16_kind l g x5) rfl rfl (va_cwA (C := "UmbrellaHeir$Silk") (owner := "UmbrellaHeir$Umbrella") (x := ⟨"UmbrellaHeir$Umbrella", "kind", "()I"⟩) (y := yX16_kind) 0 X.hts (lw_app (List.forall_mem_cons.mpr ⟨q1146, List.forall_mem_cons.mpr ⟨q1148, List.forall_mem_cons.mpr ⟨q1155, List.forall_mem_cons.mpr ⟨q1156, List.forall_mem_cons.mpr ⟨q138, fun _ h => absurd h List.not_mem_nil⟩⟩⟩⟩⟩) (lw_meth q1157)) rfl rfl rfl (X.hN _ q1147 rfl) ⟨by decide +kernel, by decide +kernel, by decide +kernel⟩ (rm_ok (by decide) (by decide))) rfl rfl (cat4 (Nat.le_of_ble_eq_true rfl)) dX1_umbrella_65 hw) (fun hw => Or.elim hw (fun hw => c_U (C := "UmbrellaHeir$Cotton") (owner := "UmbrellaHeir$Umbrella") (x := ⟨"UmbrellaHeir$Umbrella", "kind", "()I"⟩) (ci := 17) (q := (RX17, TY17, 5)) X hR hl.1 (c_X17_kind l g x5) rfl rfl (va_cwA (C := "UmbrellaHeir$Cotton") (owner := "UmbrellaHeir$Umbrella") (x := ⟨"UmbrellaHeir$Umbrella", "kind", "()I"⟩) (y := yX17_kind) 0 X.hts (lw_app (List.forall_mem_cons.mpr ⟨q1146, List.forall_mem_cons.mpr ⟨q1148, List.forall_mem_cons.mpr ⟨q1149, List.forall_mem_cons.mpr ⟨q1150, List.forall_mem_cons.mpr ⟨q139, fun _ h => absurd h List.not_mem_nil⟩⟩⟩⟩⟩) (lw_meth q1151)) rfl rfl rfl (X.hN _ q1147 rfl) ⟨by decide +kernel, by decide +kernel, by decide +kernel⟩ (rm_ok (by decide) (by decide))) rfl rfl (cat4 (Nat.le_of_ble_eq_true rfl)) dX1_umbrella_65 hw) (fun hw => Or.elim hw (fun hw => c_U (C := "UmbrellaHeir$Stick") (owner := "UmbrellaHeir$Umbrella") (x := ⟨"UmbrellaHeir$Umbrella", "kind", "()I"⟩) (ci := 18) (q := (RX18, TY18, 5)) X hR hl.1 (c_X18_kind l g x5) rfl rfl (va_cwA (C := "UmbrellaHeir$Stick") (owner := "UmbrellaHeir$Umbrella") (x := ⟨"UmbrellaHeir$Umbrella", "kind", "()I"⟩) (y := yX18_kind) 0 X.hts (lw_app (List.forall_mem_cons.mpr ⟨q1146, List.forall_mem_cons.mpr ⟨q1148, List.forall_mem_cons.mpr ⟨q1158, List.forall_mem_cons.mpr ⟨q1159, List.forall_mem_cons.mpr ⟨q140, fun _ h => absurd h List.not_mem_nil⟩⟩⟩⟩⟩) (lw_meth q1160)) rfl rfl rfl (X.hN _ q1147 rfl) ⟨by decide +kernel, by decide +kernel, by decide +kernel⟩ (rm_ok (by decide) (by decide))) rfl rfl (cat4 (Nat.le_of_ble_eq_true rfl)) dX1_umbrella_65 hw) (fun hw => c_U (C := "UmbrellaHeir$Parasol") (owner := "UmbrellaHeir$Umbrella") (x := ⟨"UmbrellaHeir$Umbrella", "kind", "()I"⟩) (ci := 19) (q := (RX19, TY19, 5)) X hR hl.1 (c_X19_kind l g x5) rfl rfl (va_cwA (C := "UmbrellaHeir$Parasol") (owner := "UmbrellaHeir$Umbrella") (x := ⟨"UmbrellaHeir$Umbrella", "kind", "()I"⟩) (y := yX19_kind) 0 X.hts (lw_app (List.forall_mem_cons.mpr ⟨q1146, List.forall_mem_cons.mpr ⟨q1148, List.forall_mem_cons.mpr ⟨q1152, List.forall_mem_cons.mpr ⟨q1153, List.forall_mem_cons.mpr ⟨q141, fun _ h => absurd h List.not_mem_nil⟩⟩⟩⟩⟩) (lw_meth q1154)) rfl rfl rfl (X.hN _ q1147 rfl) ⟨by decide +kernel, by decide +kernel, by decide +kernel⟩ (rm_ok (by decide) (by decide))) rfl rfl (cat4 (Nat.le_of_ble_eq_true rfl)) dX1_umbrella_65 hw))))) (fun x7 h H locs cells slots hR hw => ?_)
      exact r_iret X hR dX1_umbrella_68 hw
    by_cases c6_1 : v2 = 1
    · have hw := swT_at hw 1 rfl c6_1
      rw [c6_1]
      refine lv_tableIn (tgt := 69) hx hb dX1_umbrella_29 (by decide) (by decide) rfl (by decide) ?_
      refine r_aload_n X dX1_umbrella_69 rfl (lv_at hl 0 rfl) ?_
      refine r_gI X hR fk_X1_148 dX1_umbrella_70 hw (fun x9 hw => ?_)
      exact r_iret X hR dX1_umbrella_73 hw
    by_cases c6_2 : v2 = 2
    · have hw := swT_at hw 2 rfl c6_2
      rw [c6_2]
      refine lv_tableIn (tgt := 74) hx hb dX1_umbrella_29 (by decide) (by decide) rfl (by decide) ?_
      refine r_aload_n X dX1_umbrella_74 rfl (lv_at hl 0 rfl) ?_
      refine r_gI X hR fk_X1_151 dX1_umbrella_75 hw (fun x10 hw => ?_)
      exact r_iret X hR dX1_umbrella_78 hw
    by_cases c6_3 : v2 = 3
    · have hw := swT_at hw 3 rfl c6_3
      rw [c6_3]
      refine lv_tableIn (tgt := 79) hx hb dX1_umbrella_29 (by decide) (by decide) rfl (by decide) ?_
      refine r_aload_n X dX1_umbrella_79 rfl (lv_at hl 1 rfl) ?_
      refine r_gR X hR fk_X1_33 dX1_umbrella_80 hw (fun x11 hw => ?_)
      refine r_gR X hR fk_X1_154 dX1_umbrella_83 hw (fun x12 hw => ?_)
      refine lv_iload_n hx hb dX1_umbrella_86 rfl (lv_at hl 2 rfl) ?_
      refine r_iald X hR dX1_umbrella_87 hw (fun x13 hw => ?_)
      exact r_iret X hR dX1_umbrella_88 hw
    by_cases c6_4 : v2 = 4
    · have hw := swT_at hw 4 rfl c6_4
      rw [c6_4]
      refine lv_tableIn (tgt := 89) hx hb dX1_umbrella_29 (by decide) (by decide) rfl (by decide) ?_
      refine r_aload_n X dX1_umbrella_89 rfl (lv_at hl 1 rfl) ?_
      refine r_gR X hR fk_X1_33 dX1_umbrella_90 hw (fun x14 hw => ?_)
      refine r_gR X hR fk_X1_158 dX1_umbrella_93 hw (fun x15 hw => ?_)
      refine lv_iload_n hx hb dX1_umbrella_96 rfl (lv_at hl 2 rfl) ?_
      refine r_iald X hR dX1_umbrella_97 hw (fun x16 hw => ?_)
      exact r_iret X hR dX1_umbrella_98 hw
    have hw := hw.2 (List.forall_mem_cons.mpr ⟨c6_0, (List.forall_mem_cons.mpr ⟨c6_1, (List.forall_mem_cons.mpr ⟨c6_2, (List.forall_mem_cons.mpr ⟨c6_3, (List.forall_mem_cons.mpr ⟨c6_4, (fun _ h => absurd h List.not_mem_nil)⟩)⟩)⟩)⟩)⟩)
    refine lv_tableOut (tgt := 99) hx hb dX1_umbrella_29 (sw_out (x := v2) (lo := 0) (n := 5) (by decide) (lt_s (lt_s (lt_s (lt_s (lt_s lt_0 c6_0) c6_1) c6_2) c6_3) c6_4)) (by decide) ?_
    refine r_aload_n X dX1_umbrella_99 rfl (lv_at hl 1 rfl) ?_
    refine lv_iconst (v := 1) hx hb dX1_umbrella_100 (by decide) ?_
    refine r_callI X hR (c_V (ci := 1) (q := (RX1, TX1, 21)) X hR hl.1 (c_X1_no l g v0 1) (lw_V q462 q464 qs3 q115 q465) rfl rfl mh_X1_no rfl (by decide) (by decide) rfl (cat4 (Nat.le_of_ble_eq_true rfl)) dX1_umbrella_101 hw) (fun x17 h H locs cells slots hR hw => ?_)
    exact r_iret X hR dX1_umbrella_104 hw
  · have hw := hw.2 c2
    refine r_aload_n X dX1_umbrella_12 rfl (lv_at hl 0 rfl) ?_
    refine lv_iconst (v := 1) hx hb dX1_umbrella_13 (by decide) ?_
    refine r_callI X hR (c_V (ci := 1) (q := (RX1, TX1, 21)) X hR hl.1 (c_X1_no l g v0 1) (lw_V q462 q464 qs3 q115 q465) rfl rfl mh_X1_no rfl (by decide) (by decide) rfl (cat4 (Nat.le_of_ble_eq_true rfl)) dX1_umbrella_14 hw) (fun x18 h H locs cells slots hR hw => ?_)
    exact r_iret X hR dX1_umbrella_17 hw
theorem c_X1_isPerson (l : Launch) (g : GT) (v0 : Option Nat) (v1 : Int32) : CT qI l yX1_isPerson (ws_ yX1_isPerson cX1_isPerson 2 (Option.some Jvm.ClassFile.FieldType.boolean)) 2 g [va_rf v0, .int v1] (fun K E h => w_X1_isPerson g v0 v1 K E h) := by
  refine CT_of (lv := [(0, va_rf v0), (1, .int v1)]) (by decide +kernel) (by simp [lg_sl, cat_rf, cat_int, cat_long]) (by simp [lv_args, cat_rf, cat_int, cat_long]) (fun h0 K E p e s m args below meth c H locs cells slots ls X hxt hmn hw hR hl => ?_)
  have hx := X.hx
  have hb := X.hb
  unfold w_X1_isPerson at hw
  refine r_aload_n X dX1_isPerson_0 rfl (lv_at hl 0 rfl) ?_
  refine r_gR X hR fk_X1_102 dX1_isPerson_1 hw (fun x1 hw => ?_)
  refine r_ifnull (tgt := 28) X dX1_isPerson_4 (by decide) (fun c2 => ?_) (fun c2 => ?_)
  · have hw := hw.1 c2
    refine lv_iconst (v := 0) hx hb dX1_isPerson_28 (by decide) ?_
    exact r_zret X hR dX1_isPerson_29 hw
  · have hw := hw.2 c2
    refine lv_iload_n hx hb dX1_isPerson_7 rfl (lv_at hl 1 rfl) ?_
    refine lv_iconst (v := 0) hx hb dX1_isPerson_8 (by decide) ?_
    refine r_aload_n X dX1_isPerson_9 rfl (lv_at hl 0 rfl) ?_
    refine r_gR X hR fk_X1_102 dX1_isPerson_10 hw (fun x3 hw => ?_)
    refine r_gI X hR fk_X1_131 dX1_isPerson_13 hw (fun x4 hw => ?_)
    refine lv_iconst (v := 1) hx hb dX1_isPerson_16 (by decide) ?_
    refine lv_isub hx hb dX1_isPerson_17 ?_
    refine r_callI X hR (c_S X hR hl.1 (c_X1_in l g v1 0 (x4 - 1)) (lw_S q459 q460 q115 q461) mh_X1_in rfl (by decide) (by decide) rfl (cat4 (Nat.le_of_ble_eq_true rfl)) dX1_isPerson_18 hw) (fun x5 h H locs cells slots hR hw => ?_)
    refine lv_if_eq (tgt := 28) hx hb dX1_isPerson_21 (by decide) (fun c6 => ?_) (fun c6 => ?_)
    · have hw := hw.1 c6
      refine lv_iconst (v := 0) hx hb dX1_isPerson_28 (by decide) ?_
      exact r_zret X hR dX1_isPerson_29 hw
    · have hw := hw.2 c6
      refine lv_iconst (v := 1) hx hb dX1_isPerson_24 (by decide) ?_
      refine lv_goto (tgt := 29) hx hb dX1_isPerson_25 (by decide) ?_
      exact r_zret X hR dX1_isPerson_29 hw
theorem c_X12_sort (l : Launch) (g : GT) (v0 : Option Nat) : CT qI l yX12_sort (ws_ yX12_sort cX12_sort 1 (Option.some Jvm.ClassFile.FieldType.int)) 1 g [va_rf v0] (fun K E h => w_X12_sort g v0 K E h) := by
  refine CT_of (lv := [(0, va_rf v0)]) (by decide +kernel) (by simp [lg_sl, cat_rf, cat_int, cat_long]) (by simp [lv_args, cat_rf, cat_int, cat_long]) (fun h0 K E p e s m args below meth c H locs cells slots ls X hxt hmn hw hR hl => ?_)
  have hx := X.hx
  have hb := X.hb
  unfold w_X12_sort at hw
  refine lv_iconst (v := 0) hx hb dX12_sort_0 (by decide) ?_
  exact r_iret X hR dX12_sort_1 hw
theorem c_X13_sort (l : Launch) (g : GT) (v0 : Option Nat) : CT qI l yX13_sort (ws_ yX13_sort cX13_sort 1 (Option.some Jvm.ClassFile.FieldType.int)) 1 g [va_rf v0] (fun K E h => w_X13_sort g v0 K E h) := by
  refine CT_of (lv := [(0, va_rf v0)]) (by decide +kernel) (by simp [lg_sl, cat_rf, cat_int, cat_long]) (by simp [lv_args, cat_rf, cat_int, cat_long]) (fun h0 K E p e s m args below meth c H locs cells slots ls X hxt hmn hw hR hl => ?_)
  have hx := X.hx
  have hb := X.hb
  unfold w_X13_sort at hw
  refine lv_iconst (v := 1) hx hb dX13_sort_0 (by decide) ?_
  exact r_iret X hR dX13_sort_1 hw
theorem c_X14_sort (l : Launch) (g : GT) (v0 : Option Nat) : CT qI l yX14_sort (ws_ yX14_sort cX14_sort 1 (Option.some Jvm.ClassFile.FieldType.int)) 1 g [va_rf v0] (fun K E h => w_X14_sort g v0 K E h) := by
  refine CT_of (lv := [(0, va_rf v0)]) (by decide +kernel) (by simp [lg_sl, cat_rf, cat_int, cat_long]) (by simp [lv_args, cat_rf, cat_int, cat_long]) (fun h0 K E p e s m args below meth c H locs cells slots ls X hxt hmn hw hR hl => ?_)
  have hx := X.hx
  have hb := X.hb
  unfold w_X14_sort at hw
  refine lv_iconst (v := 2) hx hb dX14_sort_0 (by decide) ?_
  exact r_iret X hR dX14_sort_1 hw
theorem t_X4_lands_J42 {p : Program} {l : Launch} {e : Env} {s : State} {m : MethodId} {args : Array Value} {below : List Frame} {meth : Method} {c : Code} {g : GT} {h0 : AH} {v0 : Option Nat} {v1 : Int32} {v3 : Int32} {s0 : Int32} {s1 : Int32} {K : Int32 → AH → Prop} {E : Nat → AH → Prop} {L4 : Int32 → Int32 → AH → Prop} {h : AH} {H : Heap} {locs : List Loc} {cells slots : Nat} {ls : Array Slot} (X : Cx g h0 p s m args meth c RX4 cX4_lands 4 (Option.some Jvm.ClassFile.FieldType.int)) (k4 : ∀ {v2' : Int32} {v3' : Int32} {h : AH} {H : Heap} {locs : List Loc} {cells slots : Nat} {ls : Array Slot}, L4 v2' v3' h → HS g s h H locs → lv_has ls 4 [(0, va_rf v0), (1, .int v1), (2, .int (v2')), (3, .int (v3'))] → W p l e (RM 1 h0) s m args below meth c H locs cells slots (MQT below g (qI K) E args s h0) (F0 m 4 ls [])) (hw : w_X4_lands_J42 g v0 v1 v3 s0 s1 K E L4 h) (hR : HS g s h H locs) (hl : lv_has ls 4 [(0, va_rf v0), (1, .int v1), (3, .int v3)]) : W p l e (RM 1 h0) s m args below meth c H locs cells slots (MQT below g (qI K) E args s h0) (F0 m 42 ls [.int s0, .int s1]) := by
  have hx := X.hx
  have hb := X.hb
  unfold w_X4_lands_J42 at hw
  refine lv_iadd hx hb dX4_lands_42 ?_
  refine r_nmI hw (fun x7 hw => ?_)
  refine lv_istore_n (i := 2) (lv' := [(2, .int x7), (0, va_rf v0), (1, .int v1), (3, .int v3)]) hx hb dX4_lands_43 rfl hl (by decide) rfl (fun ls hl => ?_)
  refine r_iinc X (k := 3) (v := (v3 + 1)) (lv' := fun x8 => [(3, .int x8), (2, .int x7), (0, va_rf v0), (1, .int v1)]) dX4_lands_44 hl rfl rfl (by decide) hw (fun _ => rfl) (fun x8 hw ls hl => ?_)
  refine lv_goto (tgt := 4) hx hb dX4_lands_47 (by decide) ?_
  exact k4 hw hR (lv_sub hl [2, 3, 1, 0] rfl)
theorem t_X4_lands_L4 {p : Program} {l : Launch} {e : Env} {s : State} {m : MethodId} {args : Array Value} {below : List Frame} {meth : Method} {c : Code} {g : GT} {h0 : AH} {v0 : Option Nat} {v1 : Int32} {K : Int32 → AH → Prop} {E : Nat → AH → Prop} (X : Cx g h0 p s m args meth c RX4 cX4_lands 4 (Option.some Jvm.ClassFile.FieldType.int))  : ∀ (n : Nat) {v2 : Int32} {v3 : Int32} {h : AH} {H : Heap} {locs : List Loc} {cells slots : Nat} {ls : Array Slot}, LpN2 (w_X4_lands_L4 g v0 v1 K E) n v2 v3 h → HS g s h H locs → lv_has ls 4 [(0, va_rf v0), (1, .int v1), (2, .int v2), (3, .int v3)] → W p l e (RM 1 h0) s m args below meth c H locs cells slots (MQT below g (qI K) E args s h0) (F0 m 4 ls []) := by
  have hx := X.hx
  have hb := X.hb
  intro n
  induction n with
  | zero =>
    intro v2 v3 h H locs cells slots ls hw
    exact hw.elim
  | succ n k4 =>
    intro v2 v3 h H locs cells slots ls hw hR hl
    have hw : w_X4_lands_L4 g v0 v1 K E (LpN2 (w_X4_lands_L4 g v0 v1 K E) n) v2 v3 h := hw
    unfold w_X4_lands_L4 at hw
    refine lv_iload_n hx hb dX4_lands_4 rfl (lv_at hl 3 rfl) ?_
    refine r_aload_n X dX4_lands_5 rfl (lv_at hl 0 rfl) ?_
    refine r_gR X hR fk_X4_18 dX4_lands_6 hw (fun x1 hw => ?_)
    refine r_gI X hR fk_X4_26 dX4_lands_9 hw (fun x2 hw => ?_)
    refine lv_icmp_ge (tgt := 50) hx hb dX4_lands_12 (by decide) (fun c3 => ?_) (fun c3 => ?_)
    · have hw := hw.1 c3
      refine lv_iload_n hx hb dX4_lands_50 rfl (lv_at hl 2 rfl) ?_
      exact r_iret X hR dX4_lands_51 hw
    · have hw := hw.2 c3
      refine lv_iload_n hx hb dX4_lands_15 rfl (lv_at hl 2 rfl) ?_
      refine r_aload_n X dX4_lands_16 rfl (lv_at hl 0 rfl) ?_
      refine r_gR X hR fk_X4_15 dX4_lands_17 hw (fun x4 hw => ?_)
      refine lv_iload_n hx hb dX4_lands_20 rfl (lv_at hl 3 rfl) ?_
      refine r_iald X hR dX4_lands_21 hw (fun x5 hw => ?_)
      refine lv_iload_n hx hb dX4_lands_22 rfl (lv_at hl 1 rfl) ?_
      refine lv_icmp_ne (tgt := 41) hx hb dX4_lands_23 (by decide) (fun c6 => ?_) (fun c6 => ?_)
      · have hw := hw.1 c6
        refine lv_iconst (v := 0) hx hb dX4_lands_41 (by decide) ?_
        exact t_X4_lands_J42 X k4 hw hR (lv_sub hl [0, 1, 3] rfl)
      · have hw := hw.2 c6
        refine r_aload_n X dX4_lands_26 rfl (lv_at hl 0 rfl) ?_
        refine r_gR X hR fk_X4_18 dX4_lands_27 hw (fun x9 hw => ?_)
        refine r_gR X hR fk_X4_31 dX4_lands_30 hw (fun x10 hw => ?_)
        refine lv_iload_n hx hb dX4_lands_33 rfl (lv_at hl 3 rfl) ?_
        refine r_aald X hR (t := 6) (by decide) (by decide) dX4_lands_34 hw (fun x11 hw => ?_)
        refine r_gI X hR fk_X4_63 dX4_lands_35 hw (fun x12 hw => ?_)
        refine lv_goto (tgt := 42) hx hb dX4_lands_38 (by decide) ?_
        exact t_X4_lands_J42 X k4 hw hR (lv_sub hl [0, 1, 3] rfl)
theorem c_X4_lands (l : Launch) (g : GT) (v0 : Option Nat) (v1 : Int32) : CT qI l yX4_lands (ws_ yX4_lands cX4_lands 4 (Option.some Jvm.ClassFile.FieldType.int)) 1 g [va_rf v0, .int v1] (fun K E h => w_X4_lands g v0 v1 K E h) := by
  refine CT_of (lv := [(0, va_rf v0), (1, .int v1)]) (by decide +kernel) (by simp [lg_sl, cat_rf, cat_int, cat_long]) (by simp [lv_args, cat_rf, cat_int, cat_long]) (fun h0 K E p e s m args below meth c H locs cells slots ls X hxt hmn hw hR hl => ?_)
  have hx := X.hx
  have hb := X.hb
  unfold w_X4_lands at hw
  refine lv_iconst (v := 0) hx hb dX4_lands_0 (by decide) ?_
  refine lv_istore_n (i := 2) (lv' := [(2, .int 0), (0, va_rf v0), (1, .int v1)]) hx hb dX4_lands_1 rfl hl (by decide) rfl (fun ls hl => ?_)
  refine lv_iconst (v := 0) hx hb dX4_lands_2 (by decide) ?_
  refine lv_istore_n (i := 3) (lv' := [(3, .int 0), (2, .int 0), (0, va_rf v0), (1, .int v1)]) hx hb dX4_lands_3 rfl hl (by decide) rfl (fun ls hl => ?_)
  obtain ⟨n, hw⟩ := hw
  exact t_X4_lands_L4 X  n hw hR (lv_sub hl [2, 3, 1, 0] rfl)
theorem c_X1_person (l : Launch) (g : GT) (v0 : Option Nat) (v1 : Int32) (v2 : Int32) : CT qI l yX1_person (ws_ yX1_person cX1_person 3 (Option.some Jvm.ClassFile.FieldType.int)) 3 g [va_rf v0, .int v1, .int v2] (fun K E h => w_X1_person g v0 v1 v2 K E h) := by
  refine CT_of (lv := [(0, va_rf v0), (1, .int v1), (2, .int v2)]) (by decide +kernel) (by simp [lg_sl, cat_rf, cat_int, cat_long]) (by simp [lv_args, cat_rf, cat_int, cat_long]) (fun h0 K E p e s m args below meth c H locs cells slots ls X hxt hmn hw hR hl => ?_)
  have hx := X.hx
  have hb := X.hb
  unfold w_X1_person at hw
  refine r_aload_n X dX1_person_0 rfl (lv_at hl 0 rfl) ?_
  refine r_callV X hR (c_V (ci := 1) (q := (RX1, TX1, 21)) X hR hl.1 (c_X1_anew l g v0) (lw_V q455 q457 qs2 q115 q458) rfl rfl mh_X1_anew rfl (by decide) (by decide) rfl (cat4 (Nat.le_of_ble_eq_true rfl)) dX1_person_1 hw) (fun _ h H locs cells slots hR hw => ?_)
  refine r_aload_n X dX1_person_4 rfl (lv_at hl 0 rfl) ?_
  refine lv_iload_n hx hb dX1_person_5 rfl (lv_at hl 1 rfl) ?_
  refine r_callI X hR (c_V (ci := 1) (q := (RX1, TX1, 21)) X hR hl.1 (c_X1_isPerson l g v0 v1) (lw_V q1165 q1167 qs33 q115 q1168) rfl rfl mh_X1_isPerson rfl (by decide) (by decide) rfl (cat4 (Nat.le_of_ble_eq_true rfl)) dX1_person_6 hw) (fun x1 h H locs cells slots hR hw => ?_)
  refine lv_if_ne (tgt := 18) hx hb dX1_person_9 (by decide) (fun c2 => ?_) (fun c2 => ?_)
  · have hw := hw.1 c2
    refine lv_iload_n hx hb dX1_person_18 rfl (lv_at hl 2 rfl) ?_
    by_cases c3_0 : v2 = 0
    · have hw := swT_at hw 0 rfl c3_0
      rw [c3_0]
      refine lv_tableIn (tgt := 44) hx hb dX1_person_19 (by decide) (by decide) rfl (by decide) ?_
      refine r_aload_n X dX1_person_44 rfl (lv_at hl 0 rfl) ?_
      refine r_gR X hR fk_X1_102 dX1_person_45 hw (fun x4 hw => ?_)
      refine r_gR X hR fk_X1_164 dX1_person_48 hw (fun x5 hw => ?_)
      refine lv_iload_n hx hb dX1_person_51 rfl (lv_at hl 1 rfl) ?_
      refine r_aald X hR (t := 5) (by decide) (by decide) dX1_person_52 hw (fun x6 hw => ?_)
      refine r_callI X hR (r_letRun (qq := qI) hw (fun K8 hw => Or.elim hw (fun hw => c_U (C := "UmbrellaHeir$Plain") (owner := "UmbrellaHeir$Person") (x := ⟨"UmbrellaHeir$Person", "sort", "()I"⟩) (ci := 12) (q := (RX12, TX12, 2)) X hR hl.1 (c_X12_sort l g x6) rfl rfl (va_cwA (C := "UmbrellaHeir$Plain") (owner := "UmbrellaHeir$Person") (x := ⟨"UmbrellaHeir$Person", "sort", "()I"⟩) (y := yX12_sort) 0 X.hts (lw_app (List.forall_mem_cons.mpr ⟨q1169, List.forall_mem_cons.mpr ⟨q1171, List.forall_mem_cons.mpr ⟨q1178, List.forall_mem_cons.mpr ⟨q1179, List.forall_mem_cons.mpr ⟨q134, fun _ h => absurd h List.not_mem_nil⟩⟩⟩⟩⟩) (lw_meth q1180)) rfl rfl rfl (X.hN _ q1170 rfl) ⟨by decide +kernel, by decide +kernel, by decide +kernel⟩ (rm_ok (by decide) (by decide))) rfl rfl (cat4 (Nat.le_of_ble_eq_true rfl)) dX1_person_53 hw) (fun hw => Or.elim hw (fun hw => c_U (C := "UmbrellaHeir$Child") (owner := "UmbrellaHeir$Person") (x := ⟨"UmbrellaHeir$Person", "sort", "()I"⟩) (ci := 13) (q := (RX13, TX13, 2)) X hR hl.1 (c_X13_sort l g x6) rfl rfl (va_cwA (C := "UmbrellaHeir$Child") (owner := "UmbrellaHeir$Person") (x := ⟨"UmbrellaHeir$Person", "sort", "()I"⟩) (y := yX13_sort) 0 X.hts (lw_app (List.forall_mem_cons.mpr ⟨q1169, List.forall_mem_cons.mpr ⟨q1171, List.forall_mem_cons.mpr ⟨q1175, List.forall_mem_cons.mpr ⟨q1176, List.forall_mem_cons.mpr ⟨q135, fun _ h => absurd h List.not_mem_nil⟩⟩⟩⟩⟩) (lw_meth q1177)) rfl rfl rfl (X.hN _ q1170 rfl) ⟨by decide +kernel, by decide +kernel, by decide +kernel⟩ (rm_ok (by decide) (by decide))) rfl rfl (cat4 (Nat.le_of_ble_eq_true rfl)) dX1_person_53 hw) (fun hw => c_U (C := "UmbrellaHeir$Careless") (owner := "UmbrellaHeir$Person") (x := ⟨"UmbrellaHeir$Person", "sort", "()I"⟩) (ci := 14) (q := (RX14, TX14, 2)) X hR hl.1 (c_X14_sort l g x6) rfl rfl (va_cwA (C := "UmbrellaHeir$Careless") (owner := "UmbrellaHeir$Person") (x := ⟨"UmbrellaHeir$Person", "sort", "()I"⟩) (y := yX14_sort) 0 X.hts (lw_app (List.forall_mem_cons.mpr ⟨q1169, List.forall_mem_cons.mpr ⟨q1171, List.forall_mem_cons.mpr ⟨q1172, List.forall_mem_cons.mpr ⟨q1173, List.forall_mem_cons.mpr ⟨q136, fun _ h => absurd h List.not_mem_nil⟩⟩⟩⟩⟩) (lw_meth q1174)) rfl rfl rfl (X.hN _ q1170 rfl) ⟨by decide +kernel, by decide +kernel, by decide +kernel⟩ (rm_ok (by decide) (by decide))) rfl rfl (cat4 (Nat.le_of_ble_eq_true rfl)) dX1_person_53 hw)))) (fun x7 h H locs cells slots hR hw => ?_)
      exact r_iret X hR dX1_person_56 hw
    by_cases c3_1 : v2 = 1
    · have hw := swT_at hw 1 rfl c3_1
      rw [c3_1]
      refine lv_tableIn (tgt := 57) hx hb dX1_person_19 (by decide) (by decide) rfl (by decide) ?_
      refine r_aload_n X dX1_person_57 rfl (lv_at hl 0 rfl) ?_
      refine r_gR X hR fk_X1_33 dX1_person_58 hw (fun x9 hw => ?_)
      refine lv_iload_n hx hb dX1_person_61 rfl (lv_at hl 1 rfl) ?_
      refine r_callI X hR (c_V (ci := 4) (q := (RX4, TX4, 4)) X hR hl.1 (c_X4_has l g x9 v1) (lw_V q1181 q1118 q1119 q121 q1120) rfl rfl mh_X4_has rfl (by decide) (by decide) rfl (cat4 (Nat.le_of_ble_eq_true rfl)) dX1_person_62 hw) (fun x10 h H locs cells slots hR hw => ?_)
      exact r_iret X hR dX1_person_65 hw
    by_cases c3_2 : v2 = 2
    · have hw := swT_at hw 2 rfl c3_2
      rw [c3_2]
      refine lv_tableIn (tgt := 66) hx hb dX1_person_19 (by decide) (by decide) rfl (by decide) ?_
      refine r_aload_n X dX1_person_66 rfl (lv_at hl 0 rfl) ?_
      refine r_gR X hR fk_X1_33 dX1_person_67 hw (fun x11 hw => ?_)
      refine lv_iload_n hx hb dX1_person_70 rfl (lv_at hl 1 rfl) ?_
      refine r_callI X hR (c_V (ci := 4) (q := (RX4, TX4, 4)) X hR hl.1 (c_X4_lands l g x11 v1) (lw_V q1182 q1183 q1184 q121 q1185) rfl rfl mh_X4_lands rfl (by decide) (by decide) rfl (cat4 (Nat.le_of_ble_eq_true rfl)) dX1_person_71 hw) (fun x12 h H locs cells slots hR hw => ?_)
      exact r_iret X hR dX1_person_74 hw
    have hw := hw.2 (List.forall_mem_cons.mpr ⟨c3_0, (List.forall_mem_cons.mpr ⟨c3_1, (List.forall_mem_cons.mpr ⟨c3_2, (fun _ h => absurd h List.not_mem_nil)⟩)⟩)⟩)
    refine lv_tableOut (tgt := 75) hx hb dX1_person_19 (sw_out (x := v2) (lo := 0) (n := 3) (by decide) (lt_s (lt_s (lt_s lt_0 c3_0) c3_1) c3_2)) (by decide) ?_
    refine r_aload_n X dX1_person_75 rfl (lv_at hl 0 rfl) ?_
    refine lv_iconst (v := 1) hx hb dX1_person_76 (by decide) ?_
    refine r_callI X hR (c_V (ci := 1) (q := (RX1, TX1, 21)) X hR hl.1 (c_X1_no l g v0 1) (lw_V q462 q464 qs3 q115 q465) rfl rfl mh_X1_no rfl (by decide) (by decide) rfl (cat4 (Nat.le_of_ble_eq_true rfl)) dX1_person_77 hw) (fun x13 h H locs cells slots hR hw => ?_)
    exact r_iret X hR dX1_person_80 hw
  · have hw := hw.2 c2
    refine r_aload_n X dX1_person_12 rfl (lv_at hl 0 rfl) ?_
    refine lv_iconst (v := 1) hx hb dX1_person_13 (by decide) ?_
    refine r_callI X hR (c_V (ci := 1) (q := (RX1, TX1, 21)) X hR hl.1 (c_X1_no l g v0 1) (lw_V q462 q464 qs3 q115 q465) rfl rfl mh_X1_no rfl (by decide) (by decide) rfl (cat4 (Nat.le_of_ble_eq_true rfl)) dX1_person_14 hw) (fun x14 h H locs cells slots hR hw => ?_)
    exact r_iret X hR dX1_person_17 hw
theorem c_X9_areAlike (l : Launch) (g : GT) (v0 : Option Nat) (v1 : Int32) (v2 : Int32) : CT qI l yX9_areAlike (ws_ yX9_areAlike cX9_areAlike 3 (Option.some Jvm.ClassFile.FieldType.boolean)) 2 g [va_rf v0, .int v1, .int v2] (fun K E h => w_X9_areAlike g v0 v1 v2 K E h) := by
  refine CT_of (lv := [(0, va_rf v0), (1, .int v1), (2, .int v2)]) (by decide +kernel) (by simp [lg_sl, cat_rf, cat_int, cat_long]) (by simp [lv_args, cat_rf, cat_int, cat_long]) (fun h0 K E p e s m args below meth c H locs cells slots ls X hxt hmn hw hR hl => ?_)
  have hx := X.hx
  have hb := X.hb
  unfold w_X9_areAlike at hw
  refine lv_iload_n hx hb dX9_areAlike_0 rfl (lv_at hl 1 rfl) ?_
  refine lv_iload_n hx hb dX9_areAlike_1 rfl (lv_at hl 2 rfl) ?_
  refine lv_icmp_eq (tgt := 51) hx hb dX9_areAlike_2 (by decide) (fun c1 => ?_) (fun c1 => ?_)
  · have hw := hw.1 c1
    refine lv_iconst (v := 0) hx hb dX9_areAlike_51 (by decide) ?_
    exact r_zret X hR dX9_areAlike_52 hw
  · have hw := hw.2 c1
    refine r_aload_n X dX9_areAlike_5 rfl (lv_at hl 0 rfl) ?_
    refine r_gR X hR fk_X9_19 dX9_areAlike_6 hw (fun x2 hw => ?_)
    refine lv_iload_n hx hb dX9_areAlike_9 rfl (lv_at hl 1 rfl) ?_
    refine r_aald X hR (t := 6) (by decide) (by decide) dX9_areAlike_10 hw (fun x3 hw => ?_)
    refine r_callI X hR (r_letRun (qq := qI) hw (fun K5 hw => Or.elim hw (fun hw => c_U (C := "UmbrellaHeir$Silk") (owner := "UmbrellaHeir$Umbrella") (x := ⟨"UmbrellaHeir$Umbrella", "kind", "()I"⟩) (ci := 16) (q := (RX16, TY16, 5)) X hR hl.1 (c_X16_kind l g x3) rfl rfl (va_cwA (C := "UmbrellaHeir$Silk") (owner := "UmbrellaHeir$Umbrella") (x := ⟨"UmbrellaHeir$Umbrella", "kind", "()I"⟩) (y := yX16_kind) 0 X.hts (lw_app (List.forall_mem_cons.mpr ⟨q1194, List.forall_mem_cons.mpr ⟨q1148, List.forall_mem_cons.mpr ⟨q1155, List.forall_mem_cons.mpr ⟨q1156, List.forall_mem_cons.mpr ⟨q138, fun _ h => absurd h List.not_mem_nil⟩⟩⟩⟩⟩) (lw_meth q1157)) rfl rfl rfl (X.hN _ q1147 rfl) ⟨by decide +kernel, by decide +kernel, by decide +kernel⟩ (rm_ok (by decide) (by decide))) rfl rfl (cat4 (Nat.le_of_ble_eq_true rfl)) dX9_areAlike_11 hw) (fun hw => Or.elim hw (fun hw => c_U (C := "UmbrellaHeir$Cotton") (owner := "UmbrellaHeir$Umbrella") (x := ⟨"UmbrellaHeir$Umbrella", "kind", "()I"⟩) (ci := 17) (q := (RX17, TY17, 5)) X hR hl.1 (c_X17_kind l g x3) rfl rfl (va_cwA (C := "UmbrellaHeir$Cotton") (owner := "UmbrellaHeir$Umbrella") (x := ⟨"UmbrellaHeir$Umbrella", "kind", "()I"⟩) (y := yX17_kind) 0 X.hts (lw_app (List.forall_mem_cons.mpr ⟨q1194, List.forall_mem_cons.mpr ⟨q1148, List.forall_mem_cons.mpr ⟨q1149, List.forall_mem_cons.mpr ⟨q1150, List.forall_mem_cons.mpr ⟨q139, fun _ h => absurd h List.not_mem_nil⟩⟩⟩⟩⟩) (lw_meth q1151)) rfl rfl rfl (X.hN _ q1147 rfl) ⟨by decide +kernel, by decide +kernel, by decide +kernel⟩ (rm_ok (by decide) (by decide))) rfl rfl (cat4 (Nat.le_of_ble_eq_true rfl)) dX9_areAlike_11 hw) (fun hw => Or.elim hw (fun hw => c_U (C := "UmbrellaHeir$Stick") (owner := "UmbrellaHeir$Umbrella") (x := ⟨"UmbrellaHeir$Umbrella", "kind", "()I"⟩) (ci := 18) (q := (RX18, TY18, 5)) X hR hl.1 (c_X18_kind l g x3) rfl rfl (va_cwA (C := "UmbrellaHeir$Stick") (owner := "UmbrellaHeir$Umbrella") (x := ⟨"UmbrellaHeir$Umbrella", "kind", "()I"⟩) (y := yX18_kind) 0 X.hts (lw_app (List.forall_mem_cons.mpr ⟨q1194, List.forall_mem_cons.mpr ⟨q1148, List.forall_mem_cons.mpr ⟨q1158, List.forall_mem_cons.mpr ⟨q1159, List.forall_mem_cons.mpr ⟨q140, fun _ h => absurd h List.not_mem_nil⟩⟩⟩⟩⟩) (lw_meth q1160)) rfl rfl rfl (X.hN _ q1147 rfl) ⟨by decide +kernel, by decide +kernel, by decide +kernel⟩ (rm_ok (by decide) (by decide))) rfl rfl (cat4 (Nat.le_of_ble_eq_true rfl)) dX9_areAlike_11 hw) (fun hw => c_U (C := "UmbrellaHeir$Parasol") (owner := "UmbrellaHeir$Umbrella") (x := ⟨"UmbrellaHeir$Umbrella", "kind", "()I"⟩) (ci := 19) (q := (RX19, TY19, 5)) X hR hl.1 (c_X19_kind l g x3) rfl rfl (va_cwA (C := "UmbrellaHeir$Parasol") (owner := "UmbrellaHeir$Umbrella") (x := ⟨"UmbrellaHeir$Umbrella", "kind", "()I"⟩) (y := yX19_kind) 0 X.hts (lw_app (List.forall_mem_cons.mpr ⟨q1194, List.forall_mem_cons.mpr ⟨q1148, List.forall_mem_cons.mpr ⟨q1152, List.forall_mem_cons.mpr ⟨q1153, List.forall_mem_cons.mpr ⟨q141, fun _ h => absurd h List.not_mem_nil⟩⟩⟩⟩⟩) (lw_meth q1154)) rfl rfl rfl (X.hN _ q1147 rfl) ⟨by decide +kernel, by decide +kernel, by decide +kernel⟩ (rm_ok (by decide) (by decide))) rfl rfl (cat4 (Nat.le_of_ble_eq_true rfl)) dX9_areAlike_11 hw))))) (fun x4 h H locs cells slots hR hw => ?_)
    refine r_aload_n X dX9_areAlike_14 rfl (lv_at hl 0 rfl) ?_
    refine r_gR X hR fk_X9_19 dX9_areAlike_15 hw (fun x6 hw => ?_)
    refine lv_iload_n hx hb dX9_areAlike_18 rfl (lv_at hl 2 rfl) ?_
    refine r_aald X hR (t := 6) (by decide) (by decide) dX9_areAlike_19 hw (fun x7 hw => ?_)
    refine r_callI X hR (r_letRun (qq := qI) hw (fun K9 hw => Or.elim hw (fun hw => c_U (C := "UmbrellaHeir$Silk") (owner := "UmbrellaHeir$Umbrella") (x := ⟨"UmbrellaHeir$Umbrella", "kind", "()I"⟩) (ci := 16) (q := (RX16, TY16, 5)) X hR hl.1 (c_X16_kind l g x7) rfl rfl (va_cwA (C := "UmbrellaHeir$Silk") (owner := "UmbrellaHeir$Umbrella") (x := ⟨"UmbrellaHeir$Umbrella", "kind", "()I"⟩) (y := yX16_kind) 0 X.hts (lw_app (List.forall_mem_cons.mpr ⟨q1194, List.forall_mem_cons.mpr ⟨q1148, List.forall_mem_cons.mpr ⟨q1155, List.forall_mem_cons.mpr ⟨q1156, List.forall_mem_cons.mpr ⟨q138, fun _ h => absurd h List.not_mem_nil⟩⟩⟩⟩⟩) (lw_meth q1157)) rfl rfl rfl (X.hN _ q1147 rfl) ⟨by decide +kernel, by decide +kernel, by decide +kernel⟩ (rm_ok (by decide) (by decide))) rfl rfl (cat4 (Nat.le_of_ble_eq_true rfl)) dX9_areAlike_20 hw) (fun hw => Or.elim hw (fun hw => c_U (C := "UmbrellaHeir$Cotton") (owner := "UmbrellaHeir$Umbrella") (x := ⟨"UmbrellaHeir$Umbrella", "kind", "()I"⟩) (ci := 17) (q := (RX17, TY17, 5)) X hR hl.1 (c_X17_kind l g x7) rfl rfl (va_cwA (C := "UmbrellaHeir$Cotton") (owner := "UmbrellaHeir$Umbrella") (x := ⟨"UmbrellaHeir$Umbrella", "kind", "()I"⟩) (y := yX17_kind) 0 X.hts (lw_app (List.forall_mem_cons.mpr ⟨q1194, List.forall_mem_cons.mpr ⟨q1148, List.forall_mem_cons.mpr ⟨q1149, List.forall_mem_cons.mpr ⟨q1150, List.forall_mem_cons.mpr ⟨q139, fun _ h => absurd h List.not_mem_nil⟩⟩⟩⟩⟩) (lw_meth q1151)) rfl rfl rfl (X.hN _ q1147 rfl) ⟨by decide +kernel, by decide +kernel, by decide +kernel⟩ (rm_ok (by decide) (by decide))) rfl rfl (cat4 (Nat.le_of_ble_eq_true rfl)) dX9_areAlike_20 hw) (fun hw => Or.elim hw (fun hw => c_U (C := "UmbrellaHeir$Stick") (owner := "UmbrellaHeir$Umbrella") (x := ⟨"UmbrellaHeir$Umbrella", "kind", "()I"⟩) (ci := 18) (q := (RX18, TY18, 5)) X hR hl.1 (c_X18_kind l g x7) rfl rfl (va_cwA (C := "UmbrellaHeir$Stick") (owner := "UmbrellaHeir$Umbrella") (x := ⟨"UmbrellaHeir$Umbrella", "kind", "()I"⟩) (y := yX18_kind) 0 X.hts (lw_app (List.forall_mem_cons.mpr ⟨q1194, List.forall_mem_cons.mpr ⟨q1148, List.forall_mem_cons.mpr ⟨q1158, List.forall_mem_cons.mpr ⟨q1159, List.forall_mem_cons.mpr ⟨q140, fun _ h => absurd h List.not_mem_nil⟩⟩⟩⟩⟩) (lw_meth q1160)) rfl rfl rfl (X.hN _ q1147 rfl) ⟨by decide +kernel, by decide +kernel, by decide +kernel⟩ (rm_ok (by decide) (by decide))) rfl rfl (cat4 (Nat.le_of_ble_eq_true rfl)) dX9_areAlike_20 hw) (fun hw => c_U (C := "UmbrellaHeir$Parasol") (owner := "UmbrellaHeir$Umbrella") (x := ⟨"UmbrellaHeir$Umbrella", "kind", "()I"⟩) (ci := 19) (q := (RX19, TY19, 5)) X hR hl.1 (c_X19_kind l g x7) rfl rfl (va_cwA (C := "UmbrellaHeir$Parasol") (owner := "UmbrellaHeir$Umbrella") (x := ⟨"UmbrellaHeir$Umbrella", "kind", "()I"⟩) (y := yX19_kind) 0 X.hts (lw_app (List.forall_mem_cons.mpr ⟨q1194, List.forall_mem_cons.mpr ⟨q1148, List.forall_mem_cons.mpr ⟨q1152, List.forall_mem_cons.mpr ⟨q1153, List.forall_mem_cons.mpr ⟨q141, fun _ h => absurd h List.not_mem_nil⟩⟩⟩⟩⟩) (lw_meth q1154)) rfl rfl rfl (X.hN _ q1147 rfl) ⟨by decide +kernel, by decide +kernel, by decide +kernel⟩ (rm_ok (by decide) (by decide))) rfl rfl (cat4 (Nat.le_of_ble_eq_true rfl)) dX9_areAlike_20 hw))))) (fun x8 h H locs cells slots hR hw => ?_)
    refine lv_icmp_ne (tgt := 51) hx hb dX9_areAlike_23 (by decide) (fun c10 => ?_) (fun c10 => ?_)
    · have hw := hw.1 c10
      refine lv_iconst (v := 0) hx hb dX9_areAlike_51 (by decide) ?_
      exact r_zret X hR dX9_areAlike_52 hw
    · have hw := hw.2 c10
      refine r_aload_n X dX9_areAlike_26 rfl (lv_at hl 0 rfl) ?_
      refine r_gR X hR fk_X9_19 dX9_areAlike_27 hw (fun x11 hw => ?_)
      refine lv_iload_n hx hb dX9_areAlike_30 rfl (lv_at hl 1 rfl) ?_
      refine r_aald X hR (t := 6) (by decide) (by decide) dX9_areAlike_31 hw (fun x12 hw => ?_)
      refine r_gI X hR fk_X9_57 dX9_areAlike_32 hw (fun x13 hw => ?_)
      refine r_aload_n X dX9_areAlike_35 rfl (lv_at hl 0 rfl) ?_
      refine r_gR X hR fk_X9_19 dX9_areAlike_36 hw (fun x14 hw => ?_)
      refine lv_iload_n hx hb dX9_areAlike_39 rfl (lv_at hl 2 rfl) ?_
      refine r_aald X hR (t := 6) (by decide) (by decide) dX9_areAlike_40 hw (fun x15 hw => ?_)
      refine r_gI X hR fk_X9_57 dX9_areAlike_41 hw (fun x16 hw => ?_)
      refine lv_icmp_ne (tgt := 51) hx hb dX9_areAlike_44 (by decide) (fun c17 => ?_) (fun c17 => ?_)
      · have hw := hw.1 c17
        refine lv_iconst (v := 0) hx hb dX9_areAlike_51 (by decide) ?_
        exact r_zret X hR dX9_areAlike_52 hw
      · have hw := hw.2 c17
        refine lv_iconst (v := 1) hx hb dX9_areAlike_47 (by decide) ?_
        refine lv_goto (tgt := 52) hx hb dX9_areAlike_48 (by decide) ?_
        exact r_zret X hR dX9_areAlike_52 hw
theorem t_X1_alike_J53 {p : Program} {l : Launch} {e : Env} {s : State} {m : MethodId} {args : Array Value} {below : List Frame} {meth : Method} {c : Code} {g : GT} {h0 : AH} {v0 : Option Nat} {v1 : Int32} {v3 : Int32} {s0 : Int32} {s1 : Int32} {K : Int32 → AH → Prop} {E : Nat → AH → Prop} {L22 : Int32 → Int32 → AH → Prop} {h : AH} {H : Heap} {locs : List Loc} {cells slots : Nat} {ls : Array Slot} (X : Cx g h0 p s m args meth c RX1 cX1_alike 4 (Option.some Jvm.ClassFile.FieldType.int)) (k22 : ∀ {v2' : Int32} {v3' : Int32} {h : AH} {H : Heap} {locs : List Loc} {cells slots : Nat} {ls : Array Slot}, L22 v2' v3' h → HS g s h H locs → lv_has ls 4 [(0, va_rf v0), (1, .int v1), (2, .int (v2')), (3, .int (v3'))] → W p l e (RM 3 h0) s m args below meth c H locs cells slots (MQT below g (qI K) E args s h0) (F0 m 22 ls [])) (hw : w_X1_alike_J53 g v0 v1 v3 s0 s1 K E L22 h) (hR : HS g s h H locs) (hl : lv_has ls 4 [(0, va_rf v0), (1, .int v1), (3, .int v3)]) : W p l e (RM 3 h0) s m args below meth c H locs cells slots (MQT below g (qI K) E args s h0) (F0 m 53 ls [.int s0, .int s1]) := by
  have hx := X.hx
  have hb := X.hb
  unfold w_X1_alike_J53 at hw
  refine lv_ior hx hb dX1_alike_53 ?_
  refine r_nmI hw (fun x9 hw => ?_)
  refine lv_istore_n (i := 2) (lv' := [(2, .int x9), (0, va_rf v0), (1, .int v1), (3, .int v3)]) hx hb dX1_alike_54 rfl hl (by decide) rfl (fun ls hl => ?_)
  refine r_iinc X (k := 3) (v := (v3 + 1)) (lv' := fun x10 => [(3, .int x10), (2, .int x9), (0, va_rf v0), (1, .int v1)]) dX1_alike_55 hl rfl rfl (by decide) hw (fun _ => rfl) (fun x10 hw ls hl => ?_)
  refine lv_goto (tgt := 22) hx hb dX1_alike_58 (by decide) ?_
  exact k22 hw hR (lv_sub hl [2, 3, 1, 0] rfl)
theorem t_X1_alike_L22 {p : Program} {l : Launch} {e : Env} {s : State} {m : MethodId} {args : Array Value} {below : List Frame} {meth : Method} {c : Code} {g : GT} {h0 : AH} {v0 : Option Nat} {v1 : Int32} {K : Int32 → AH → Prop} {E : Nat → AH → Prop} (X : Cx g h0 p s m args meth c RX1 cX1_alike 4 (Option.some Jvm.ClassFile.FieldType.int))  : ∀ (n : Nat) {v2 : Int32} {v3 : Int32} {h : AH} {H : Heap} {locs : List Loc} {cells slots : Nat} {ls : Array Slot}, LpN2 (w_X1_alike_L22 g v0 v1 K E) n v2 v3 h → HS g s h H locs → lv_has ls 4 [(0, va_rf v0), (1, .int v1), (2, .int v2), (3, .int v3)] → W p l e (RM 3 h0) s m args below meth c H locs cells slots (MQT below g (qI K) E args s h0) (F0 m 22 ls []) := by
  have hx := X.hx
  have hb := X.hb
  intro n
  induction n with
  | zero =>
    intro v2 v3 h H locs cells slots ls hw
    exact hw.elim
  | succ n k22 =>
    intro v2 v3 h H locs cells slots ls hw hR hl
    have hw : w_X1_alike_L22 g v0 v1 K E (LpN2 (w_X1_alike_L22 g v0 v1 K E) n) v2 v3 h := hw
    unfold w_X1_alike_L22 at hw
    refine lv_iload_n hx hb dX1_alike_22 rfl (lv_at hl 3 rfl) ?_
    refine r_aload_n X dX1_alike_23 rfl (lv_at hl 0 rfl) ?_
    refine r_gR X hR fk_X1_102 dX1_alike_24 hw (fun x3 hw => ?_)
    refine r_gI X hR fk_X1_126 dX1_alike_27 hw (fun x4 hw => ?_)
    refine lv_icmp_ge (tgt := 61) hx hb dX1_alike_30 (by decide) (fun c5 => ?_) (fun c5 => ?_)
    · have hw := hw.1 c5
      refine lv_iload_n hx hb dX1_alike_61 rfl (lv_at hl 2 rfl) ?_
      exact r_iret X hR dX1_alike_62 hw
    · have hw := hw.2 c5
      refine lv_iload_n hx hb dX1_alike_33 rfl (lv_at hl 2 rfl) ?_
      refine r_aload_n X dX1_alike_34 rfl (lv_at hl 0 rfl) ?_
      refine r_gR X hR fk_X1_102 dX1_alike_35 hw (fun x6 hw => ?_)
      refine lv_iload_n hx hb dX1_alike_38 rfl (lv_at hl 1 rfl) ?_
      refine lv_iload_n hx hb dX1_alike_39 rfl (lv_at hl 3 rfl) ?_
      refine r_callI X hR (c_V (ci := 9) (q := (RX9, TX9, 11)) X hR hl.1 (c_X9_areAlike l g x6 v1 v3) (lw_V q1190 q1191 q1192 q126 q1193) rfl rfl mh_X9_areAlike rfl (by decide) (by decide) rfl (cat4 (Nat.le_of_ble_eq_true rfl)) dX1_alike_40 hw) (fun x7 h H locs cells slots hR hw => ?_)
      refine lv_if_eq (tgt := 52) hx hb dX1_alike_43 (by decide) (fun c8 => ?_) (fun c8 => ?_)
      · have hw := hw.1 c8
        refine lv_iconst (v := 0) hx hb dX1_alike_52 (by decide) ?_
        exact t_X1_alike_J53 X k22 hw hR (lv_sub hl [0, 1, 3] rfl)
      · have hw := hw.2 c8
        refine lv_iconst (v := 1) hx hb dX1_alike_46 (by decide) ?_
        refine lv_iload_n hx hb dX1_alike_47 rfl (lv_at hl 3 rfl) ?_
        refine lv_ishl hx hb dX1_alike_48 ?_
        refine lv_goto (tgt := 53) hx hb dX1_alike_49 (by decide) ?_
        exact t_X1_alike_J53 X k22 hw hR (lv_sub hl [0, 1, 3] rfl)
theorem c_X1_alike (l : Launch) (g : GT) (v0 : Option Nat) (v1 : Int32) : CT qI l yX1_alike (ws_ yX1_alike cX1_alike 4 (Option.some Jvm.ClassFile.FieldType.int)) 3 g [va_rf v0, .int v1] (fun K E h => w_X1_alike g v0 v1 K E h) := by
  refine CT_of (lv := [(0, va_rf v0), (1, .int v1)]) (by decide +kernel) (by simp [lg_sl, cat_rf, cat_int, cat_long]) (by simp [lv_args, cat_rf, cat_int, cat_long]) (fun h0 K E p e s m args below meth c H locs cells slots ls X hxt hmn hw hR hl => ?_)
  have hx := X.hx
  have hb := X.hb
  unfold w_X1_alike at hw
  refine r_aload_n X dX1_alike_0 rfl (lv_at hl 0 rfl) ?_
  refine r_callV X hR (c_V (ci := 1) (q := (RX1, TX1, 21)) X hR hl.1 (c_X1_anew l g v0) (lw_V q455 q457 qs2 q115 q458) rfl rfl mh_X1_anew rfl (by decide) (by decide) rfl (cat4 (Nat.le_of_ble_eq_true rfl)) dX1_alike_1 hw) (fun _ h H locs cells slots hR hw => ?_)
  refine r_aload_n X dX1_alike_4 rfl (lv_at hl 0 rfl) ?_
  refine lv_iload_n hx hb dX1_alike_5 rfl (lv_at hl 1 rfl) ?_
  refine r_callI X hR (c_V (ci := 1) (q := (RX1, TX1, 21)) X hR hl.1 (c_X1_isUmbrella l g v0 v1) (lw_V q1142 q1144 qs32 q115 q1145) rfl rfl mh_X1_isUmbrella rfl (by decide) (by decide) rfl (cat4 (Nat.le_of_ble_eq_true rfl)) dX1_alike_6 hw) (fun x1 h H locs cells slots hR hw => ?_)
  refine lv_if_ne (tgt := 18) hx hb dX1_alike_9 (by decide) (fun c2 => ?_) (fun c2 => ?_)
  · have hw := hw.1 c2
    refine lv_iconst (v := 0) hx hb dX1_alike_18 (by decide) ?_
    refine lv_istore_n (i := 2) (lv' := [(2, .int 0), (0, va_rf v0), (1, .int v1)]) hx hb dX1_alike_19 rfl hl (by decide) rfl (fun ls hl => ?_)
    refine lv_iconst (v := 0) hx hb dX1_alike_20 (by decide) ?_
    refine lv_istore_n (i := 3) (lv' := [(3, .int 0), (2, .int 0), (0, va_rf v0), (1, .int v1)]) hx hb dX1_alike_21 rfl hl (by decide) rfl (fun ls hl => ?_)
    obtain ⟨n, hw⟩ := hw
    exact t_X1_alike_L22 X  n hw hR (lv_sub hl [2, 3, 1, 0] rfl)
  · have hw := hw.2 c2
    refine r_aload_n X dX1_alike_12 rfl (lv_at hl 0 rfl) ?_
    refine lv_iconst (v := 1) hx hb dX1_alike_13 (by decide) ?_
    refine r_callI X hR (c_V (ci := 1) (q := (RX1, TX1, 21)) X hR hl.1 (c_X1_no l g v0 1) (lw_V q462 q464 qs3 q115 q465) rfl rfl mh_X1_no rfl (by decide) (by decide) rfl (cat4 (Nat.le_of_ble_eq_true rfl)) dX1_alike_14 hw) (fun x11 h H locs cells slots hR hw => ?_)
    exact r_iret X hR dX1_alike_17 hw
theorem t_X4_right_J49 {p : Program} {l : Launch} {e : Env} {s : State} {m : MethodId} {args : Array Value} {below : List Frame} {meth : Method} {c : Code} {g : GT} {h0 : AH} {v0 : Option Nat} {v2 : Int32} {s0 : Int32} {s1 : Int32} {K : Int32 → AH → Prop} {E : Nat → AH → Prop} {L4 : Int32 → Int32 → AH → Prop} {h : AH} {H : Heap} {locs : List Loc} {cells slots : Nat} {ls : Array Slot} (X : Cx g h0 p s m args meth c RX4 cX4_right 3 (Option.some Jvm.ClassFile.FieldType.int)) (k4 : ∀ {v1' : Int32} {v2' : Int32} {h : AH} {H : Heap} {locs : List Loc} {cells slots : Nat} {ls : Array Slot}, L4 v1' v2' h → HS g s h H locs → lv_has ls 3 [(0, va_rf v0), (1, .int (v1')), (2, .int (v2'))] → W p l e (RM 1 h0) s m args below meth c H locs cells slots (MQT below g (qI K) E args s h0) (F0 m 4 ls [])) (hw : w_X4_right_J49 g v0 v2 s0 s1 K E L4 h) (hR : HS g s h H locs) (hl : lv_has ls 3 [(0, va_rf v0), (2, .int v2)]) : W p l e (RM 1 h0) s m args below meth c H locs cells slots (MQT below g (qI K) E args s h0) (F0 m 49 ls [.int s0, .int s1]) := by
  have hx := X.hx
  have hb := X.hb
  unfold w_X4_right_J49 at hw
  refine lv_ior hx hb dX4_right_49 ?_
  refine r_nmI hw (fun x7 hw => ?_)
  refine lv_istore_n (i := 1) (lv' := [(1, .int x7), (0, va_rf v0), (2, .int v2)]) hx hb dX4_right_50 rfl hl (by decide) (by simp [cat_rf, cat_int, cat_long]) (fun ls hl => ?_)
  refine r_iinc X (k := 2) (v := (v2 + 1)) (lv' := fun x8 => [(2, .int x8), (1, .int x7), (0, va_rf v0)]) dX4_right_51 hl rfl rfl (by decide) hw (fun _ => rfl) (fun x8 hw ls hl => ?_)
  refine lv_goto (tgt := 4) hx hb dX4_right_54 (by decide) ?_
  exact k4 hw hR (lv_sub hl [2, 1, 0] rfl)
theorem t_X4_right_J48 {p : Program} {l : Launch} {e : Env} {s : State} {m : MethodId} {args : Array Value} {below : List Frame} {meth : Method} {c : Code} {g : GT} {h0 : AH} {v0 : Option Nat} {v2 : Int32} {s0 : Int32} {K : Int32 → AH → Prop} {E : Nat → AH → Prop} {L4 : Int32 → Int32 → AH → Prop} {h : AH} {H : Heap} {locs : List Loc} {cells slots : Nat} {ls : Array Slot} (X : Cx g h0 p s m args meth c RX4 cX4_right 3 (Option.some Jvm.ClassFile.FieldType.int)) (k4 : ∀ {v1' : Int32} {v2' : Int32} {h : AH} {H : Heap} {locs : List Loc} {cells slots : Nat} {ls : Array Slot}, L4 v1' v2' h → HS g s h H locs → lv_has ls 3 [(0, va_rf v0), (1, .int (v1')), (2, .int (v2'))] → W p l e (RM 1 h0) s m args below meth c H locs cells slots (MQT below g (qI K) E args s h0) (F0 m 4 ls [])) (hw : w_X4_right_J48 g v0 v2 s0 K E L4 h) (hR : HS g s h H locs) (hl : lv_has ls 3 [(0, va_rf v0), (2, .int v2)]) : W p l e (RM 1 h0) s m args below meth c H locs cells slots (MQT below g (qI K) E args s h0) (F0 m 48 ls [.int s0]) := by
  have hx := X.hx
  have hb := X.hb
  unfold w_X4_right_J48 at hw
  refine lv_iconst (v := 0) hx hb dX4_right_48 (by decide) ?_
  exact t_X4_right_J49 X k4 hw hR (lv_sub hl [0, 1] rfl)
theorem t_X4_right_L4 {p : Program} {l : Launch} {e : Env} {s : State} {m : MethodId} {args : Array Value} {below : List Frame} {meth : Method} {c : Code} {g : GT} {h0 : AH} {v0 : Option Nat} {K : Int32 → AH → Prop} {E : Nat → AH → Prop} (X : Cx g h0 p s m args meth c RX4 cX4_right 3 (Option.some Jvm.ClassFile.FieldType.int))  : ∀ (n : Nat) {v1 : Int32} {v2 : Int32} {h : AH} {H : Heap} {locs : List Loc} {cells slots : Nat} {ls : Array Slot}, LpN2 (w_X4_right_L4 g v0 K E) n v1 v2 h → HS g s h H locs → lv_has ls 3 [(0, va_rf v0), (1, .int v1), (2, .int v2)] → W p l e (RM 1 h0) s m args below meth c H locs cells slots (MQT below g (qI K) E args s h0) (F0 m 4 ls []) := by
  have hx := X.hx
  have hb := X.hb
  intro n
  induction n with
  | zero =>
    intro v1 v2 h H locs cells slots ls hw
    exact hw.elim
  | succ n k4 =>
    intro v1 v2 h H locs cells slots ls hw hR hl
    have hw : w_X4_right_L4 g v0 K E (LpN2 (w_X4_right_L4 g v0 K E) n) v1 v2 h := hw
    unfold w_X4_right_L4 at hw
    refine lv_iload_n hx hb dX4_right_4 rfl (lv_at hl 2 rfl) ?_
    refine r_aload_n X dX4_right_5 rfl (lv_at hl 0 rfl) ?_
    refine r_gR X hR fk_X4_18 dX4_right_6 hw (fun x1 hw => ?_)
    refine r_gI X hR fk_X4_26 dX4_right_9 hw (fun x2 hw => ?_)
    refine lv_icmp_ge (tgt := 57) hx hb dX4_right_12 (by decide) (fun c3 => ?_) (fun c3 => ?_)
    · have hw := hw.1 c3
      refine lv_iload_n hx hb dX4_right_57 rfl (lv_at hl 1 rfl) ?_
      exact r_iret X hR dX4_right_58 hw
    · have hw := hw.2 c3
      refine lv_iload_n hx hb dX4_right_15 rfl (lv_at hl 1 rfl) ?_
      refine r_aload_n X dX4_right_16 rfl (lv_at hl 0 rfl) ?_
      refine r_gR X hR fk_X4_15 dX4_right_17 hw (fun x4 hw => ?_)
      refine lv_iload_n hx hb dX4_right_20 rfl (lv_at hl 2 rfl) ?_
      refine r_iald X hR dX4_right_21 hw (fun x5 hw => ?_)
      refine lv_bipush (v := (-2)) hx hb dX4_right_22 (by decide) ?_
      refine lv_icmp_eq (tgt := 48) hx hb dX4_right_24 (by decide) (fun c6 => ?_) (fun c6 => ?_)
      · have hw := hw.1 c6
        exact t_X4_right_J48 X k4 hw hR (lv_sub hl [0, 2] rfl)
      · have hw := hw.2 c6
        refine r_aload_n X dX4_right_27 rfl (lv_at hl 0 rfl) ?_
        refine r_gR X hR fk_X4_15 dX4_right_28 hw (fun x9 hw => ?_)
        refine lv_iload_n hx hb dX4_right_31 rfl (lv_at hl 2 rfl) ?_
        refine r_iald X hR dX4_right_32 hw (fun x10 hw => ?_)
        refine r_aload_n X dX4_right_33 rfl (lv_at hl 0 rfl) ?_
        refine r_gR X hR fk_X4_9 dX4_right_34 hw (fun x11 hw => ?_)
        refine lv_iload_n hx hb dX4_right_37 rfl (lv_at hl 2 rfl) ?_
        refine r_iald X hR dX4_right_38 hw (fun x12 hw => ?_)
        refine lv_icmp_ne (tgt := 48) hx hb dX4_right_39 (by decide) (fun c13 => ?_) (fun c13 => ?_)
        · have hw := hw.1 c13
          exact t_X4_right_J48 X k4 hw hR (lv_sub hl [0, 2] rfl)
        · have hw := hw.2 c13
          refine lv_iconst (v := 1) hx hb dX4_right_42 (by decide) ?_
          refine lv_iload_n hx hb dX4_right_43 rfl (lv_at hl 2 rfl) ?_
          refine lv_ishl hx hb dX4_right_44 ?_
          refine lv_goto (tgt := 49) hx hb dX4_right_45 (by decide) ?_
          exact t_X4_right_J49 X k4 hw hR (lv_sub hl [0, 2] rfl)
theorem c_X4_right (l : Launch) (g : GT) (v0 : Option Nat) : CT qI l yX4_right (ws_ yX4_right cX4_right 3 (Option.some Jvm.ClassFile.FieldType.int)) 1 g [va_rf v0] (fun K E h => w_X4_right g v0 K E h) := by
  refine CT_of (lv := [(0, va_rf v0)]) (by decide +kernel) (by simp [lg_sl, cat_rf, cat_int, cat_long]) (by simp [lv_args, cat_rf, cat_int, cat_long]) (fun h0 K E p e s m args below meth c H locs cells slots ls X hxt hmn hw hR hl => ?_)
  have hx := X.hx
  have hb := X.hb
  unfold w_X4_right at hw
  refine lv_iconst (v := 0) hx hb dX4_right_0 (by decide) ?_
  refine lv_istore_n (i := 1) (lv' := [(1, .int 0), (0, va_rf v0)]) hx hb dX4_right_1 rfl hl (by decide) (by simp [cat_rf, cat_int, cat_long]) (fun ls hl => ?_)
  refine lv_iconst (v := 0) hx hb dX4_right_2 (by decide) ?_
  refine lv_istore_n (i := 2) (lv' := [(2, .int 0), (1, .int 0), (0, va_rf v0)]) hx hb dX4_right_3 rfl hl (by decide) rfl (fun ls hl => ?_)
  obtain ⟨n, hw⟩ := hw
  exact t_X4_right_L4 X  n hw hR (lv_sub hl [2, 1, 0] rfl)
theorem c_X1_right (l : Launch) (g : GT) (v0 : Option Nat) : CT qI l yX1_right (ws_ yX1_right cX1_right 1 (Option.some Jvm.ClassFile.FieldType.int)) 2 g [va_rf v0] (fun K E h => w_X1_right g v0 K E h) := by
  refine CT_of (lv := [(0, va_rf v0)]) (by decide +kernel) (by simp [lg_sl, cat_rf, cat_int, cat_long]) (by simp [lv_args, cat_rf, cat_int, cat_long]) (fun h0 K E p e s m args below meth c H locs cells slots ls X hxt hmn hw hR hl => ?_)
  have hx := X.hx
  have hb := X.hb
  unfold w_X1_right at hw
  refine r_aload_n X dX1_right_0 rfl (lv_at hl 0 rfl) ?_
  refine r_callV X hR (c_V (ci := 1) (q := (RX1, TX1, 21)) X hR hl.1 (c_X1_anew l g v0) (lw_V q455 q457 qs2 q115 q458) rfl rfl mh_X1_anew rfl (by decide) (by decide) rfl (cat4 (Nat.le_of_ble_eq_true rfl)) dX1_right_1 hw) (fun _ h H locs cells slots hR hw => ?_)
  refine r_aload_n X dX1_right_4 rfl (lv_at hl 0 rfl) ?_
  refine r_gR X hR fk_X1_102 dX1_right_5 hw (fun x1 hw => ?_)
  refine r_ifnonnull (tgt := 19) X dX1_right_8 (by decide) (fun c2 => ?_) (fun c2 => ?_)
  · have hw := hw.1 c2
    refine r_aload_n X dX1_right_19 rfl (lv_at hl 0 rfl) ?_
    refine r_gR X hR fk_X1_33 dX1_right_20 hw (fun x3 hw => ?_)
    refine r_callI X hR (c_V (ci := 4) (q := (RX4, TX4, 4)) X hR hl.1 (c_X4_right l g x3) (lw_V q1199 q1200 q1201 q121 q1202) rfl rfl mh_X4_right rfl (by decide) (by decide) rfl (cat4 (Nat.le_of_ble_eq_true rfl)) dX1_right_23 hw) (fun x4 h H locs cells slots hR hw => ?_)
    exact r_iret X hR dX1_right_26 hw
  · have hw := hw.2 c2
    refine r_aload_n X dX1_right_11 rfl (lv_at hl 0 rfl) ?_
    refine lv_iconst (v := 1) hx hb dX1_right_12 (by decide) ?_
    refine r_callI X hR (c_V (ci := 1) (q := (RX1, TX1, 21)) X hR hl.1 (c_X1_no l g v0 1) (lw_V q462 q464 qs3 q115 q465) rfl rfl mh_X1_no rfl (by decide) (by decide) rfl (cat4 (Nat.le_of_ble_eq_true rfl)) dX1_right_13 hw) (fun x5 h H locs cells slots hR hw => ?_)
    refine lv_goto (tgt := 26) hx hb dX1_right_16 (by decide) ?_
    exact r_iret X hR dX1_right_26 hw
theorem t_X1_richest_J64 {p : Program} {l : Launch} {e : Env} {s : State} {m : MethodId} {args : Array Value} {below : List Frame} {meth : Method} {c : Code} {g : GT} {h0 : AH} {v0 : Option Nat} {v1 : Int32} {v2 : Int32} {K : Int32 → AH → Prop} {E : Nat → AH → Prop} {L22 : Int32 → Int32 → AH → Prop} {h : AH} {H : Heap} {locs : List Loc} {cells slots : Nat} {ls : Array Slot} (X : Cx g h0 p s m args meth c RX1 cX1_richest 3 (Option.some Jvm.ClassFile.FieldType.int)) (k22 : ∀ {v1' : Int32} {v2' : Int32} {h : AH} {H : Heap} {locs : List Loc} {cells slots : Nat} {ls : Array Slot}, L22 v1' v2' h → HS g s h H locs → lv_has ls 3 [(0, va_rf v0), (1, .int (v1')), (2, .int (v2'))] → W p l e (RM 2 h0) s m args below meth c H locs cells slots (MQT below g (qI K) E args s h0) (F0 m 22 ls [])) (hw : w_X1_richest_J64 g v0 v1 v2 K E L22 h) (hR : HS g s h H locs) (hl : lv_has ls 3 [(0, va_rf v0), (1, .int v1), (2, .int v2)]) : W p l e (RM 2 h0) s m args below meth c H locs cells slots (MQT below g (qI K) E args s h0) (F0 m 64 ls []) := by
  have hx := X.hx
  have hb := X.hb
  unfold w_X1_richest_J64 at hw
  refine r_iinc X (k := 2) (v := (v2 + 1)) (lv' := fun x12 => [(2, .int x12), (0, va_rf v0), (1, .int v1)]) dX1_richest_64 hl rfl rfl (by decide) hw (fun _ => rfl) (fun x12 hw ls hl => ?_)
  refine lv_goto (tgt := 22) hx hb dX1_richest_67 (by decide) ?_
  exact k22 hw hR (lv_sub hl [1, 2, 0] rfl)
theorem t_X1_richest_J59 {p : Program} {l : Launch} {e : Env} {s : State} {m : MethodId} {args : Array Value} {below : List Frame} {meth : Method} {c : Code} {g : GT} {h0 : AH} {v0 : Option Nat} {v1 : Int32} {v2 : Int32} {s0 : Int32} {s1 : Int32} {K : Int32 → AH → Prop} {E : Nat → AH → Prop} {L22 : Int32 → Int32 → AH → Prop} {h : AH} {H : Heap} {locs : List Loc} {cells slots : Nat} {ls : Array Slot} (X : Cx g h0 p s m args meth c RX1 cX1_richest 3 (Option.some Jvm.ClassFile.FieldType.int)) (k22 : ∀ {v1' : Int32} {v2' : Int32} {h : AH} {H : Heap} {locs : List Loc} {cells slots : Nat} {ls : Array Slot}, L22 v1' v2' h → HS g s h H locs → lv_has ls 3 [(0, va_rf v0), (1, .int (v1')), (2, .int (v2'))] → W p l e (RM 2 h0) s m args below meth c H locs cells slots (MQT below g (qI K) E args s h0) (F0 m 22 ls [])) (hw : w_X1_richest_J59 g v0 v1 v2 s0 s1 K E L22 h) (hR : HS g s h H locs) (hl : lv_has ls 3 [(0, va_rf v0), (1, .int v1), (2, .int v2)]) : W p l e (RM 2 h0) s m args below meth c H locs cells slots (MQT below g (qI K) E args s h0) (F0 m 59 ls [.int s0, .int s1]) := by
  have hx := X.hx
  have hb := X.hb
  unfold w_X1_richest_J59 at hw
  refine lv_icmp_le (tgt := 64) hx hb dX1_richest_59 (by decide) (fun c11 => ?_) (fun c11 => ?_)
  · have hw := hw.1 c11
    exact t_X1_richest_J64 X k22 hw hR (lv_sub hl [0, 1, 2] rfl)
  · have hw := hw.2 c11
    refine lv_iload_n hx hb dX1_richest_62 rfl (lv_at hl 2 rfl) ?_
    refine lv_istore_n (i := 1) (lv' := [(1, .int v2), (0, va_rf v0), (2, .int v2)]) hx hb dX1_richest_63 rfl hl (by decide) (by simp [cat_rf, cat_int, cat_long]) (fun ls hl => ?_)
    exact t_X1_richest_J64 X k22 hw hR (lv_sub hl [1, 0, 2] rfl)
theorem t_X1_richest_L22 {p : Program} {l : Launch} {e : Env} {s : State} {m : MethodId} {args : Array Value} {below : List Frame} {meth : Method} {c : Code} {g : GT} {h0 : AH} {v0 : Option Nat} {K : Int32 → AH → Prop} {E : Nat → AH → Prop} (X : Cx g h0 p s m args meth c RX1 cX1_richest 3 (Option.some Jvm.ClassFile.FieldType.int))  : ∀ (n : Nat) {v1 : Int32} {v2 : Int32} {h : AH} {H : Heap} {locs : List Loc} {cells slots : Nat} {ls : Array Slot}, LpN2 (w_X1_richest_L22 g v0 K E) n v1 v2 h → HS g s h H locs → lv_has ls 3 [(0, va_rf v0), (1, .int v1), (2, .int v2)] → W p l e (RM 2 h0) s m args below meth c H locs cells slots (MQT below g (qI K) E args s h0) (F0 m 22 ls []) := by
  have hx := X.hx
  have hb := X.hb
  intro n
  induction n with
  | zero =>
    intro v1 v2 h H locs cells slots ls hw
    exact hw.elim
  | succ n k22 =>
    intro v1 v2 h H locs cells slots ls hw hR hl
    have hw : w_X1_richest_L22 g v0 K E (LpN2 (w_X1_richest_L22 g v0 K E) n) v1 v2 h := hw
    unfold w_X1_richest_L22 at hw
    refine lv_iload_n hx hb dX1_richest_22 rfl (lv_at hl 2 rfl) ?_
    refine r_aload_n X dX1_richest_23 rfl (lv_at hl 0 rfl) ?_
    refine r_gR X hR fk_X1_102 dX1_richest_24 hw (fun x3 hw => ?_)
    refine r_gI X hR fk_X1_131 dX1_richest_27 hw (fun x4 hw => ?_)
    refine lv_icmp_ge (tgt := 70) hx hb dX1_richest_30 (by decide) (fun c5 => ?_) (fun c5 => ?_)
    · have hw := hw.1 c5
      refine lv_iload_n hx hb dX1_richest_70 rfl (lv_at hl 1 rfl) ?_
      exact r_iret X hR dX1_richest_71 hw
    · have hw := hw.2 c5
      refine r_aload_n X dX1_richest_33 rfl (lv_at hl 0 rfl) ?_
      refine r_gR X hR fk_X1_33 dX1_richest_34 hw (fun x6 hw => ?_)
      refine lv_iload_n hx hb dX1_richest_37 rfl (lv_at hl 2 rfl) ?_
      refine r_callI X hR (c_V (ci := 4) (q := (RX4, TX4, 4)) X hR hl.1 (c_X4_lands l g x6 v2) (lw_V q1182 q1183 q1184 q121 q1185) rfl rfl mh_X4_lands rfl (by decide) (by decide) rfl (cat4 (Nat.le_of_ble_eq_true rfl)) dX1_richest_38 hw) (fun x7 h H locs cells slots hR hw => ?_)
      refine lv_iload_n hx hb dX1_richest_41 rfl (lv_at hl 1 rfl) ?_
      refine lv_bipush (v := (-2)) hx hb dX1_richest_42 (by decide) ?_
      refine lv_icmp_ne (tgt := 51) hx hb dX1_richest_44 (by decide) (fun c8 => ?_) (fun c8 => ?_)
      · have hw := hw.1 c8
        refine r_aload_n X dX1_richest_51 rfl (lv_at hl 0 rfl) ?_
        refine r_gR X hR fk_X1_33 dX1_richest_52 hw (fun x9 hw => ?_)
        refine lv_iload_n hx hb dX1_richest_55 rfl (lv_at hl 1 rfl) ?_
        refine r_callI X hR (c_V (ci := 4) (q := (RX4, TX4, 4)) X hR hl.1 (c_X4_lands l g x9 v1) (lw_V q1182 q1183 q1184 q121 q1185) rfl rfl mh_X4_lands rfl (by decide) (by decide) rfl (cat4 (Nat.le_of_ble_eq_true rfl)) dX1_richest_56 hw) (fun x10 h H locs cells slots hR hw => ?_)
        exact t_X1_richest_J59 X k22 hw hR (lv_sub hl [0, 1, 2] rfl)
      · have hw := hw.2 c8
        refine lv_iconst (v := 0) hx hb dX1_richest_47 (by decide) ?_
        refine lv_goto (tgt := 59) hx hb dX1_richest_48 (by decide) ?_
        exact t_X1_richest_J59 X k22 hw hR (lv_sub hl [0, 1, 2] rfl)
theorem c_X1_richest (l : Launch) (g : GT) (v0 : Option Nat) : CT qI l yX1_richest (ws_ yX1_richest cX1_richest 3 (Option.some Jvm.ClassFile.FieldType.int)) 2 g [va_rf v0] (fun K E h => w_X1_richest g v0 K E h) := by
  refine CT_of (lv := [(0, va_rf v0)]) (by decide +kernel) (by simp [lg_sl, cat_rf, cat_int, cat_long]) (by simp [lv_args, cat_rf, cat_int, cat_long]) (fun h0 K E p e s m args below meth c H locs cells slots ls X hxt hmn hw hR hl => ?_)
  have hx := X.hx
  have hb := X.hb
  unfold w_X1_richest at hw
  refine r_aload_n X dX1_richest_0 rfl (lv_at hl 0 rfl) ?_
  refine r_callV X hR (c_V (ci := 1) (q := (RX1, TX1, 21)) X hR hl.1 (c_X1_anew l g v0) (lw_V q455 q457 qs2 q115 q458) rfl rfl mh_X1_anew rfl (by decide) (by decide) rfl (cat4 (Nat.le_of_ble_eq_true rfl)) dX1_richest_1 hw) (fun _ h H locs cells slots hR hw => ?_)
  refine r_aload_n X dX1_richest_4 rfl (lv_at hl 0 rfl) ?_
  refine r_gR X hR fk_X1_102 dX1_richest_5 hw (fun x1 hw => ?_)
  refine r_ifnonnull (tgt := 17) X dX1_richest_8 (by decide) (fun c2 => ?_) (fun c2 => ?_)
  · have hw := hw.1 c2
    refine lv_bipush (v := (-2)) hx hb dX1_richest_17 (by decide) ?_
    refine lv_istore_n (i := 1) (lv' := [(1, .int (-2)), (0, va_rf v0)]) hx hb dX1_richest_19 rfl hl (by decide) (by simp [cat_rf, cat_int, cat_long]) (fun ls hl => ?_)
    refine lv_iconst (v := 0) hx hb dX1_richest_20 (by decide) ?_
    refine lv_istore_n (i := 2) (lv' := [(2, .int 0), (1, .int (-2)), (0, va_rf v0)]) hx hb dX1_richest_21 rfl hl (by decide) rfl (fun ls hl => ?_)
    obtain ⟨n, hw⟩ := hw
    exact t_X1_richest_L22 X  n hw hR (lv_sub hl [2, 1, 0] rfl)
  · have hw := hw.2 c2
    refine r_aload_n X dX1_richest_11 rfl (lv_at hl 0 rfl) ?_
    refine lv_iconst (v := 1) hx hb dX1_richest_12 (by decide) ?_
    refine r_callI X hR (c_V (ci := 1) (q := (RX1, TX1, 21)) X hR hl.1 (c_X1_no l g v0 1) (lw_V q462 q464 qs3 q115 q465) rfl rfl mh_X1_no rfl (by decide) (by decide) rfl (cat4 (Nat.le_of_ble_eq_true rfl)) dX1_richest_13 hw) (fun x13 h H locs cells slots hR hw => ?_)
    exact r_iret X hR dX1_richest_16 hw
theorem c_X1_dayWhy (l : Launch) (g : GT) (v0 : Option Nat) (v1 : Int32) (v2 : Int32) : CT qI l yX1_dayWhy (ws_ yX1_dayWhy cX1_dayWhy 3 (Option.some Jvm.ClassFile.FieldType.int)) 2 g [va_rf v0, .int v1, .int v2] (fun K E h => w_X1_dayWhy g v0 v1 v2 K E h) := by
  refine CT_of (lv := [(0, va_rf v0), (1, .int v1), (2, .int v2)]) (by decide +kernel) (by simp [lg_sl, cat_rf, cat_int, cat_long]) (by simp [lv_args, cat_rf, cat_int, cat_long]) (fun h0 K E p e s m args below meth c H locs cells slots ls X hxt hmn hw hR hl => ?_)
  have hx := X.hx
  have hb := X.hb
  unfold w_X1_dayWhy at hw
  refine lv_iload_n hx hb dX1_dayWhy_0 rfl (lv_at hl 1 rfl) ?_
  refine lv_if_ne (tgt := 8) hx hb dX1_dayWhy_1 (by decide) (fun c1 => ?_) (fun c1 => ?_)
  · have hw := hw.1 c1
    refine lv_iload_n hx hb dX1_dayWhy_8 rfl (lv_at hl 2 rfl) ?_
    refine lv_iconst (v := 0) hx hb dX1_dayWhy_9 (by decide) ?_
    refine lv_bipush (v := 40) hx hb dX1_dayWhy_10 (by decide) ?_
    refine r_callI X hR (c_S X hR hl.1 (c_X1_in l g v2 0 40) (lw_S q459 q460 q115 q461) mh_X1_in rfl (by decide) (by decide) rfl (cat4 (Nat.le_of_ble_eq_true rfl)) dX1_dayWhy_12 hw) (fun x2 h H locs cells slots hR hw => ?_)
    refine lv_if_eq (tgt := 22) hx hb dX1_dayWhy_15 (by decide) (fun c3 => ?_) (fun c3 => ?_)
    · have hw := hw.1 c3
      refine lv_iconst (v := 2) hx hb dX1_dayWhy_22 (by decide) ?_
      exact r_iret X hR dX1_dayWhy_23 hw
    · have hw := hw.2 c3
      refine lv_iconst (v := 0) hx hb dX1_dayWhy_18 (by decide) ?_
      refine lv_goto (tgt := 23) hx hb dX1_dayWhy_19 (by decide) ?_
      exact r_iret X hR dX1_dayWhy_23 hw
  · have hw := hw.2 c1
    refine lv_iconst (v := 1) hx hb dX1_dayWhy_4 (by decide) ?_
    refine lv_goto (tgt := 23) hx hb dX1_dayWhy_5 (by decide) ?_
    exact r_iret X hR dX1_dayWhy_23 hw
theorem c_X5_holder (l : Launch) (g : GT) (v0 : Option Nat) (v1 : Int32) (v2 : Int32) : CT qI l yX5_holder (ws_ yX5_holder cX5_holder 3 (Option.some Jvm.ClassFile.FieldType.int)) 1 g [va_rf v0, .int v1, .int v2] (fun K E h => w_X5_holder g v0 v1 v2 K E h) := by
  refine CT_of (lv := [(0, va_rf v0), (1, .int v1), (2, .int v2)]) (by decide +kernel) (by simp [lg_sl, cat_rf, cat_int, cat_long]) (by simp [lv_args, cat_rf, cat_int, cat_long]) (fun h0 K E p e s m args below meth c H locs cells slots ls X hxt hmn hw hR hl => ?_)
  have hx := X.hx
  have hb := X.hb
  unfold w_X5_holder at hw
  refine r_aload_n X dX5_holder_0 rfl (lv_at hl 0 rfl) ?_
  refine r_gR X hR fk_X5_18 dX5_holder_1 hw (fun x1 hw => ?_)
  refine lv_iconst (v := 5) hx hb dX5_holder_4 (by decide) ?_
  refine lv_iload_n hx hb dX5_holder_5 rfl (lv_at hl 2 rfl) ?_
  refine lv_imul hx hb dX5_holder_6 ?_
  refine lv_iload_n hx hb dX5_holder_7 rfl (lv_at hl 1 rfl) ?_
  refine lv_iadd hx hb dX5_holder_8 ?_
  refine r_iald X hR dX5_holder_9 hw (fun x2 hw => ?_)
  exact r_iret X hR dX5_holder_10 hw
theorem c_X1_hasIt (l : Launch) (g : GT) (v0 : Option Nat) (v1 : Int32) (v2 : Int32) : CT qI l yX1_hasIt (ws_ yX1_hasIt cX1_hasIt 4 (Option.some Jvm.ClassFile.FieldType.int)) 3 g [va_rf v0, .int v1, .int v2] (fun K E h => w_X1_hasIt g v0 v1 v2 K E h) := by
  refine CT_of (lv := [(0, va_rf v0), (1, .int v1), (2, .int v2)]) (by decide +kernel) (by simp [lg_sl, cat_rf, cat_int, cat_long]) (by simp [lv_args, cat_rf, cat_int, cat_long]) (fun h0 K E p e s m args below meth c H locs cells slots ls X hxt hmn hw hR hl => ?_)
  have hx := X.hx
  have hb := X.hb
  unfold w_X1_hasIt at hw
  refine r_aload_n X dX1_hasIt_0 rfl (lv_at hl 0 rfl) ?_
  refine r_callV X hR (c_V (ci := 1) (q := (RX1, TX1, 21)) X hR hl.1 (c_X1_anew l g v0) (lw_V q455 q457 qs2 q115 q458) rfl rfl mh_X1_anew rfl (by decide) (by decide) rfl (cat4 (Nat.le_of_ble_eq_true rfl)) dX1_hasIt_1 hw) (fun _ h H locs cells slots hR hw => ?_)
  refine r_aload_n X dX1_hasIt_4 rfl (lv_at hl 0 rfl) ?_
  refine r_aload_n X dX1_hasIt_5 rfl (lv_at hl 0 rfl) ?_
  refine lv_iload_n hx hb dX1_hasIt_6 rfl (lv_at hl 1 rfl) ?_
  refine r_callI X hR (c_V (ci := 1) (q := (RX1, TX1, 21)) X hR hl.1 (c_X1_isUmbrella l g v0 v1) (lw_V q1142 q1144 qs32 q115 q1145) rfl rfl mh_X1_isUmbrella rfl (by decide) (by decide) rfl (cat4 (Nat.le_of_ble_eq_true rfl)) dX1_hasIt_7 hw) (fun x1 h H locs cells slots hR hw => ?_)
  refine lv_iload_n hx hb dX1_hasIt_10 rfl (lv_at hl 2 rfl) ?_
  refine r_callI X hR (c_V (ci := 1) (q := (RX1, TX1, 21)) X hR hl.1 (c_X1_dayWhy l g v0 x1 v2) (lw_V q1211 q1213 qs34 q115 q1214) rfl rfl mh_X1_dayWhy rfl (by decide) (by decide) rfl (cat4 (Nat.le_of_ble_eq_true rfl)) dX1_hasIt_11 hw) (fun x2 h H locs cells slots hR hw => ?_)
  refine lv_istore_n (i := 3) (lv' := [(3, .int x2), (0, va_rf v0), (1, .int v1), (2, .int v2)]) hx hb dX1_hasIt_14 rfl hl (by decide) rfl (fun ls hl => ?_)
  refine lv_iload_n hx hb dX1_hasIt_15 rfl (lv_at hl 0 rfl) ?_
  refine lv_if_eq (tgt := 27) hx hb dX1_hasIt_16 (by decide) (fun c3 => ?_) (fun c3 => ?_)
  · have hw := hw.1 c3
    refine r_aload_n X dX1_hasIt_27 rfl (lv_at hl 1 rfl) ?_
    refine r_gR X hR fk_X1_46 dX1_hasIt_28 hw (fun x4 hw => ?_)
    refine lv_iload_n hx hb dX1_hasIt_31 rfl (lv_at hl 2 rfl) ?_
    refine lv_iload_n hx hb dX1_hasIt_32 rfl (lv_at hl 3 rfl) ?_
    refine r_callI X hR (c_V (ci := 5) (q := (RX5, TX5, 3)) X hR hl.1 (c_X5_holder l g x4 v1 v2) (lw_V q1215 q1216 q1217 q122 q1218) rfl rfl mh_X5_holder rfl (by decide) (by decide) rfl (cat4 (Nat.le_of_ble_eq_true rfl)) dX1_hasIt_33 hw) (fun x5 h H locs cells slots hR hw => ?_)
    exact r_iret X hR dX1_hasIt_36 hw
  · have hw := hw.2 c3
    refine r_aload_n X dX1_hasIt_19 rfl (lv_at hl 1 rfl) ?_
    refine lv_iload_n hx hb dX1_hasIt_20 rfl (lv_at hl 0 rfl) ?_
    refine r_callI X hR (c_V (ci := 1) (q := (RX1, TX1, 21)) X hR hl.1 (c_X1_no l g v0 x2) (lw_V q462 q464 qs3 q115 q465) rfl rfl mh_X1_no rfl (by decide) (by decide) rfl (cat4 (Nat.le_of_ble_eq_true rfl)) dX1_hasIt_21 hw) (fun x6 h H locs cells slots hR hw => ?_)
    refine lv_goto (tgt := 36) hx hb dX1_hasIt_24 (by decide) ?_
    exact r_iret X hR dX1_hasIt_36 hw
theorem c_X5_title (l : Launch) (g : GT) (v0 : Option Nat) (v1 : Int32) (v2 : Int32) : CT qI l yX5_title (ws_ yX5_title cX5_title 3 (Option.some Jvm.ClassFile.FieldType.int)) 1 g [va_rf v0, .int v1, .int v2] (fun K E h => w_X5_title g v0 v1 v2 K E h) := by
  refine CT_of (lv := [(0, va_rf v0), (1, .int v1), (2, .int v2)]) (by decide +kernel) (by simp [lg_sl, cat_rf, cat_int, cat_long]) (by simp [lv_args, cat_rf, cat_int, cat_long]) (fun h0 K E p e s m args below meth c H locs cells slots ls X hxt hmn hw hR hl => ?_)
  have hx := X.hx
  have hb := X.hb
  unfold w_X5_title at hw
  refine r_aload_n X dX5_title_0 rfl (lv_at hl 0 rfl) ?_
  refine r_gR X hR fk_X5_22 dX5_title_1 hw (fun x1 hw => ?_)
  refine lv_iconst (v := 5) hx hb dX5_title_4 (by decide) ?_
  refine lv_iload_n hx hb dX5_title_5 rfl (lv_at hl 2 rfl) ?_
  refine lv_imul hx hb dX5_title_6 ?_
  refine lv_iload_n hx hb dX5_title_7 rfl (lv_at hl 1 rfl) ?_
  refine lv_iadd hx hb dX5_title_8 ?_
  refine r_iald X hR dX5_title_9 hw (fun x2 hw => ?_)
  exact r_iret X hR dX5_title_10 hw
theorem c_X1_titleOf (l : Launch) (g : GT) (v0 : Option Nat) (v1 : Int32) (v2 : Int32) : CT qI l yX1_titleOf (ws_ yX1_titleOf cX1_titleOf 4 (Option.some Jvm.ClassFile.FieldType.int)) 3 g [va_rf v0, .int v1, .int v2] (fun K E h => w_X1_titleOf g v0 v1 v2 K E h) := by
  refine CT_of (lv := [(0, va_rf v0), (1, .int v1), (2, .int v2)]) (by decide +kernel) (by simp [lg_sl, cat_rf, cat_int, cat_long]) (by simp [lv_args, cat_rf, cat_int, cat_long]) (fun h0 K E p e s m args below meth c H locs cells slots ls X hxt hmn hw hR hl => ?_)
  have hx := X.hx
  have hb := X.hb
  unfold w_X1_titleOf at hw
  refine r_aload_n X dX1_titleOf_0 rfl (lv_at hl 0 rfl) ?_
  refine r_callV X hR (c_V (ci := 1) (q := (RX1, TX1, 21)) X hR hl.1 (c_X1_anew l g v0) (lw_V q455 q457 qs2 q115 q458) rfl rfl mh_X1_anew rfl (by decide) (by decide) rfl (cat4 (Nat.le_of_ble_eq_true rfl)) dX1_titleOf_1 hw) (fun _ h H locs cells slots hR hw => ?_)
  refine r_aload_n X dX1_titleOf_4 rfl (lv_at hl 0 rfl) ?_
  refine r_aload_n X dX1_titleOf_5 rfl (lv_at hl 0 rfl) ?_
  refine lv_iload_n hx hb dX1_titleOf_6 rfl (lv_at hl 1 rfl) ?_
  refine r_callI X hR (c_V (ci := 1) (q := (RX1, TX1, 21)) X hR hl.1 (c_X1_isUmbrella l g v0 v1) (lw_V q1142 q1144 qs32 q115 q1145) rfl rfl mh_X1_isUmbrella rfl (by decide) (by decide) rfl (cat4 (Nat.le_of_ble_eq_true rfl)) dX1_titleOf_7 hw) (fun x1 h H locs cells slots hR hw => ?_)
  refine lv_iload_n hx hb dX1_titleOf_10 rfl (lv_at hl 2 rfl) ?_
  refine r_callI X hR (c_V (ci := 1) (q := (RX1, TX1, 21)) X hR hl.1 (c_X1_dayWhy l g v0 x1 v2) (lw_V q1211 q1213 qs34 q115 q1214) rfl rfl mh_X1_dayWhy rfl (by decide) (by decide) rfl (cat4 (Nat.le_of_ble_eq_true rfl)) dX1_titleOf_11 hw) (fun x2 h H locs cells slots hR hw => ?_)
  refine lv_istore_n (i := 3) (lv' := [(3, .int x2), (0, va_rf v0), (1, .int v1), (2, .int v2)]) hx hb dX1_titleOf_14 rfl hl (by decide) rfl (fun ls hl => ?_)
  refine lv_iload_n hx hb dX1_titleOf_15 rfl (lv_at hl 0 rfl) ?_
  refine lv_if_eq (tgt := 27) hx hb dX1_titleOf_16 (by decide) (fun c3 => ?_) (fun c3 => ?_)
  · have hw := hw.1 c3
    refine r_aload_n X dX1_titleOf_27 rfl (lv_at hl 1 rfl) ?_
    refine r_gR X hR fk_X1_46 dX1_titleOf_28 hw (fun x4 hw => ?_)
    refine lv_iload_n hx hb dX1_titleOf_31 rfl (lv_at hl 2 rfl) ?_
    refine lv_iload_n hx hb dX1_titleOf_32 rfl (lv_at hl 3 rfl) ?_
    refine r_callI X hR (c_V (ci := 5) (q := (RX5, TX5, 3)) X hR hl.1 (c_X5_title l g x4 v1 v2) (lw_V q1223 q1224 q1225 q122 q1226) rfl rfl mh_X5_title rfl (by decide) (by decide) rfl (cat4 (Nat.le_of_ble_eq_true rfl)) dX1_titleOf_33 hw) (fun x5 h H locs cells slots hR hw => ?_)
    exact r_iret X hR dX1_titleOf_36 hw
  · have hw := hw.2 c3
    refine r_aload_n X dX1_titleOf_19 rfl (lv_at hl 1 rfl) ?_
    refine lv_iload_n hx hb dX1_titleOf_20 rfl (lv_at hl 0 rfl) ?_
    refine r_callI X hR (c_V (ci := 1) (q := (RX1, TX1, 21)) X hR hl.1 (c_X1_no l g v0 x2) (lw_V q462 q464 qs3 q115 q465) rfl rfl mh_X1_no rfl (by decide) (by decide) rfl (cat4 (Nat.le_of_ble_eq_true rfl)) dX1_titleOf_21 hw) (fun x6 h H locs cells slots hR hw => ?_)
    refine lv_goto (tgt := 36) hx hb dX1_titleOf_24 (by decide) ?_
    exact r_iret X hR dX1_titleOf_36 hw
theorem t_X1_landsBy_J49 {p : Program} {l : Launch} {e : Env} {s : State} {m : MethodId} {args : Array Value} {below : List Frame} {meth : Method} {c : Code} {g : GT} {h0 : AH} {v0 : Option Nat} {v1 : Int32} {v2 : Int32} {v4 : Int32} {s0 : Int32} {s1 : Int32} {K : Int32 → AH → Prop} {E : Nat → AH → Prop} {L5 : Int32 → Int32 → AH → Prop} {h : AH} {H : Heap} {locs : List Loc} {cells slots : Nat} {ls : Array Slot} (X : Cx g h0 p s m args meth c RX1 cX1_landsBy 5 (Option.some Jvm.ClassFile.FieldType.int)) (k5 : ∀ {v3' : Int32} {v4' : Int32} {h : AH} {H : Heap} {locs : List Loc} {cells slots : Nat} {ls : Array Slot}, L5 v3' v4' h → HS g s h H locs → lv_has ls 5 [(0, va_rf v0), (1, .int v1), (2, .int v2), (3, .int (v3')), (4, .int (v4'))] → W p l e (RM 2 h0) s m args below meth c H locs cells slots (MQT below g (qI K) E args s h0) (F0 m 5 ls [])) (hw : w_X1_landsBy_J49 g v0 v1 v2 v4 s0 s1 K E L5 h) (hR : HS g s h H locs) (hl : lv_has ls 5 [(0, va_rf v0), (1, .int v1), (2, .int v2), (4, .int v4)]) : W p l e (RM 2 h0) s m args below meth c H locs cells slots (MQT below g (qI K) E args s h0) (F0 m 49 ls [.int s0, .int s1]) := by
  have hx := X.hx
  have hb := X.hb
  unfold w_X1_landsBy_J49 at hw
  refine lv_iadd hx hb dX1_landsBy_49 ?_
  refine r_nmI hw (fun x7 hw => ?_)
  refine lv_istore_n (i := 3) (lv' := [(3, .int x7), (0, va_rf v0), (1, .int v1), (2, .int v2), (4, .int v4)]) hx hb dX1_landsBy_50 rfl hl (by decide) rfl (fun ls hl => ?_)
  refine r_iinc X (k := 4) (v := (v4 + 1)) (lv' := fun x8 => [(4, .int x8), (3, .int x7), (0, va_rf v0), (1, .int v1), (2, .int v2)]) dX1_landsBy_51 hl rfl rfl (by decide) hw (fun _ => rfl) (fun x8 hw ls hl => ?_)
  refine lv_goto (tgt := 5) hx hb dX1_landsBy_54 (by decide) ?_
  exact k5 hw hR (lv_sub hl [2, 3, 4, 1, 0] rfl)
theorem t_X1_landsBy_L5 {p : Program} {l : Launch} {e : Env} {s : State} {m : MethodId} {args : Array Value} {below : List Frame} {meth : Method} {c : Code} {g : GT} {h0 : AH} {v0 : Option Nat} {v1 : Int32} {v2 : Int32} {K : Int32 → AH → Prop} {E : Nat → AH → Prop} (X : Cx g h0 p s m args meth c RX1 cX1_landsBy 5 (Option.some Jvm.ClassFile.FieldType.int))  : ∀ (n : Nat) {v3 : Int32} {v4 : Int32} {h : AH} {H : Heap} {locs : List Loc} {cells slots : Nat} {ls : Array Slot}, LpN2 (w_X1_landsBy_L5 g v0 v1 v2 K E) n v3 v4 h → HS g s h H locs → lv_has ls 5 [(0, va_rf v0), (1, .int v1), (2, .int v2), (3, .int v3), (4, .int v4)] → W p l e (RM 2 h0) s m args below meth c H locs cells slots (MQT below g (qI K) E args s h0) (F0 m 5 ls []) := by
  have hx := X.hx
  have hb := X.hb
  intro n
  induction n with
  | zero =>
    intro v3 v4 h H locs cells slots ls hw
    exact hw.elim
  | succ n k5 =>
    intro v3 v4 h H locs cells slots ls hw hR hl
    have hw : w_X1_landsBy_L5 g v0 v1 v2 K E (LpN2 (w_X1_landsBy_L5 g v0 v1 v2 K E) n) v3 v4 h := hw
    unfold w_X1_landsBy_L5 at hw
    refine lv_iload hx hb dX1_landsBy_5 (lv_at hl 4 rfl) ?_
    refine r_aload_n X dX1_landsBy_7 rfl (lv_at hl 0 rfl) ?_
    refine r_gR X hR fk_X1_102 dX1_landsBy_8 hw (fun x1 hw => ?_)
    refine r_gI X hR fk_X1_126 dX1_landsBy_11 hw (fun x2 hw => ?_)
    refine lv_icmp_ge (tgt := 57) hx hb dX1_landsBy_14 (by decide) (fun c3 => ?_) (fun c3 => ?_)
    · have hw := hw.1 c3
      refine lv_iload_n hx hb dX1_landsBy_57 rfl (lv_at hl 3 rfl) ?_
      exact r_iret X hR dX1_landsBy_58 hw
    · have hw := hw.2 c3
      refine lv_iload_n hx hb dX1_landsBy_17 rfl (lv_at hl 3 rfl) ?_
      refine r_aload_n X dX1_landsBy_18 rfl (lv_at hl 0 rfl) ?_
      refine r_gR X hR fk_X1_46 dX1_landsBy_19 hw (fun x4 hw => ?_)
      refine lv_iload hx hb dX1_landsBy_22 (lv_at hl 4 rfl) ?_
      refine lv_iload_n hx hb dX1_landsBy_24 rfl (lv_at hl 2 rfl) ?_
      refine r_callI X hR (c_V (ci := 5) (q := (RX5, TX5, 3)) X hR hl.1 (c_X5_title l g x4 v4 v2) (lw_V q1223 q1224 q1225 q122 q1226) rfl rfl mh_X5_title rfl (by decide) (by decide) rfl (cat4 (Nat.le_of_ble_eq_true rfl)) dX1_landsBy_25 hw) (fun x5 h H locs cells slots hR hw => ?_)
      refine lv_iload_n hx hb dX1_landsBy_28 rfl (lv_at hl 1 rfl) ?_
      refine lv_icmp_ne (tgt := 48) hx hb dX1_landsBy_29 (by decide) (fun c6 => ?_) (fun c6 => ?_)
      · have hw := hw.1 c6
        refine lv_iconst (v := 0) hx hb dX1_landsBy_48 (by decide) ?_
        exact t_X1_landsBy_J49 X k5 hw hR (lv_sub hl [0, 1, 2, 4] rfl)
      · have hw := hw.2 c6
        refine r_aload_n X dX1_landsBy_32 rfl (lv_at hl 0 rfl) ?_
        refine r_gR X hR fk_X1_102 dX1_landsBy_33 hw (fun x9 hw => ?_)
        refine r_gR X hR fk_X1_138 dX1_landsBy_36 hw (fun x10 hw => ?_)
        refine lv_iload hx hb dX1_landsBy_39 (lv_at hl 4 rfl) ?_
        refine r_aald X hR (t := 6) (by decide) (by decide) dX1_landsBy_41 hw (fun x11 hw => ?_)
        refine r_gI X hR fk_X1_148 dX1_landsBy_42 hw (fun x12 hw => ?_)
        refine lv_goto (tgt := 49) hx hb dX1_landsBy_45 (by decide) ?_
        exact t_X1_landsBy_J49 X k5 hw hR (lv_sub hl [0, 1, 2, 4] rfl)
theorem c_X1_landsBy (l : Launch) (g : GT) (v0 : Option Nat) (v1 : Int32) (v2 : Int32) : CT qI l yX1_landsBy (ws_ yX1_landsBy cX1_landsBy 5 (Option.some Jvm.ClassFile.FieldType.int)) 2 g [va_rf v0, .int v1, .int v2] (fun K E h => w_X1_landsBy g v0 v1 v2 K E h) := by
  refine CT_of (lv := [(0, va_rf v0), (1, .int v1), (2, .int v2)]) (by decide +kernel) (by simp [lg_sl, cat_rf, cat_int, cat_long]) (by simp [lv_args, cat_rf, cat_int, cat_long]) (fun h0 K E p e s m args below meth c H locs cells slots ls X hxt hmn hw hR hl => ?_)
  have hx := X.hx
  have hb := X.hb
  unfold w_X1_landsBy at hw
  refine lv_iconst (v := 0) hx hb dX1_landsBy_0 (by decide) ?_
  refine lv_istore_n (i := 3) (lv' := [(3, .int 0), (0, va_rf v0), (1, .int v1), (2, .int v2)]) hx hb dX1_landsBy_1 rfl hl (by decide) rfl (fun ls hl => ?_)
  refine lv_iconst (v := 0) hx hb dX1_landsBy_2 (by decide) ?_
  refine lv_istore (i := 4) (lv' := [(4, .int 0), (3, .int 0), (0, va_rf v0), (1, .int v1), (2, .int v2)]) hx hb dX1_landsBy_3 hl (by decide) rfl (fun ls hl => ?_)
  obtain ⟨n, hw⟩ := hw
  exact t_X1_landsBy_L5 X  n hw hR (lv_sub hl [2, 3, 4, 1, 0] rfl)
theorem c_X1_landsOf (l : Launch) (g : GT) (v0 : Option Nat) (v1 : Int32) (v2 : Int32) : CT qI l yX1_landsOf (ws_ yX1_landsOf cX1_landsOf 4 (Option.some Jvm.ClassFile.FieldType.int)) 3 g [va_rf v0, .int v1, .int v2] (fun K E h => w_X1_landsOf g v0 v1 v2 K E h) := by
  refine CT_of (lv := [(0, va_rf v0), (1, .int v1), (2, .int v2)]) (by decide +kernel) (by simp [lg_sl, cat_rf, cat_int, cat_long]) (by simp [lv_args, cat_rf, cat_int, cat_long]) (fun h0 K E p e s m args below meth c H locs cells slots ls X hxt hmn hw hR hl => ?_)
  have hx := X.hx
  have hb := X.hb
  unfold w_X1_landsOf at hw
  refine r_aload_n X dX1_landsOf_0 rfl (lv_at hl 0 rfl) ?_
  refine r_callV X hR (c_V (ci := 1) (q := (RX1, TX1, 21)) X hR hl.1 (c_X1_anew l g v0) (lw_V q455 q457 qs2 q115 q458) rfl rfl mh_X1_anew rfl (by decide) (by decide) rfl (cat4 (Nat.le_of_ble_eq_true rfl)) dX1_landsOf_1 hw) (fun _ h H locs cells slots hR hw => ?_)
  refine r_aload_n X dX1_landsOf_4 rfl (lv_at hl 0 rfl) ?_
  refine r_aload_n X dX1_landsOf_5 rfl (lv_at hl 0 rfl) ?_
  refine lv_iload_n hx hb dX1_landsOf_6 rfl (lv_at hl 1 rfl) ?_
  refine r_callI X hR (c_V (ci := 1) (q := (RX1, TX1, 21)) X hR hl.1 (c_X1_isPerson l g v0 v1) (lw_V q1165 q1167 qs33 q115 q1168) rfl rfl mh_X1_isPerson rfl (by decide) (by decide) rfl (cat4 (Nat.le_of_ble_eq_true rfl)) dX1_landsOf_7 hw) (fun x1 h H locs cells slots hR hw => ?_)
  refine lv_iload_n hx hb dX1_landsOf_10 rfl (lv_at hl 2 rfl) ?_
  refine r_callI X hR (c_V (ci := 1) (q := (RX1, TX1, 21)) X hR hl.1 (c_X1_dayWhy l g v0 x1 v2) (lw_V q1211 q1213 qs34 q115 q1214) rfl rfl mh_X1_dayWhy rfl (by decide) (by decide) rfl (cat4 (Nat.le_of_ble_eq_true rfl)) dX1_landsOf_11 hw) (fun x2 h H locs cells slots hR hw => ?_)
  refine lv_istore_n (i := 3) (lv' := [(3, .int x2), (0, va_rf v0), (1, .int v1), (2, .int v2)]) hx hb dX1_landsOf_14 rfl hl (by decide) rfl (fun ls hl => ?_)
  refine lv_iload_n hx hb dX1_landsOf_15 rfl (lv_at hl 0 rfl) ?_
  refine lv_if_eq (tgt := 27) hx hb dX1_landsOf_16 (by decide) (fun c3 => ?_) (fun c3 => ?_)
  · have hw := hw.1 c3
    refine r_aload_n X dX1_landsOf_27 rfl (lv_at hl 1 rfl) ?_
    refine lv_iload_n hx hb dX1_landsOf_28 rfl (lv_at hl 2 rfl) ?_
    refine lv_iload_n hx hb dX1_landsOf_29 rfl (lv_at hl 3 rfl) ?_
    refine r_callI X hR (c_V (ci := 1) (q := (RX1, TX1, 21)) X hR hl.1 (c_X1_landsBy l g v0 v1 v2) (lw_V q1231 q1233 qs35 q115 q1234) rfl rfl mh_X1_landsBy rfl (by decide) (by decide) rfl (cat4 (Nat.le_of_ble_eq_true rfl)) dX1_landsOf_30 hw) (fun x4 h H locs cells slots hR hw => ?_)
    exact r_iret X hR dX1_landsOf_33 hw
  · have hw := hw.2 c3
    refine r_aload_n X dX1_landsOf_19 rfl (lv_at hl 1 rfl) ?_
    refine lv_iload_n hx hb dX1_landsOf_20 rfl (lv_at hl 0 rfl) ?_
    refine r_callI X hR (c_V (ci := 1) (q := (RX1, TX1, 21)) X hR hl.1 (c_X1_no l g v0 x2) (lw_V q462 q464 qs3 q115 q465) rfl rfl mh_X1_no rfl (by decide) (by decide) rfl (cat4 (Nat.le_of_ble_eq_true rfl)) dX1_landsOf_21 hw) (fun x5 h H locs cells slots hR hw => ?_)
    refine lv_goto (tgt := 33) hx hb dX1_landsOf_24 (by decide) ?_
    exact r_iret X hR dX1_landsOf_33 hw
theorem t_X1_lapsed_J17 {p : Program} {l : Launch} {e : Env} {s : State} {m : MethodId} {args : Array Value} {below : List Frame} {meth : Method} {c : Code} {g : GT} {h0 : AH} {v0 : Option Nat} {v1 : Int32} {s0 : Int32} {s1 : Option Nat} {K : Int32 → AH → Prop} {E : Nat → AH → Prop} {h : AH} {H : Heap} {locs : List Loc} {cells slots : Nat} {ls : Array Slot} (X : Cx g h0 p s m args meth c RX1 cX1_lapsed 3 (Option.some Jvm.ClassFile.FieldType.int))  (hw : w_X1_lapsed_J17 g v0 v1 s0 s1 K E h) (hR : HS g s h H locs) (hl : lv_has ls 3 [(0, va_rf v0), (1, .int v1)]) : W p l e (RM 3 h0) s m args below meth c H locs cells slots (MQT below g (qI K) E args s h0) (F0 m 17 ls [.int s0, va_rf s1]) := by
  have hx := X.hx
  have hb := X.hb
  unfold w_X1_lapsed_J17 at hw
  refine lv_iload_n hx hb dX1_lapsed_17 rfl (lv_at hl 1 rfl) ?_
  refine r_callI X hR (c_V (ci := 1) (q := (RX1, TX1, 21)) X hR hl.1 (c_X1_dayWhy l g s1 s0 v1) (lw_V q1211 q1213 qs34 q115 q1214) rfl rfl mh_X1_dayWhy rfl (by decide) (by decide) rfl (cat4 (Nat.le_of_ble_eq_true rfl)) dX1_lapsed_18 hw) (fun x3 h H locs cells slots hR hw => ?_)
  refine lv_istore_n (i := 2) (lv' := [(2, .int x3), (0, va_rf v0), (1, .int v1)]) hx hb dX1_lapsed_21 rfl hl (by decide) rfl (fun ls hl => ?_)
  refine lv_iload_n hx hb dX1_lapsed_22 rfl (lv_at hl 0 rfl) ?_
  refine lv_if_eq (tgt := 34) hx hb dX1_lapsed_23 (by decide) (fun c4 => ?_) (fun c4 => ?_)
  · have hw := hw.1 c4
    refine r_aload_n X dX1_lapsed_34 rfl (lv_at hl 1 rfl) ?_
    refine lv_bipush (v := (-2)) hx hb dX1_lapsed_35 (by decide) ?_
    refine lv_iload_n hx hb dX1_lapsed_37 rfl (lv_at hl 2 rfl) ?_
    refine r_callI X hR (c_V (ci := 1) (q := (RX1, TX1, 21)) X hR hl.1 (c_X1_landsBy l g v0 (-2) v1) (lw_V q1231 q1233 qs35 q115 q1234) rfl rfl mh_X1_landsBy rfl (by decide) (by decide) rfl (cat4 (Nat.le_of_ble_eq_true rfl)) dX1_lapsed_38 hw) (fun x5 h H locs cells slots hR hw => ?_)
    exact r_iret X hR dX1_lapsed_41 hw
  · have hw := hw.2 c4
    refine r_aload_n X dX1_lapsed_26 rfl (lv_at hl 1 rfl) ?_
    refine lv_iload_n hx hb dX1_lapsed_27 rfl (lv_at hl 0 rfl) ?_
    refine r_callI X hR (c_V (ci := 1) (q := (RX1, TX1, 21)) X hR hl.1 (c_X1_no l g v0 x3) (lw_V q462 q464 qs3 q115 q465) rfl rfl mh_X1_no rfl (by decide) (by decide) rfl (cat4 (Nat.le_of_ble_eq_true rfl)) dX1_lapsed_28 hw) (fun x6 h H locs cells slots hR hw => ?_)
    refine lv_goto (tgt := 41) hx hb dX1_lapsed_31 (by decide) ?_
    exact r_iret X hR dX1_lapsed_41 hw
theorem c_X1_lapsed (l : Launch) (g : GT) (v0 : Option Nat) (v1 : Int32) : CT qI l yX1_lapsed (ws_ yX1_lapsed cX1_lapsed 3 (Option.some Jvm.ClassFile.FieldType.int)) 3 g [va_rf v0, .int v1] (fun K E h => w_X1_lapsed g v0 v1 K E h) := by
  refine CT_of (lv := [(0, va_rf v0), (1, .int v1)]) (by decide +kernel) (by simp [lg_sl, cat_rf, cat_int, cat_long]) (by simp [lv_args, cat_rf, cat_int, cat_long]) (fun h0 K E p e s m args below meth c H locs cells slots ls X hxt hmn hw hR hl => ?_)
  have hx := X.hx
  have hb := X.hb
  unfold w_X1_lapsed at hw
  refine r_aload_n X dX1_lapsed_0 rfl (lv_at hl 0 rfl) ?_
  refine r_callV X hR (c_V (ci := 1) (q := (RX1, TX1, 21)) X hR hl.1 (c_X1_anew l g v0) (lw_V q455 q457 qs2 q115 q458) rfl rfl mh_X1_anew rfl (by decide) (by decide) rfl (cat4 (Nat.le_of_ble_eq_true rfl)) dX1_lapsed_1 hw) (fun _ h H locs cells slots hR hw => ?_)
  refine r_aload_n X dX1_lapsed_4 rfl (lv_at hl 0 rfl) ?_
  refine r_aload_n X dX1_lapsed_5 rfl (lv_at hl 0 rfl) ?_
  refine r_gR X hR fk_X1_102 dX1_lapsed_6 hw (fun x1 hw => ?_)
  refine r_ifnull (tgt := 16) X dX1_lapsed_9 (by decide) (fun c2 => ?_) (fun c2 => ?_)
  · have hw := hw.1 c2
    refine lv_iconst (v := 0) hx hb dX1_lapsed_16 (by decide) ?_
    exact t_X1_lapsed_J17 X  hw hR (lv_sub hl [0, 1] rfl)
  · have hw := hw.2 c2
    refine lv_iconst (v := 1) hx hb dX1_lapsed_12 (by decide) ?_
    refine lv_goto (tgt := 17) hx hb dX1_lapsed_13 (by decide) ?_
    exact t_X1_lapsed_J17 X  hw hR (lv_sub hl [0, 1] rfl)
theorem t_X1_passed_J71 {p : Program} {l : Launch} {e : Env} {s : State} {m : MethodId} {args : Array Value} {below : List Frame} {meth : Method} {c : Code} {g : GT} {h0 : AH} {v0 : Option Nat} {v1 : Int32} {v4 : Int32} {s0 : Int32} {s1 : Int32} {K : Int32 → AH → Prop} {E : Nat → AH → Prop} {L44 : Int32 → Int32 → Int32 → AH → Prop} {h : AH} {H : Heap} {locs : List Loc} {cells slots : Nat} {ls : Array Slot} (X : Cx g h0 p s m args meth c RX1 cX1_passed 5 (Option.some Jvm.ClassFile.FieldType.int)) (k44 : ∀ {v2' : Int32} {v3' : Int32} {v4' : Int32} {h : AH} {H : Heap} {locs : List Loc} {cells slots : Nat} {ls : Array Slot}, L44 v2' v3' v4' h → HS g s h H locs → lv_has ls 5 [(0, va_rf v0), (1, .int v1), (2, .int (v2')), (3, .int (v3')), (4, .int (v4'))] → W p l e (RM 4 h0) s m args below meth c H locs cells slots (MQT below g (qI K) E args s h0) (F0 m 44 ls [])) (hw : w_X1_passed_J71 g v0 v1 v4 s0 s1 K E L44 h) (hR : HS g s h H locs) (hl : lv_has ls 5 [(0, va_rf v0), (1, .int v1), (4, .int v4)]) : W p l e (RM 4 h0) s m args below meth c H locs cells slots (MQT below g (qI K) E args s h0) (F0 m 71 ls [.int s0, .int s1]) := by
  have hx := X.hx
  have hb := X.hb
  unfold w_X1_passed_J71 at hw
  refine lv_iadd hx hb dX1_passed_71 ?_
  refine r_nmI hw (fun x12 hw => ?_)
  refine lv_istore_n (i := 3) (lv' := [(3, .int x12), (0, va_rf v0), (1, .int v1), (4, .int v4)]) hx hb dX1_passed_72 rfl hl (by decide) rfl (fun ls hl => ?_)
  refine r_aload_n X dX1_passed_73 rfl (lv_at hl 1 rfl) ?_
  refine r_gR X hR fk_X1_46 dX1_passed_74 hw (fun x13 hw => ?_)
  refine lv_iload_n hx hb dX1_passed_77 rfl (lv_at hl 2 rfl) ?_
  refine lv_iload hx hb dX1_passed_78 (lv_at hl 3 rfl) ?_
  refine r_callI X hR (c_V (ci := 5) (q := (RX5, TX5, 3)) X hR hl.1 (c_X5_title l g x13 v1 v4) (lw_V q1223 q1224 q1225 q122 q1226) rfl rfl mh_X5_title rfl (by decide) (by decide) rfl (cat4 (Nat.le_of_ble_eq_true rfl)) dX1_passed_80 hw) (fun x14 h H locs cells slots hR hw => ?_)
  refine lv_istore_n (i := 2) (lv' := [(2, .int x14), (3, .int x12), (0, va_rf v0), (1, .int v1), (4, .int v4)]) hx hb dX1_passed_83 rfl hl (by decide) rfl (fun ls hl => ?_)
  refine r_iinc X (k := 4) (v := (v4 + 1)) (lv' := fun x15 => [(4, .int x15), (2, .int x14), (3, .int x12), (0, va_rf v0), (1, .int v1)]) dX1_passed_84 hl rfl rfl (by decide) hw (fun _ => rfl) (fun x15 hw ls hl => ?_)
  refine lv_goto (tgt := 44) hx hb dX1_passed_87 (by decide) ?_
  exact k44 hw hR (lv_sub hl [3, 4, 1, 2, 0] rfl)
theorem t_X1_passed_L44 {p : Program} {l : Launch} {e : Env} {s : State} {m : MethodId} {args : Array Value} {below : List Frame} {meth : Method} {c : Code} {g : GT} {h0 : AH} {v0 : Option Nat} {v1 : Int32} {K : Int32 → AH → Prop} {E : Nat → AH → Prop} (X : Cx g h0 p s m args meth c RX1 cX1_passed 5 (Option.some Jvm.ClassFile.FieldType.int))  : ∀ (n : Nat) {v2 : Int32} {v3 : Int32} {v4 : Int32} {h : AH} {H : Heap} {locs : List Loc} {cells slots : Nat} {ls : Array Slot}, LpN3 (w_X1_passed_L44 g v0 v1 K E) n v2 v3 v4 h → HS g s h H locs → lv_has ls 5 [(0, va_rf v0), (1, .int v1), (2, .int v2), (3, .int v3), (4, .int v4)] → W p l e (RM 4 h0) s m args below meth c H locs cells slots (MQT below g (qI K) E args s h0) (F0 m 44 ls []) := by
  have hx := X.hx
  have hb := X.hb
  intro n
  induction n with
  | zero =>
    intro v2 v3 v4 h H locs cells slots ls hw
    exact hw.elim
  | succ n k44 =>
    intro v2 v3 v4 h H locs cells slots ls hw hR hl
    have hw : w_X1_passed_L44 g v0 v1 K E (LpN3 (w_X1_passed_L44 g v0 v1 K E) n) v2 v3 v4 h := hw
    unfold w_X1_passed_L44 at hw
    refine lv_iload hx hb dX1_passed_44 (lv_at hl 4 rfl) ?_
    refine lv_bipush (v := 40) hx hb dX1_passed_46 (by decide) ?_
    refine lv_icmp_gt (tgt := 90) hx hb dX1_passed_48 (by decide) (fun c8 => ?_) (fun c8 => ?_)
    · have hw := hw.1 c8
      refine lv_iload_n hx hb dX1_passed_90 rfl (lv_at hl 3 rfl) ?_
      exact r_iret X hR dX1_passed_91 hw
    · have hw := hw.2 c8
      refine lv_iload_n hx hb dX1_passed_51 rfl (lv_at hl 3 rfl) ?_
      refine r_aload_n X dX1_passed_52 rfl (lv_at hl 0 rfl) ?_
      refine r_gR X hR fk_X1_46 dX1_passed_53 hw (fun x9 hw => ?_)
      refine lv_iload_n hx hb dX1_passed_56 rfl (lv_at hl 1 rfl) ?_
      refine lv_iload hx hb dX1_passed_57 (lv_at hl 4 rfl) ?_
      refine r_callI X hR (c_V (ci := 5) (q := (RX5, TX5, 3)) X hR hl.1 (c_X5_title l g x9 v1 v4) (lw_V q1223 q1224 q1225 q122 q1226) rfl rfl mh_X5_title rfl (by decide) (by decide) rfl (cat4 (Nat.le_of_ble_eq_true rfl)) dX1_passed_59 hw) (fun x10 h H locs cells slots hR hw => ?_)
      refine lv_iload_n hx hb dX1_passed_62 rfl (lv_at hl 2 rfl) ?_
      refine lv_icmp_ne (tgt := 70) hx hb dX1_passed_63 (by decide) (fun c11 => ?_) (fun c11 => ?_)
      · have hw := hw.1 c11
        refine lv_iconst (v := 1) hx hb dX1_passed_70 (by decide) ?_
        exact t_X1_passed_J71 X k44 hw hR (lv_sub hl [0, 1, 4] rfl)
      · have hw := hw.2 c11
        refine lv_iconst (v := 0) hx hb dX1_passed_66 (by decide) ?_
        refine lv_goto (tgt := 71) hx hb dX1_passed_67 (by decide) ?_
        exact t_X1_passed_J71 X k44 hw hR (lv_sub hl [0, 1, 4] rfl)
theorem c_X1_passed (l : Launch) (g : GT) (v0 : Option Nat) (v1 : Int32) : CT qI l yX1_passed (ws_ yX1_passed cX1_passed 5 (Option.some Jvm.ClassFile.FieldType.int)) 4 g [va_rf v0, .int v1] (fun K E h => w_X1_passed g v0 v1 K E h) := by
  refine CT_of (lv := [(0, va_rf v0), (1, .int v1)]) (by decide +kernel) (by simp [lg_sl, cat_rf, cat_int, cat_long]) (by simp [lv_args, cat_rf, cat_int, cat_long]) (fun h0 K E p e s m args below meth c H locs cells slots ls X hxt hmn hw hR hl => ?_)
  have hx := X.hx
  have hb := X.hb
  unfold w_X1_passed at hw
  refine r_aload_n X dX1_passed_0 rfl (lv_at hl 0 rfl) ?_
  refine r_callV X hR (c_V (ci := 1) (q := (RX1, TX1, 21)) X hR hl.1 (c_X1_anew l g v0) (lw_V q455 q457 qs2 q115 q458) rfl rfl mh_X1_anew rfl (by decide) (by decide) rfl (cat4 (Nat.le_of_ble_eq_true rfl)) dX1_passed_1 hw) (fun _ h H locs cells slots hR hw => ?_)
  refine r_aload_n X dX1_passed_4 rfl (lv_at hl 0 rfl) ?_
  refine lv_iload_n hx hb dX1_passed_5 rfl (lv_at hl 1 rfl) ?_
  refine r_callI X hR (c_V (ci := 1) (q := (RX1, TX1, 21)) X hR hl.1 (c_X1_isUmbrella l g v0 v1) (lw_V q1142 q1144 qs32 q115 q1145) rfl rfl mh_X1_isUmbrella rfl (by decide) (by decide) rfl (cat4 (Nat.le_of_ble_eq_true rfl)) dX1_passed_6 hw) (fun x1 h H locs cells slots hR hw => ?_)
  refine lv_if_ne (tgt := 18) hx hb dX1_passed_9 (by decide) (fun c2 => ?_) (fun c2 => ?_)
  · have hw := hw.1 c2
    refine r_aload_n X dX1_passed_18 rfl (lv_at hl 0 rfl) ?_
    refine r_gR X hR fk_X1_40 dX1_passed_19 hw (fun x3 hw => ?_)
    refine r_aload_n X dX1_passed_22 rfl (lv_at hl 0 rfl) ?_
    refine r_gR X hR fk_X1_102 dX1_passed_23 hw (fun x4 hw => ?_)
    refine r_callV X hR (c_V (ci := 4) (q := (RX4, TX4, 4)) X hR hl.1 (c_X4_begin l g x3 x4) (lw_V q1012 q1013 q1014 q121 q1015) rfl rfl mh_X4_begin rfl (by decide) (by decide) rfl (cat4 (Nat.le_of_ble_eq_true rfl)) dX1_passed_26 hw) (fun _ h H locs cells slots hR hw => ?_)
    refine r_aload_n X dX1_passed_29 rfl (lv_at hl 0 rfl) ?_
    refine r_gR X hR fk_X1_40 dX1_passed_30 hw (fun x5 hw => ?_)
    refine r_gR X hR fk_X1_158 dX1_passed_33 hw (fun x6 hw => ?_)
    refine lv_iload_n hx hb dX1_passed_36 rfl (lv_at hl 1 rfl) ?_
    refine r_iald X hR dX1_passed_37 hw (fun x7 hw => ?_)
    refine lv_istore_n (i := 2) (lv' := [(2, .int x7), (0, va_rf v0), (1, .int v1)]) hx hb dX1_passed_38 rfl hl (by decide) rfl (fun ls hl => ?_)
    refine lv_iconst (v := 0) hx hb dX1_passed_39 (by decide) ?_
    refine lv_istore_n (i := 3) (lv' := [(3, .int 0), (2, .int x7), (0, va_rf v0), (1, .int v1)]) hx hb dX1_passed_40 rfl hl (by decide) rfl (fun ls hl => ?_)
    refine lv_iconst (v := 0) hx hb dX1_passed_41 (by decide) ?_
    refine lv_istore (i := 4) (lv' := [(4, .int 0), (3, .int 0), (2, .int x7), (0, va_rf v0), (1, .int v1)]) hx hb dX1_passed_42 hl (by decide) rfl (fun ls hl => ?_)
    obtain ⟨n, hw⟩ := hw
    exact t_X1_passed_L44 X  n hw hR (lv_sub hl [3, 4, 2, 1, 0] rfl)
  · have hw := hw.2 c2
    refine r_aload_n X dX1_passed_12 rfl (lv_at hl 0 rfl) ?_
    refine lv_iconst (v := 1) hx hb dX1_passed_13 (by decide) ?_
    refine r_callI X hR (c_V (ci := 1) (q := (RX1, TX1, 21)) X hR hl.1 (c_X1_no l g v0 1) (lw_V q462 q464 qs3 q115 q465) rfl rfl mh_X1_no rfl (by decide) (by decide) rfl (cat4 (Nat.le_of_ble_eq_true rfl)) dX1_passed_14 hw) (fun x16 h H locs cells slots hR hw => ?_)
    exact r_iret X hR dX1_passed_17 hw
theorem t_X5_wrongly_L2 {p : Program} {l : Launch} {e : Env} {s : State} {m : MethodId} {args : Array Value} {below : List Frame} {meth : Method} {c : Code} {g : GT} {h0 : AH} {v0 : Option Nat} {v1 : Option Nat} {K : Int32 → AH → Prop} {E : Nat → AH → Prop} (X : Cx g h0 p s m args meth c RX5 cX5_wrongly 3 (Option.some Jvm.ClassFile.FieldType.int))  : ∀ (n : Nat) {v2 : Int32} {h : AH} {H : Heap} {locs : List Loc} {cells slots : Nat} {ls : Array Slot}, LpN1 (w_X5_wrongly_L2 g v0 v1 K E) n v2 h → HS g s h H locs → lv_has ls 3 [(0, va_rf v0), (1, va_rf v1), (2, .int v2)] → W p l e (RM 2 h0) s m args below meth c H locs cells slots (MQT below g (qI K) E args s h0) (F0 m 2 ls []) := by
  have hx := X.hx
  have hb := X.hb
  intro n
  induction n with
  | zero =>
    intro v2 h H locs cells slots ls hw
    exact hw.elim
  | succ n k2 =>
    intro v2 h H locs cells slots ls hw hR hl
    have hw : w_X5_wrongly_L2 g v0 v1 K E (LpN1 (w_X5_wrongly_L2 g v0 v1 K E) n) v2 h := hw
    unfold w_X5_wrongly_L2 at hw
    refine lv_iload_n hx hb dX5_wrongly_2 rfl (lv_at hl 2 rfl) ?_
    refine r_aload_n X dX5_wrongly_3 rfl (lv_at hl 1 rfl) ?_
    refine r_gI X hR fk_X5_68 dX5_wrongly_4 hw (fun x1 hw => ?_)
    refine lv_icmp_ge (tgt := 52) hx hb dX5_wrongly_7 (by decide) (fun c2 => ?_) (fun c2 => ?_)
    · have hw := hw.1 c2
      refine lv_bipush (v := (-2)) hx hb dX5_wrongly_52 (by decide) ?_
      exact r_iret X hR dX5_wrongly_54 hw
    · have hw := hw.2 c2
      refine r_aload_n X dX5_wrongly_10 rfl (lv_at hl 0 rfl) ?_
      refine r_aload_n X dX5_wrongly_11 rfl (lv_at hl 1 rfl) ?_
      refine r_gR X hR fk_X5_71 dX5_wrongly_12 hw (fun x3 hw => ?_)
      refine lv_iload_n hx hb dX5_wrongly_15 rfl (lv_at hl 2 rfl) ?_
      refine r_aald X hR (t := 8) (by decide) (by decide) dX5_wrongly_16 hw (fun x4 hw => ?_)
      refine r_gI X hR fk_X5_75 dX5_wrongly_17 hw (fun x5 hw => ?_)
      refine r_aload_n X dX5_wrongly_20 rfl (lv_at hl 1 rfl) ?_
      refine r_gR X hR fk_X5_71 dX5_wrongly_21 hw (fun x6 hw => ?_)
      refine lv_iload_n hx hb dX5_wrongly_24 rfl (lv_at hl 2 rfl) ?_
      refine r_aald X hR (t := 8) (by decide) (by decide) dX5_wrongly_25 hw (fun x7 hw => ?_)
      refine r_gI X hR fk_X5_80 dX5_wrongly_26 hw (fun x8 hw => ?_)
      refine r_callI X hR (c_V (ci := 5) (q := (RX5, TX5, 3)) X hR hl.1 (c_X5_title l g v0 x5 x8) (lw_V q1251 q1224 q1225 q122 q1226) rfl rfl mh_X5_title rfl (by decide) (by decide) rfl (cat4 (Nat.le_of_ble_eq_true rfl)) dX5_wrongly_29 hw) (fun x9 h H locs cells slots hR hw => ?_)
      refine r_aload_n X dX5_wrongly_32 rfl (lv_at hl 1 rfl) ?_
      refine r_gR X hR fk_X5_71 dX5_wrongly_33 hw (fun x10 hw => ?_)
      refine lv_iload_n hx hb dX5_wrongly_36 rfl (lv_at hl 2 rfl) ?_
      refine r_aald X hR (t := 8) (by decide) (by decide) dX5_wrongly_37 hw (fun x11 hw => ?_)
      refine r_gI X hR fk_X5_85 dX5_wrongly_38 hw (fun x12 hw => ?_)
      refine lv_icmp_eq (tgt := 46) hx hb dX5_wrongly_41 (by decide) (fun c13 => ?_) (fun c13 => ?_)
      · have hw := hw.1 c13
        refine r_iinc X (k := 2) (v := (v2 + 1)) (lv' := fun x14 => [(2, .int x14), (0, va_rf v0), (1, va_rf v1)]) dX5_wrongly_46 hl rfl rfl (by decide) hw (fun _ => by simp [cat_rf, cat_int, cat_long]) (fun x14 hw ls hl => ?_)
        refine lv_goto (tgt := 2) hx hb dX5_wrongly_49 (by decide) ?_
        exact k2 hw hR (lv_sub hl [1, 2, 0] rfl)
      · have hw := hw.2 c13
        refine lv_iload_n hx hb dX5_wrongly_44 rfl (lv_at hl 2 rfl) ?_
        exact r_iret X hR dX5_wrongly_45 hw
theorem c_X5_wrongly (l : Launch) (g : GT) (v0 : Option Nat) (v1 : Option Nat) : CT qI l yX5_wrongly (ws_ yX5_wrongly cX5_wrongly 3 (Option.some Jvm.ClassFile.FieldType.int)) 2 g [va_rf v0, va_rf v1] (fun K E h => w_X5_wrongly g v0 v1 K E h) := by
  refine CT_of (lv := [(0, va_rf v0), (1, va_rf v1)]) (by decide +kernel) (by simp [lg_sl, cat_rf, cat_int, cat_long]) (by simp [lv_args, cat_rf, cat_int, cat_long]) (fun h0 K E p e s m args below meth c H locs cells slots ls X hxt hmn hw hR hl => ?_)
  have hx := X.hx
  have hb := X.hb
  unfold w_X5_wrongly at hw
  refine lv_iconst (v := 0) hx hb dX5_wrongly_0 (by decide) ?_
  refine lv_istore_n (i := 2) (lv' := [(2, .int 0), (0, va_rf v0), (1, va_rf v1)]) hx hb dX5_wrongly_1 rfl hl (by decide) (by simp [cat_rf, cat_int, cat_long]) (fun ls hl => ?_)
  obtain ⟨n, hw⟩ := hw
  exact t_X5_wrongly_L2 X  n hw hR (lv_sub hl [1, 2, 0] rfl)
theorem c_X1_judge (l : Launch) (g : GT) (v0 : Option Nat) : CT qI l yX1_judge (ws_ yX1_judge cX1_judge 1 (Option.some Jvm.ClassFile.FieldType.int)) 3 g [va_rf v0] (fun K E h => w_X1_judge g v0 K E h) := by
  refine CT_of (lv := [(0, va_rf v0)]) (by decide +kernel) (by simp [lg_sl, cat_rf, cat_int, cat_long]) (by simp [lv_args, cat_rf, cat_int, cat_long]) (fun h0 K E p e s m args below meth c H locs cells slots ls X hxt hmn hw hR hl => ?_)
  have hx := X.hx
  have hb := X.hb
  unfold w_X1_judge at hw
  refine r_aload_n X dX1_judge_0 rfl (lv_at hl 0 rfl) ?_
  refine r_callV X hR (c_V (ci := 1) (q := (RX1, TX1, 21)) X hR hl.1 (c_X1_anew l g v0) (lw_V q455 q457 qs2 q115 q458) rfl rfl mh_X1_anew rfl (by decide) (by decide) rfl (cat4 (Nat.le_of_ble_eq_true rfl)) dX1_judge_1 hw) (fun _ h H locs cells slots hR hw => ?_)
  refine r_aload_n X dX1_judge_4 rfl (lv_at hl 0 rfl) ?_
  refine r_gR X hR fk_X1_102 dX1_judge_5 hw (fun x1 hw => ?_)
  refine r_ifnonnull (tgt := 19) X dX1_judge_8 (by decide) (fun c2 => ?_) (fun c2 => ?_)
  · have hw := hw.1 c2
    refine r_aload_n X dX1_judge_19 rfl (lv_at hl 0 rfl) ?_
    refine r_gR X hR fk_X1_46 dX1_judge_20 hw (fun x3 hw => ?_)
    refine r_aload_n X dX1_judge_23 rfl (lv_at hl 0 rfl) ?_
    refine r_gR X hR fk_X1_102 dX1_judge_24 hw (fun x4 hw => ?_)
    refine r_callI X hR (c_V (ci := 5) (q := (RX5, TX5, 3)) X hR hl.1 (c_X5_wrongly l g x3 x4) (lw_V q1247 q1248 q1249 q122 q1250) rfl rfl mh_X5_wrongly rfl (by decide) (by decide) rfl (cat4 (Nat.le_of_ble_eq_true rfl)) dX1_judge_27 hw) (fun x5 h H locs cells slots hR hw => ?_)
    exact r_iret X hR dX1_judge_30 hw
  · have hw := hw.2 c2
    refine r_aload_n X dX1_judge_11 rfl (lv_at hl 0 rfl) ?_
    refine lv_iconst (v := 1) hx hb dX1_judge_12 (by decide) ?_
    refine r_callI X hR (c_V (ci := 1) (q := (RX1, TX1, 21)) X hR hl.1 (c_X1_no l g v0 1) (lw_V q462 q464 qs3 q115 q465) rfl rfl mh_X1_no rfl (by decide) (by decide) rfl (cat4 (Nat.le_of_ble_eq_true rfl)) dX1_judge_13 hw) (fun x6 h H locs cells slots hR hw => ?_)
    refine lv_goto (tgt := 30) hx hb dX1_judge_16 (by decide) ?_
    exact r_iret X hR dX1_judge_30 hw
theorem t_X1_way_J13 {p : Program} {l : Launch} {e : Env} {s : State} {m : MethodId} {args : Array Value} {below : List Frame} {meth : Method} {c : Code} {g : GT} {h0 : AH} {v0 : Option Nat} {K : Unit → AH → Prop} {E : Nat → AH → Prop} {h : AH} {H : Heap} {locs : List Loc} {cells slots : Nat} {ls : Array Slot} (X : Cx g h0 p s m args meth c RX1 cX1_way 3 none)  (hw : w_X1_way_J13 g v0 K E h) (hR : HS g s h H locs) (hl : lv_has ls 3 [(0, va_rf v0)]) : W p l e (RM 1 h0) s m args below meth c H locs cells slots (MQT below g (qV K) E args s h0) (F0 m 13 ls []) := by
  have hx := X.hx
  have hb := X.hb
  unfold w_X1_way_J13 at hw
  refine r_aload_n X dX1_way_13 rfl (lv_at hl 0 rfl) ?_
  refine lv_dup hx hb dX1_way_14 (cat_rf _) ?_
  refine r_gI X hR fk_X1_203 dX1_way_15 hw (fun x3 hw => ?_)
  refine lv_iconst (v := 1) hx hb dX1_way_18 (by decide) ?_
  refine lv_iadd hx hb dX1_way_19 ?_
  refine r_put X hR fp_X1_203 (Or.inl fn_X1_203) (nf_int _) dX1_way_20 hw (fun H locs h hR hw => ?_)
  exact r_vret X hR rfl dX1_way_23 hw
theorem c_X1_way (l : Launch) (g : GT) (v0 : Option Nat) (v1 : Int32) (v2 : Int32) : CT qV l yX1_way (ws_ yX1_way cX1_way 3 none) 1 g [va_rf v0, .int v1, .int v2] (fun K E h => w_X1_way g v0 v1 v2 K E h) := by
  refine CT_of (lv := [(0, va_rf v0), (1, .int v1), (2, .int v2)]) (by decide +kernel) (by simp [lg_sl, cat_rf, cat_int, cat_long]) (by simp [lv_args, cat_rf, cat_int, cat_long]) (fun h0 K E p e s m args below meth c H locs cells slots ls X hxt hmn hw hR hl => ?_)
  have hx := X.hx
  have hb := X.hb
  unfold w_X1_way at hw
  refine r_aload_n X dX1_way_0 rfl (lv_at hl 0 rfl) ?_
  refine r_gI X hR fk_X1_203 dX1_way_1 hw (fun x1 hw => ?_)
  refine lv_iload_n hx hb dX1_way_4 rfl (lv_at hl 2 rfl) ?_
  refine lv_icmp_ne (tgt := 13) hx hb dX1_way_5 (by decide) (fun c2 => ?_) (fun c2 => ?_)
  · have hw := hw.1 c2
    exact t_X1_way_J13 X  hw hR (lv_sub hl [0] rfl)
  · have hw := hw.2 c2
    refine r_aload_n X dX1_way_8 rfl (lv_at hl 0 rfl) ?_
    refine lv_iload_n hx hb dX1_way_9 rfl (lv_at hl 1 rfl) ?_
    refine r_put X hR fp_X1_206 (Or.inl fn_X1_206) (nf_int _) dX1_way_10 hw (fun H locs h hR hw => ?_)
    exact t_X1_way_J13 X  hw hR (lv_sub hl [0] rfl)
